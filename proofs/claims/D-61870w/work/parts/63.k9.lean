/-! the kernel's members: drop -/
section KD
variable {G : gG} {n m n' m' fr : Nat} {A A' : kA} {X X' : kX} {σ σ' : gS} {μ μ' : mS} {Q : gO → gS → Prop}
theorem ksub (h : kRep G n A X σ μ) (hs : ∀ k i, k < 7 → A' (20 + k) i = 1 → A (20 + k) i = 1 ∧ A' k i = A k i ∧ ∀ j, kcell G A' μ' k i j = kcell G A μ k i j) (h30 : A' 30 = A 30) (him : kimm G A' σ μ') (hmc : ∀ i, A' 10 i ≤ n' ∧ A' 15 i ≤ n' ∧ A' 16 i ≤ n' ∧ A' 17 i ≤ n') : kRep G n' A' X σ μ' :=
  kmv h (fun k i => (k, i)) (fun _ _ _ => none) h.1 (fun k i j e h1 h2 => (h.2.1 k i j e h1 h2).1) h30 (fun k i g1 g2 => ⟨g1, (hs k i g1 g2).1, (hs k i g1 g2).2.1⟩) (fun k i k' i' _ _ _ _ g => ⟨congrArg Prod.fst g, congrArg Prod.snd g⟩) (fun k i j e g1 g2 g3 => ⟨e, by rw [← (hs k i g1 g2).2.2 j]; exact g3, rfl⟩) h.2.2.2.2.2 him hmc
def aad (A : kA) (p d : Nat) : kA := fun k j => if 4 * p ≤ j ∧ j < 4 * p + d then (if k = 4 then A 5 j else if k = 24 then A 25 j else if k = 25 then 0 else A k j) else A k j
theorem aad_s {p d : Nat} : aback (aad A p d) (4 * p + d) = aad A p (d + 1) := by
  funext k j; simp only [aback, aad]; grind
theorem aad_0 {p : Nat} : aad A p 0 = A := by
  funext k j; simp only [aad]; grind
theorem aad_o {p d k : Nat} (h : ¬ (k = 4 ∨ k = 24 ∨ k = 25)) : aad A p d k = A k := by funext b; simp only [aad]; grind
theorem aad_5 {p d j : Nat} : aad A p d 5 j = A 5 j := by simp only [aad]; grind
/-- the state while a transaction's descriptors are put back -/
def mbk (p d : Nat) (μ : mS) : mS := mup (mabortk p d μ) 11 p 0
theorem mbk_s {p d : Nat} (hd : d < 4) : mup (mup (mbk p d μ) 18 (4 * p + d) (mbk p d μ 20 (4 * p + d))) 19 (4 * p + d) (mbk p d μ 21 (4 * p + d)) = mbk p (d + 1) μ := by
  funext a j; simp only [mbk, mup, mabortk]; grind (splits := 30)
theorem mup_id {k j : Nat} {v : Int} (h : μ k j = v) : mup μ k j v = μ := by
  funext a b; simp only [mup]; grind
def adead (A : kA) (p : Nat) : kA := fun k j => if k = 22 ∧ j = p then 0 else if k = 23 ∧ 15 + 15 * p ≤ j ∧ j < 30 + 15 * p then 0 else if k = 25 ∧ j / 4 = p then 0 else if k = 19 ∧ j = p then 1 else A k j
theorem kr_dead (h : kRep G n A X σ μ) {p : Nat} (hd : μ 11 p = 0) : kRep G n (adead A p) X σ (mdrop p μ) := by
  have o : ∀ k, ¬ (k = 22 ∨ k = 23 ∨ k = 25 ∨ k = 19) → adead A p k = A k := fun k hk => by funext b; simp only [adead]; grind
  refine ksub h (fun k i h1 h2 => ?_) (o _ (by omega)) ?_ ?_
  · have e1 : A (20 + k) i = 1 := by simp only [adead] at h2; grind
    refine ⟨e1, by rw [o k (by omega)], fun j => ?_⟩
    rcases k with _ | _ | _ | _ | _ | _ | _ | k
    · rcases i with _ | i
      · rcases j with _ | _ | _ | _ | j <;> rfl
      · rfl
    · rcases j with _ | _ | _ | _ | j
      · simp only [kcell, kc1, o 1 (by omega), o 2 (by omega), o 9 (by omega), mdrop]; grind
      · rfl
      · rfl
      · rfl
      · rfl
    · have : i ≠ p := by intro e; subst e; simp [adead] at h2
      rcases j with _ | _ | _ | _ | _ | _ | _ | j
      · simp only [kcell, kc2, o 1 (by omega), o 2 (by omega), adead]; grind
      · refine congrArg (fun f => some (Sum.inr (4, 15, Sum.inr (Sum.inl f)))) (funext fun s => ?_)
        simp only [o 3 (by omega), mdrop]; grind
      · refine congrArg (fun f => some (Sum.inr (1, 15, Sum.inl f))) (funext fun s => ?_)
        simp only [mdrop]; grind
      · refine congrArg (fun f => some (Sum.inr (1, 15, Sum.inl f))) (funext fun s => ?_)
        simp only [mdrop]; grind
      · simp only [kcell, kc2, o 2 (by omega), o 16 (by omega), mdrop]; grind
      · refine congrArg (fun f => some (Sum.inr (3, 4, Sum.inr (Sum.inl f)))) (funext fun s => ?_)
        simp only [o 14 (by omega), mdrop]; grind
      · rfl
      · rfl
    · simp only [kcell]; unfold kslot kcF kcL; rw [o 3 (by omega), o 12 (by omega), o 17 (by omega)]; rfl
    · rfl
    · rfl
    · rcases i with _ | i
      · rcases j with _ | j <;> rfl
      · rfl
    · omega
  · obtain ⟨a, b, c⟩ := h.2.2.2.1
    refine ⟨fun s k h1 h2 => ?_, fun q k h1 h2 => ?_, fun q k h1 h2 => ?_⟩
    · rw [o 12 (by omega)]
      exact a s k (by simp only [adead] at h1; grind) h2
    · rw [o 13 (by omega)]
      exact b q k (by simp only [adead] at h1; grind) h2
    · rw [o 14 (by omega)]
      have : q ≠ p := by intro e; subst e; simp [adead] at h1
      refine c q k (by simp only [adead] at h1; grind) ?_
      simp only [mdrop] at h2; grind
  · intro i
    rw [o 10 (by omega), o 15 (by omega), o 16 (by omega), o 17 (by omega)]
    exact h.2.2.2.2.1 i
theorem mbk_d {p : Nat} : mdrop p (mbk p 4 μ) = mabort p μ := by
  funext a j; simp only [mabort, mbk, mup, mdrop]; grind (splits := 30)
theorem kCon_drop {A1 : kA} {p : Nat} (hC : kCon A μ) (hp : p < 6) (ht : μ 9 p = 1) (hA9 : A1 9 p = 0) (hA : ∀ k, ¬ (k = 10 ∨ k = 11 ∨ k = 18 ∨ k = 9) → A1 k = A k) (hA9b : ∀ q, q ≠ p → A1 9 q = A 9 q) (hT : kTl A1 (fun q => q ≠ p ∧ 0 < μ 11 q) (μ 12)) : kCon (adead (aad A1 p 4) p) (mabort p μ) := by
  obtain ⟨c1, c2, c3, c4, c5, c6⟩ := hC
  have r20 : ∀ j, adead (aad A1 p 4) p 20 j = A 20 j := fun j => by rw [← hA 20 (by omega)]; simp only [adead, aad]; grind
  have r21 : ∀ j, adead (aad A1 p 4) p 21 j = A 21 j := fun j => by rw [← hA 21 (by omega)]; simp only [adead, aad]; grind
  have r22 : ∀ j, adead (aad A1 p 4) p 22 j = if j = p then 0 else A 22 j := fun j => by rw [← hA 22 (by omega)]; simp only [adead, aad]; grind
  have r23 : ∀ j, adead (aad A1 p 4) p 23 j = if 15 + 15 * p ≤ j ∧ j < 30 + 15 * p then 0 else A 23 j := fun j => by rw [← hA 23 (by omega)]; simp only [adead, aad]; grind
  have r24 : ∀ j, adead (aad A1 p 4) p 24 j = if j / 4 = p then A 25 j else A 24 j := fun j => by rw [← hA 24 (by omega), ← hA 25 (by omega)]; simp only [adead, aad]; grind
  have r25 : ∀ j, adead (aad A1 p 4) p 25 j = if j / 4 = p then 0 else A 25 j := fun j => by rw [← hA 25 (by omega)]; simp only [adead, aad]; grind
  have r9 : ∀ j, adead (aad A1 p 4) p 9 j = A1 9 j := fun j => by simp only [adead, aad]; grind
  have r19 : ∀ j, adead (aad A1 p 4) p 19 j = if j = p then 1 else A 19 j := fun j => by rw [← hA 19 (by omega)]; simp only [adead, aad]; grind
  have r11 : ∀ j, adead (aad A1 p 4) p 11 j = A1 11 j := fun j => by simp only [adead, aad]; grind
  have r18 : ∀ j, adead (aad A1 p 4) p 18 j = A1 18 j := fun j => by simp only [adead, aad]; grind
  have r26 : ∀ j, adead (aad A1 p 4) p 26 j = A1 26 j := fun j => by simp only [adead, aad]; grind
  have v : ∀ a j, mabort p μ a j = if (a = 5 ∨ a = 6) ∧ 15 * p ≤ j ∧ j < 15 * p + 15 then 0 else if (a = 9 ∨ a = 11 ∨ a = 17) ∧ j = p then 0 else mabortk p 4 μ a j := fun a j => rfl
  have v8 : ∀ j, mabort p μ 8 j = μ 8 j := fun j => by rw [v]; simp [mabortk]
  have v0 : ∀ j, mabort p μ 0 j = μ 0 j := fun j => by rw [v]; simp [mabortk]
  have v9 : ∀ j, mabort p μ 9 j = if j = p then 0 else μ 9 j := fun j => by rw [v]; simp [mabortk]
  have v11 : ∀ j, mabort p μ 11 j = if j = p then 0 else μ 11 j := fun j => by rw [v]; simp [mabortk]
  have v12 : mabort p μ 12 = μ 12 := by funext j; rw [v]; simp [mabortk]
  have v5 : ∀ j, mabort p μ 5 j = if 15 * p ≤ j ∧ j < 15 * p + 15 then 0 else μ 5 j := fun j => by rw [v]; simp [mabortk]
  have v6 : ∀ j, mabort p μ 6 j = if 15 * p ≤ j ∧ j < 15 * p + 15 then 0 else μ 6 j := fun j => by rw [v]; simp [mabortk]
  have v10 : ∀ j, mabort p μ 10 j = μ 10 j := fun j => by rw [v]; simp [mabortk]
  have v18 : ∀ j, mabort p μ 18 j = if j / 4 = p then μ 20 j else μ 18 j := fun j => by rw [v]; simp only [mabortk]; grind
  have v20 : ∀ j, mabort p μ 20 j = μ 20 j := fun j => by rw [v]; simp [mabortk]
  have d5 := (c2 p hp).2.2.2.2.1 ht
  refine ⟨by rw [r20]; exact c1, fun q hq => ?_, fun s hs => ?_, fun x hx => ?_, ?_, fun j => ?_⟩
  · have := c2 q hq
    rw [r21, r22, r9, r19, v8, v9, v11]
    by_cases e : q = p
    · subst e
      rw [if_pos rfl, if_pos rfl, if_pos rfl, if_pos rfl, hA9]
      simp [this.1]
    · rw [if_neg e, if_neg e, if_neg e, if_neg e, hA9b q e]
      exact this
  · have := c3 s hs
    rw [r23, v0, v9, v5]
    by_cases e : 15 + 15 * p ≤ s ∧ s < 30 + 15 * p
    · rw [if_pos e, if_pos (by omega)]
      simp
      omega
    · rw [if_neg e]
      by_cases e2 : 15 ≤ s
      · rw [if_neg (by omega), if_neg (by omega)]; exact this
      · constructor
        · intro h; exact ⟨(this.mp h).1, fun q => absurd q e2⟩
        · intro h; exact this.mpr ⟨h.1, fun q => absurd q e2⟩
  · have := c4 x hx
    rw [r24, r25, v8, v9, v18, v20]
    by_cases e : x / 4 = p
    · rw [if_pos e, if_pos e, if_pos e, if_pos e, e]
      rw [e, ht] at this
      simp [d5, this.2]
    · rw [if_neg e, if_neg e, if_neg e, if_neg e]
      exact this
  · obtain ⟨t1, t2, t3, t4, t5⟩ := hT
    rw [r18, r26, v12]
    refine ⟨t1, t2, fun k hk => ?_, fun q hq h => ?_, fun k k' h1 h2 => ?_⟩
    · have := t3 k hk
      rw [r11, v11, if_neg this.2.1]
      exact ⟨this.1, this.2.2⟩
    · rw [v11] at h
      have e : q ≠ p := by intro e; rw [if_pos e] at h; omega
      rw [if_neg e] at h
      obtain ⟨k, h1, h2⟩ := t4 q hq ⟨e, h⟩
      exact ⟨k, h1, by rw [r11]; exact h2⟩
    · rw [r11, r11]; exact t5 k k' h1 h2
  · have := c6 j
    rw [v5, v6, v8, v9, v10]
    refine ⟨?_, ?_, this.2.2.1, ?_, this.2.2.2.2⟩ <;> split <;> first | omega | (first | exact this.1 | exact this.2.1 | exact this.2.2.2.1)
theorem sX1_drop (hG : gGood G) {p : Nat} (hS : kSt G n m A X σ μ) (hp : p < 6) (ht : μ 9 p = 1) (hN : n ≤ 1000000) (hc : 0 ≤ μ 22 3 ∧ μ 22 3 ≤ 1000000)
    (hQ : ∀ A' σ', kSt G (n + 1) m A' X σ' (mabort p μ) → (∀ k, k = 0 ∨ k = 1 ∨ k = 2 ∨ k = 3 ∨ k = 6 → A' k = A k) → (∀ x, x / 4 ≠ p → A' 4 x = A 4 x) → σ'.1 (A 2 p) = σ.1 (A 2 p) → Q (.inl none) σ') : bx 0 (gOKb G mX1_drop (fr + 5) [vr (A 0 0), vr (A 2 p)] σ Q) := by
  replace hQ := bx_in hQ
  have hh0 := kK0 hS
  have hh3 := kK3 hS
  have b0 := kKb hS
  have t8 := (hS.2.1.2.1 p hp).2.2.2.2.1 ht
  have b1 := kPb hS hp t8
  have lP : A 21 p = 1 := (hS.2.1.2.1 p hp).1.mpr t8
  have lT : A 22 p = 1 := (hS.2.1.2.1 p hp).2.1.mpr ht
  have key : ∀ d : Nat, d ≤ 4 → ∀ A1 σ2, kRep G (n + 1) (aad A1 p d) X σ2 (mbk p d μ) → σ2.2 = σ.2 → A1 9 p = 0 → (∀ k, ¬ (k = 10 ∨ k = 11 ∨ k = 18 ∨ k = 9) → A1 k = A k) → (∀ q, q ≠ p → A1 9 q = A 9 q) → kTl A1 (fun q => q ≠ p ∧ 0 < μ 11 q) (μ 12) → σ2.1 (A 2 p) = σ.1 (A 2 p) → lx 0 (gW G mX1_drop (fr + 5) σ.2.2.1 σ.2.2.2 Q 38 [(0, vr (A 0 0)), (1, vr (A 2 p)), (2, vr (A 1 p)), (3, vi d)] [] σ2) := by
    refine dnb 4 fun d hd ih A1 σ2 hR e2 hA9 hA hA9b hT hsame => ?_
    have o1 : aad A1 p d 1 = A 1 := by rw [aad_o (by omega), hA 1 (by omega)]
    have o2 : aad A1 p d 2 = A 2 := by rw [aad_o (by omega), hA 2 (by omega)]
    have o5 : ∀ j, aad A1 p d 5 j = A 5 j := fun j => by rw [aad_5, hA 5 (by omega)]
    have lP' : aad A1 p d 21 p = 1 := by rw [aad_o (by omega), hA 21 (by omega)]; exact lP
    have lT' : aad A1 p d 22 p = 1 := by rw [aad_o (by omega), hA 22 (by omega)]; exact lT
    have hhp := (hR.2.1 1 p 0 _ lP' rfl).1
    have hhq := (hR.2.1 1 p 1 _ lP' rfl).1
    have hht := (hR.2.1 2 p 0 _ lT' rfl).1
    have hhu := (hR.2.1 2 p 6 _ lT' rfl).1
    rw [o1] at hhp hhq
    rw [o2] at hht hhu
    have hho : d < 4 → 0 ≤ μ 20 (4 * p + d) → σ2.1 (A 5 (4 * p + d)) = some (kdc (mbk p d μ 20 (4 * p + d)) (mbk p d μ 21 (4 * p + d))) := by
      intro h1 h2
      have l5 : aad A1 p d 25 (4 * p + d) = 1 := by
        have : aad A1 p d 25 (4 * p + d) = A1 25 (4 * p + d) := by simp only [aad]; grind
        rw [this, hA 25 (by omega)]
        exact ((hS.2.1.2.2.2.1 (4 * p + d) (by omega)).2).mpr ⟨by rw [show (4 * p + d) / 4 = p by omega]; exact ht, h2⟩
      have := (hR.2.1 5 (4 * p + d) 0 _ l5 rfl).1
      rw [o5] at this
      exact this
    refine okc_l hG (o := 1) (M := mX1_drop) (by decide) rfl okX1_drop (fun pc => Nat.beq pc 38) ?_
    repeat' (first | ((conv => whnf); first | refine And.intro ?_ ?_ | (intro _ h9; cases h9; first | exact Or.inl ⟨_, (by first | assumption | exact gset_self _ _ _ | (refine (gset_ne (by first | omega | (dsimp only; omega))).trans ?_; first | assumption | exact gset_self _ _ _ | (refine (gset_ne (by first | omega | (dsimp only; omega))).trans ?_; first | assumption | exact gset_self _ _ _ | (refine (gset_ne (by first | omega | (dsimp only; omega))).trans ?_; first | assumption | exact gset_self _ _ _ | (refine (gset_ne (by first | omega | (dsimp only; omega))).trans ?_; first | assumption | exact gset_self _ _ _ | (refine (gset_ne (by first | omega | (dsimp only; omega))).trans ?_; first | assumption | exact gset_self _ _ _))))))⟩ | exact gBx_obj (by assumption)) | (intro h9; replace h9 := okI_t h9; conv at h9 => whnf) | (intro h9; replace h9 := okI_r h9; clear h9) | (intro h9; first | exact absurd h9 (Option.some_ne_none _) | exact absurd h9.symm (Option.some_ne_none _) | exact absurd h9 (by decide) | exact absurd rfl h9) | (intro h9) | refine ⟨_, _, _, rfl, (by first | assumption | exact gset_self _ _ _ | (refine (gset_ne (by first | omega | (dsimp only; omega))).trans ?_; first | assumption | exact gset_self _ _ _ | (refine (gset_ne (by first | omega | (dsimp only; omega))).trans ?_; first | assumption | exact gset_self _ _ _ | (refine (gset_ne (by first | omega | (dsimp only; omega))).trans ?_; first | assumption | exact gset_self _ _ _ | (refine (gset_ne (by first | omega | (dsimp only; omega))).trans ?_; first | assumption | exact gset_self _ _ _ | (refine (gset_ne (by first | omega | (dsimp only; omega))).trans ?_; first | assumption | exact gset_self _ _ _)))))), rfl, ?_⟩ | refine ⟨_, _, rfl, (by first | assumption | exact gset_self _ _ _ | (refine (gset_ne (by first | omega | (dsimp only; omega))).trans ?_; first | assumption | exact gset_self _ _ _ | (refine (gset_ne (by first | omega | (dsimp only; omega))).trans ?_; first | assumption | exact gset_self _ _ _ | (refine (gset_ne (by first | omega | (dsimp only; omega))).trans ?_; first | assumption | exact gset_self _ _ _ | (refine (gset_ne (by first | omega | (dsimp only; omega))).trans ?_; first | assumption | exact gset_self _ _ _ | (refine (gset_ne (by first | omega | (dsimp only; omega))).trans ?_; first | assumption | exact gset_self _ _ _)))))), ?_, ?_, ?_, ?_, ?_, ?_⟩ | refine ⟨_, _, _, rfl, (by first | assumption | exact gset_self _ _ _ | (refine (gset_ne (by first | omega | (dsimp only; omega))).trans ?_; first | assumption | exact gset_self _ _ _ | (refine (gset_ne (by first | omega | (dsimp only; omega))).trans ?_; first | assumption | exact gset_self _ _ _ | (refine (gset_ne (by first | omega | (dsimp only; omega))).trans ?_; first | assumption | exact gset_self _ _ _ | (refine (gset_ne (by first | omega | (dsimp only; omega))).trans ?_; first | assumption | exact gset_self _ _ _ | (refine (gset_ne (by first | omega | (dsimp only; omega))).trans ?_; first | assumption | exact gset_self _ _ _)))))), ?_, ?_, ?_⟩ | refine ⟨_, _, _, _, rfl, (by first | assumption | exact gset_self _ _ _ | (refine (gset_ne (by first | omega | (dsimp only; omega))).trans ?_; first | assumption | exact gset_self _ _ _ | (refine (gset_ne (by first | omega | (dsimp only; omega))).trans ?_; first | assumption | exact gset_self _ _ _ | (refine (gset_ne (by first | omega | (dsimp only; omega))).trans ?_; first | assumption | exact gset_self _ _ _ | (refine (gset_ne (by first | omega | (dsimp only; omega))).trans ?_; first | assumption | exact gset_self _ _ _ | (refine (gset_ne (by first | omega | (dsimp only; omega))).trans ?_; first | assumption | exact gset_self _ _ _)))))), ?_, ?_, ?_, ?_⟩ | refine ⟨_, _, _, _, rfl, (by first | assumption | exact gset_self _ _ _ | (refine (gset_ne (by first | omega | (dsimp only; omega))).trans ?_; first | assumption | exact gset_self _ _ _ | (refine (gset_ne (by first | omega | (dsimp only; omega))).trans ?_; first | assumption | exact gset_self _ _ _ | (refine (gset_ne (by first | omega | (dsimp only; omega))).trans ?_; first | assumption | exact gset_self _ _ _ | (refine (gset_ne (by first | omega | (dsimp only; omega))).trans ?_; first | assumption | exact gset_self _ _ _ | (refine (gset_ne (by first | omega | (dsimp only; omega))).trans ?_; first | assumption | exact gset_self _ _ _)))))), ?_, ?_, ?_, ?_, ?_, ?_⟩ | refine ⟨_, _, rfl, Or.inl ⟨_, (by first | assumption | exact gset_self _ _ _ | (refine (gset_ne (by first | omega | (dsimp only; omega))).trans ?_; first | assumption | exact gset_self _ _ _ | (refine (gset_ne (by first | omega | (dsimp only; omega))).trans ?_; first | assumption | exact gset_self _ _ _ | (refine (gset_ne (by first | omega | (dsimp only; omega))).trans ?_; first | assumption | exact gset_self _ _ _ | (refine (gset_ne (by first | omega | (dsimp only; omega))).trans ?_; first | assumption | exact gset_self _ _ _ | (refine (gset_ne (by first | omega | (dsimp only; omega))).trans ?_; first | assumption | exact gset_self _ _ _))))))⟩, ?_, ?_⟩ | refine ⟨_, Or.inl ⟨_, _, _, rfl, (by first | assumption | exact gset_self _ _ _ | (refine (gset_ne (by first | omega | (dsimp only; omega))).trans ?_; first | assumption | exact gset_self _ _ _ | (refine (gset_ne (by first | omega | (dsimp only; omega))).trans ?_; first | assumption | exact gset_self _ _ _ | (refine (gset_ne (by first | omega | (dsimp only; omega))).trans ?_; first | assumption | exact gset_self _ _ _ | (refine (gset_ne (by first | omega | (dsimp only; omega))).trans ?_; first | assumption | exact gset_self _ _ _ | (refine (gset_ne (by first | omega | (dsimp only; omega))).trans ?_; first | assumption | exact gset_self _ _ _)))))), ?_⟩, ?_, ?_⟩ | refine ⟨0, Or.inr ⟨rfl, rfl⟩, ?_, ?_⟩ | exact ⟨_, rfl⟩ | refine ⟨_, rfl, ?_, ?_, ?_⟩ | refine ⟨3, ⟨by decide, by decide⟩, rfl, ?_, ?_, ?_, ?_⟩ | refine ⟨4, ⟨by decide, by decide⟩, rfl, ?_, ?_, ?_, ?_⟩ | refine ⟨5, ⟨by decide, by decide⟩, rfl, ?_, ?_, ?_, ?_⟩ | refine ⟨6, ⟨by decide, by decide⟩, rfl, ?_, ?_, ?_, ?_⟩ | refine ⟨0, by decide, rfl, ?_, ?_, ?_, ?_⟩ | refine ⟨1, by decide, rfl, ?_, ?_, ?_, ?_⟩ | refine ⟨2, by decide, rfl, ?_, ?_, ?_, ?_⟩ | refine ⟨_, _, _, rfl, (by first | assumption | exact gset_self _ _ _ | (refine (gset_ne (by first | omega | (dsimp only; omega))).trans ?_; first | assumption | exact gset_self _ _ _ | (refine (gset_ne (by first | omega | (dsimp only; omega))).trans ?_; first | assumption | exact gset_self _ _ _ | (refine (gset_ne (by first | omega | (dsimp only; omega))).trans ?_; first | assumption | exact gset_self _ _ _ | (refine (gset_ne (by first | omega | (dsimp only; omega))).trans ?_; first | assumption | exact gset_self _ _ _ | (refine (gset_ne (by first | omega | (dsimp only; omega))).trans ?_; first | assumption | exact gset_self _ _ _)))))), ?_, ?_⟩ | refine ⟨_, 12, rfl, gBx_obj (by assumption), ?_, ?_⟩ | refine ⟨_, rfl, ?_⟩) | exact rfl | omega | (simp only [mlen]; omega) | exact Nat.le_of_ble_eq_true rfl | exact Or.inl rfl | exact Or.inr rfl | assumption | exact True.intro | (dsimp only; omega) | (simp only [gN1, gN2, gN4, gN5, gN6, gN7, gN8, gN9, gN10, gN11]; omega) | decide)
    · have e4 : d = 4 := by omega
      subst e4
      have o : ∀ k, ¬ (k = 4 ∨ k = 24 ∨ k = 25 ∨ k = 22 ∨ k = 23 ∨ k = 19) → adead (aad A1 p 4) p k = A1 k := fun k hk => by funext b; simp only [adead, aad]; grind
      refine bx_out hQ (adead (aad A1 p 4) p) σ2 ⟨?_, kCon_drop hS.2.1 hp ht hA9 hA hA9b hT, ?_⟩ (fun k hk => ?_) (fun x hx => ?_) hsame
      · have := kr_dead hR (p := p) (by simp [mbk, mup])
        rw [mbk_d] at this
        exact this
      · rw [e2]; exact hS.2.2
      · rw [o k (by omega), hA k (by omega)]
      · have : adead (aad A1 p 4) p 4 x = A1 4 x := by simp only [adead, aad]; grind
        rw [this, hA 4 (by omega)]
    · have h7 : 0 ≤ μ 20 (4 * p + d) := by
        have : mbk p d μ 20 (4 * p + d) = μ 20 (4 * p + d) := by simp [mbk, mup, mabortk]
        rw [← this]
        by_cases q : 0 ≤ mbk p d μ 20 (4 * p + d)
        · exact q
        · rw [if_neg (fun z => q z.2)] at h9; cases h9
      have h8 : mbk p d μ 20 (4 * p + d) = μ 20 (4 * p + d) := by simp [mbk, mup, mabortk]
      rw [if_pos ⟨by omega, by show 0 ≤ mbk p d μ 20 (4 * p + d); rw [h8]; exact h7⟩] at h9
      cases h9
      have h6 : σ2.1 (aad A1 p d 5 (4 * p + d)) = some (kdc (mbk p d μ 20 (4 * p + d)) (mbk p d μ 21 (4 * p + d))) := by rw [o5]; exact hho (by omega) h7
      exact ⟨5, Or.inl ⟨_, h6⟩, by decide, by decide⟩
    · refine bx_out ih (by omega) A1 _ ?_ e2 hA9 hA hA9b hT ?_
      · have hb := kr_back hR (p := p) (d := d) (by omega) lP' rfl
        rw [aad_s, mbk_s (by omega), o1] at hb
        have e6 : (if 0 ≤ mbk p d μ 20 (4 * p + d) then some (aad A1 p d 5 (4 * p + d)) else none) = (if d < 4 ∧ 0 ≤ mbk p d μ 20 (4 * p + d) then some (aad A1 p d 5 (4 * p + d)) else none) := by
          by_cases q : 0 ≤ mbk p d μ 20 (4 * p + d)
          · rw [if_pos q, if_pos ⟨by omega, q⟩]
          · rw [if_neg q, if_neg (fun z => q z.2)]
        rw [e6] at hb
        exact hb
      · show gset σ2.1 (A 1 p + 1) _ (A 2 p) = _
        have ne : A 2 p ≠ A 1 p + 1 := kne hS.1 (j := 0) lT rfl lP (j' := 1) rfl (by omega)
        rw [gset_ne ne]
        exact hsame
  refine okc_e hG (o := 1) (M := mX1_drop) (by decide) rfl okX1_drop (fun pc => Nat.beq pc 38) ?_
  repeat' (first | ((conv => whnf); first | refine And.intro ?_ ?_ | (intro _ h9; cases h9; first | exact Or.inl ⟨_, (by first | assumption | exact gset_self _ _ _ | (refine (gset_ne (by first | omega | (dsimp only; omega))).trans ?_; first | assumption | exact gset_self _ _ _ | (refine (gset_ne (by first | omega | (dsimp only; omega))).trans ?_; first | assumption | exact gset_self _ _ _ | (refine (gset_ne (by first | omega | (dsimp only; omega))).trans ?_; first | assumption | exact gset_self _ _ _ | (refine (gset_ne (by first | omega | (dsimp only; omega))).trans ?_; first | assumption | exact gset_self _ _ _ | (refine (gset_ne (by first | omega | (dsimp only; omega))).trans ?_; first | assumption | exact gset_self _ _ _))))))⟩ | exact gBx_obj (by assumption)) | (intro h9; replace h9 := okI_t h9; conv at h9 => whnf) | (intro h9; replace h9 := okI_r h9; clear h9) | (intro h9; first | exact absurd h9 (Option.some_ne_none _) | exact absurd h9.symm (Option.some_ne_none _) | exact absurd h9 (by decide) | exact absurd rfl h9) | (intro h9) | refine ⟨_, _, _, rfl, (by first | assumption | exact gset_self _ _ _ | (refine (gset_ne (by first | omega | (dsimp only; omega))).trans ?_; first | assumption | exact gset_self _ _ _ | (refine (gset_ne (by first | omega | (dsimp only; omega))).trans ?_; first | assumption | exact gset_self _ _ _ | (refine (gset_ne (by first | omega | (dsimp only; omega))).trans ?_; first | assumption | exact gset_self _ _ _ | (refine (gset_ne (by first | omega | (dsimp only; omega))).trans ?_; first | assumption | exact gset_self _ _ _ | (refine (gset_ne (by first | omega | (dsimp only; omega))).trans ?_; first | assumption | exact gset_self _ _ _)))))), rfl, ?_⟩ | refine ⟨_, _, rfl, (by first | assumption | exact gset_self _ _ _ | (refine (gset_ne (by first | omega | (dsimp only; omega))).trans ?_; first | assumption | exact gset_self _ _ _ | (refine (gset_ne (by first | omega | (dsimp only; omega))).trans ?_; first | assumption | exact gset_self _ _ _ | (refine (gset_ne (by first | omega | (dsimp only; omega))).trans ?_; first | assumption | exact gset_self _ _ _ | (refine (gset_ne (by first | omega | (dsimp only; omega))).trans ?_; first | assumption | exact gset_self _ _ _ | (refine (gset_ne (by first | omega | (dsimp only; omega))).trans ?_; first | assumption | exact gset_self _ _ _)))))), ?_, ?_, ?_, ?_, ?_, ?_⟩ | refine ⟨_, _, _, rfl, (by first | assumption | exact gset_self _ _ _ | (refine (gset_ne (by first | omega | (dsimp only; omega))).trans ?_; first | assumption | exact gset_self _ _ _ | (refine (gset_ne (by first | omega | (dsimp only; omega))).trans ?_; first | assumption | exact gset_self _ _ _ | (refine (gset_ne (by first | omega | (dsimp only; omega))).trans ?_; first | assumption | exact gset_self _ _ _ | (refine (gset_ne (by first | omega | (dsimp only; omega))).trans ?_; first | assumption | exact gset_self _ _ _ | (refine (gset_ne (by first | omega | (dsimp only; omega))).trans ?_; first | assumption | exact gset_self _ _ _)))))), ?_, ?_, ?_⟩ | refine ⟨_, _, _, _, rfl, (by first | assumption | exact gset_self _ _ _ | (refine (gset_ne (by first | omega | (dsimp only; omega))).trans ?_; first | assumption | exact gset_self _ _ _ | (refine (gset_ne (by first | omega | (dsimp only; omega))).trans ?_; first | assumption | exact gset_self _ _ _ | (refine (gset_ne (by first | omega | (dsimp only; omega))).trans ?_; first | assumption | exact gset_self _ _ _ | (refine (gset_ne (by first | omega | (dsimp only; omega))).trans ?_; first | assumption | exact gset_self _ _ _ | (refine (gset_ne (by first | omega | (dsimp only; omega))).trans ?_; first | assumption | exact gset_self _ _ _)))))), ?_, ?_, ?_, ?_⟩ | refine ⟨_, _, _, _, rfl, (by first | assumption | exact gset_self _ _ _ | (refine (gset_ne (by first | omega | (dsimp only; omega))).trans ?_; first | assumption | exact gset_self _ _ _ | (refine (gset_ne (by first | omega | (dsimp only; omega))).trans ?_; first | assumption | exact gset_self _ _ _ | (refine (gset_ne (by first | omega | (dsimp only; omega))).trans ?_; first | assumption | exact gset_self _ _ _ | (refine (gset_ne (by first | omega | (dsimp only; omega))).trans ?_; first | assumption | exact gset_self _ _ _ | (refine (gset_ne (by first | omega | (dsimp only; omega))).trans ?_; first | assumption | exact gset_self _ _ _)))))), ?_, ?_, ?_, ?_, ?_, ?_⟩ | refine ⟨_, _, rfl, Or.inl ⟨_, (by first | assumption | exact gset_self _ _ _ | (refine (gset_ne (by first | omega | (dsimp only; omega))).trans ?_; first | assumption | exact gset_self _ _ _ | (refine (gset_ne (by first | omega | (dsimp only; omega))).trans ?_; first | assumption | exact gset_self _ _ _ | (refine (gset_ne (by first | omega | (dsimp only; omega))).trans ?_; first | assumption | exact gset_self _ _ _ | (refine (gset_ne (by first | omega | (dsimp only; omega))).trans ?_; first | assumption | exact gset_self _ _ _ | (refine (gset_ne (by first | omega | (dsimp only; omega))).trans ?_; first | assumption | exact gset_self _ _ _))))))⟩, ?_, ?_⟩ | refine ⟨_, Or.inl ⟨_, _, _, rfl, (by first | assumption | exact gset_self _ _ _ | (refine (gset_ne (by first | omega | (dsimp only; omega))).trans ?_; first | assumption | exact gset_self _ _ _ | (refine (gset_ne (by first | omega | (dsimp only; omega))).trans ?_; first | assumption | exact gset_self _ _ _ | (refine (gset_ne (by first | omega | (dsimp only; omega))).trans ?_; first | assumption | exact gset_self _ _ _ | (refine (gset_ne (by first | omega | (dsimp only; omega))).trans ?_; first | assumption | exact gset_self _ _ _ | (refine (gset_ne (by first | omega | (dsimp only; omega))).trans ?_; first | assumption | exact gset_self _ _ _)))))), ?_⟩, ?_, ?_⟩ | refine ⟨0, Or.inr ⟨rfl, rfl⟩, ?_, ?_⟩ | exact ⟨_, rfl⟩ | refine ⟨_, rfl, ?_, ?_, ?_⟩ | refine ⟨3, ⟨by decide, by decide⟩, rfl, ?_, ?_, ?_, ?_⟩ | refine ⟨4, ⟨by decide, by decide⟩, rfl, ?_, ?_, ?_, ?_⟩ | refine ⟨5, ⟨by decide, by decide⟩, rfl, ?_, ?_, ?_, ?_⟩ | refine ⟨6, ⟨by decide, by decide⟩, rfl, ?_, ?_, ?_, ?_⟩ | refine ⟨0, by decide, rfl, ?_, ?_, ?_, ?_⟩ | refine ⟨1, by decide, rfl, ?_, ?_, ?_, ?_⟩ | refine ⟨2, by decide, rfl, ?_, ?_, ?_, ?_⟩ | refine ⟨_, _, _, rfl, (by first | assumption | exact gset_self _ _ _ | (refine (gset_ne (by first | omega | (dsimp only; omega))).trans ?_; first | assumption | exact gset_self _ _ _ | (refine (gset_ne (by first | omega | (dsimp only; omega))).trans ?_; first | assumption | exact gset_self _ _ _ | (refine (gset_ne (by first | omega | (dsimp only; omega))).trans ?_; first | assumption | exact gset_self _ _ _ | (refine (gset_ne (by first | omega | (dsimp only; omega))).trans ?_; first | assumption | exact gset_self _ _ _ | (refine (gset_ne (by first | omega | (dsimp only; omega))).trans ?_; first | assumption | exact gset_self _ _ _)))))), ?_, ?_⟩ | refine ⟨_, 12, rfl, gBx_obj (by assumption), ?_, ?_⟩ | refine ⟨_, rfl, ?_⟩) | exact rfl | omega | (simp only [mlen]; omega) | exact Nat.le_of_ble_eq_true rfl | exact Or.inl rfl | exact Or.inr rfl | assumption | exact True.intro | (dsimp only; omega) | (simp only [gN1, gN2, gN4, gN5, gN6, gN7, gN8, gN9, gN10, gN11]; omega) | decide)
  conv => whnf
  refine sX1_tlrem hG hS hp ht hN ?_
  intro A1 σ1 b hR1 e1 hA1 hT1 hK hC
  have hhk : σ1.1 (A 0 0) = _ := hK.trans hh0
  have hht : σ1.1 (A 2 p) = _ := (hC 2 p 0 _ (by omega) lT rfl).trans (kT0 hS hp ht)
  have hhp : σ1.1 (A 1 p) = _ := (hC 1 p 0 _ (by omega) lP rfl).trans (kP0 hS hp t8)
  have n1 : A 0 0 ≠ A 1 p := kne hS.1 (j := 0) (j' := 0) hS.2.1.1 rfl lP rfl (by omega)
  have n2 : A 0 0 ≠ A 2 p := kne hS.1 (j := 0) (j' := 0) hS.2.1.1 rfl lT rfl (by omega)
  have n3 : A 1 p ≠ A 2 p := kne hS.1 (j := 0) (j' := 0) lP rfl lT rfl (by omega)
  repeat' (first | ((conv => whnf); first | refine And.intro ?_ ?_ | (intro _ h9; cases h9; first | exact Or.inl ⟨_, (by first | assumption | exact gset_self _ _ _ | (refine (gset_ne (by first | omega | (dsimp only; omega))).trans ?_; first | assumption | exact gset_self _ _ _ | (refine (gset_ne (by first | omega | (dsimp only; omega))).trans ?_; first | assumption | exact gset_self _ _ _ | (refine (gset_ne (by first | omega | (dsimp only; omega))).trans ?_; first | assumption | exact gset_self _ _ _ | (refine (gset_ne (by first | omega | (dsimp only; omega))).trans ?_; first | assumption | exact gset_self _ _ _ | (refine (gset_ne (by first | omega | (dsimp only; omega))).trans ?_; first | assumption | exact gset_self _ _ _))))))⟩ | exact gBx_obj (by assumption)) | (intro h9; replace h9 := okI_t h9; conv at h9 => whnf) | (intro h9; replace h9 := okI_r h9; clear h9) | (intro h9; first | exact absurd h9 (Option.some_ne_none _) | exact absurd h9.symm (Option.some_ne_none _) | exact absurd h9 (by decide) | exact absurd rfl h9) | (intro h9) | refine ⟨_, _, _, rfl, (by first | assumption | exact gset_self _ _ _ | (refine (gset_ne (by first | omega | (dsimp only; omega))).trans ?_; first | assumption | exact gset_self _ _ _ | (refine (gset_ne (by first | omega | (dsimp only; omega))).trans ?_; first | assumption | exact gset_self _ _ _ | (refine (gset_ne (by first | omega | (dsimp only; omega))).trans ?_; first | assumption | exact gset_self _ _ _ | (refine (gset_ne (by first | omega | (dsimp only; omega))).trans ?_; first | assumption | exact gset_self _ _ _ | (refine (gset_ne (by first | omega | (dsimp only; omega))).trans ?_; first | assumption | exact gset_self _ _ _)))))), rfl, ?_⟩ | refine ⟨_, _, rfl, (by first | assumption | exact gset_self _ _ _ | (refine (gset_ne (by first | omega | (dsimp only; omega))).trans ?_; first | assumption | exact gset_self _ _ _ | (refine (gset_ne (by first | omega | (dsimp only; omega))).trans ?_; first | assumption | exact gset_self _ _ _ | (refine (gset_ne (by first | omega | (dsimp only; omega))).trans ?_; first | assumption | exact gset_self _ _ _ | (refine (gset_ne (by first | omega | (dsimp only; omega))).trans ?_; first | assumption | exact gset_self _ _ _ | (refine (gset_ne (by first | omega | (dsimp only; omega))).trans ?_; first | assumption | exact gset_self _ _ _)))))), ?_, ?_, ?_, ?_, ?_, ?_⟩ | refine ⟨_, _, _, rfl, (by first | assumption | exact gset_self _ _ _ | (refine (gset_ne (by first | omega | (dsimp only; omega))).trans ?_; first | assumption | exact gset_self _ _ _ | (refine (gset_ne (by first | omega | (dsimp only; omega))).trans ?_; first | assumption | exact gset_self _ _ _ | (refine (gset_ne (by first | omega | (dsimp only; omega))).trans ?_; first | assumption | exact gset_self _ _ _ | (refine (gset_ne (by first | omega | (dsimp only; omega))).trans ?_; first | assumption | exact gset_self _ _ _ | (refine (gset_ne (by first | omega | (dsimp only; omega))).trans ?_; first | assumption | exact gset_self _ _ _)))))), ?_, ?_, ?_⟩ | refine ⟨_, _, _, _, rfl, (by first | assumption | exact gset_self _ _ _ | (refine (gset_ne (by first | omega | (dsimp only; omega))).trans ?_; first | assumption | exact gset_self _ _ _ | (refine (gset_ne (by first | omega | (dsimp only; omega))).trans ?_; first | assumption | exact gset_self _ _ _ | (refine (gset_ne (by first | omega | (dsimp only; omega))).trans ?_; first | assumption | exact gset_self _ _ _ | (refine (gset_ne (by first | omega | (dsimp only; omega))).trans ?_; first | assumption | exact gset_self _ _ _ | (refine (gset_ne (by first | omega | (dsimp only; omega))).trans ?_; first | assumption | exact gset_self _ _ _)))))), ?_, ?_, ?_, ?_⟩ | refine ⟨_, _, _, _, rfl, (by first | assumption | exact gset_self _ _ _ | (refine (gset_ne (by first | omega | (dsimp only; omega))).trans ?_; first | assumption | exact gset_self _ _ _ | (refine (gset_ne (by first | omega | (dsimp only; omega))).trans ?_; first | assumption | exact gset_self _ _ _ | (refine (gset_ne (by first | omega | (dsimp only; omega))).trans ?_; first | assumption | exact gset_self _ _ _ | (refine (gset_ne (by first | omega | (dsimp only; omega))).trans ?_; first | assumption | exact gset_self _ _ _ | (refine (gset_ne (by first | omega | (dsimp only; omega))).trans ?_; first | assumption | exact gset_self _ _ _)))))), ?_, ?_, ?_, ?_, ?_, ?_⟩ | refine ⟨_, _, rfl, Or.inl ⟨_, (by first | assumption | exact gset_self _ _ _ | (refine (gset_ne (by first | omega | (dsimp only; omega))).trans ?_; first | assumption | exact gset_self _ _ _ | (refine (gset_ne (by first | omega | (dsimp only; omega))).trans ?_; first | assumption | exact gset_self _ _ _ | (refine (gset_ne (by first | omega | (dsimp only; omega))).trans ?_; first | assumption | exact gset_self _ _ _ | (refine (gset_ne (by first | omega | (dsimp only; omega))).trans ?_; first | assumption | exact gset_self _ _ _ | (refine (gset_ne (by first | omega | (dsimp only; omega))).trans ?_; first | assumption | exact gset_self _ _ _))))))⟩, ?_, ?_⟩ | refine ⟨_, Or.inl ⟨_, _, _, rfl, (by first | assumption | exact gset_self _ _ _ | (refine (gset_ne (by first | omega | (dsimp only; omega))).trans ?_; first | assumption | exact gset_self _ _ _ | (refine (gset_ne (by first | omega | (dsimp only; omega))).trans ?_; first | assumption | exact gset_self _ _ _ | (refine (gset_ne (by first | omega | (dsimp only; omega))).trans ?_; first | assumption | exact gset_self _ _ _ | (refine (gset_ne (by first | omega | (dsimp only; omega))).trans ?_; first | assumption | exact gset_self _ _ _ | (refine (gset_ne (by first | omega | (dsimp only; omega))).trans ?_; first | assumption | exact gset_self _ _ _)))))), ?_⟩, ?_, ?_⟩ | refine ⟨0, Or.inr ⟨rfl, rfl⟩, ?_, ?_⟩ | exact ⟨_, rfl⟩ | refine ⟨_, rfl, ?_, ?_, ?_⟩ | refine ⟨3, ⟨by decide, by decide⟩, rfl, ?_, ?_, ?_, ?_⟩ | refine ⟨4, ⟨by decide, by decide⟩, rfl, ?_, ?_, ?_, ?_⟩ | refine ⟨5, ⟨by decide, by decide⟩, rfl, ?_, ?_, ?_, ?_⟩ | refine ⟨6, ⟨by decide, by decide⟩, rfl, ?_, ?_, ?_, ?_⟩ | refine ⟨0, by decide, rfl, ?_, ?_, ?_, ?_⟩ | refine ⟨1, by decide, rfl, ?_, ?_, ?_, ?_⟩ | refine ⟨2, by decide, rfl, ?_, ?_, ?_, ?_⟩ | refine ⟨_, _, _, rfl, (by first | assumption | exact gset_self _ _ _ | (refine (gset_ne (by first | omega | (dsimp only; omega))).trans ?_; first | assumption | exact gset_self _ _ _ | (refine (gset_ne (by first | omega | (dsimp only; omega))).trans ?_; first | assumption | exact gset_self _ _ _ | (refine (gset_ne (by first | omega | (dsimp only; omega))).trans ?_; first | assumption | exact gset_self _ _ _ | (refine (gset_ne (by first | omega | (dsimp only; omega))).trans ?_; first | assumption | exact gset_self _ _ _ | (refine (gset_ne (by first | omega | (dsimp only; omega))).trans ?_; first | assumption | exact gset_self _ _ _)))))), ?_, ?_⟩ | refine ⟨_, 12, rfl, gBx_obj (by assumption), ?_, ?_⟩ | refine ⟨_, rfl, ?_⟩) | exact rfl | omega | (simp only [mlen]; omega) | exact Nat.le_of_ble_eq_true rfl | exact Or.inl rfl | exact Or.inr rfl | assumption | exact True.intro | (dsimp only; omega) | (simp only [gN1, gN2, gN4, gN5, gN6, gN7, gN8, gN9, gN10, gN11]; omega) | decide)
  have l20 : A1 20 0 = 1 := by rw [hA1 20 (by omega)]; exact hS.2.1.1
  have l21 : A1 21 p = 1 := by rw [hA1 21 (by omega)]; exact lP
  have hR2 := kr_K0 hR1 (μ' := mup μ 22 3 (μ 22 3 + 1)) l20 (fun a ha => mup_other _ _ _ (by omega)) rfl
  have hR3 := kr_P0 hR2 (p := p) (v := 0) (d := 0) (t := μ 10 p) l21 rfl
  rw [mup_id (μ := mup (mup μ 22 3 (μ 22 3 + 1)) 11 p 0) (by simp [mup])] at hR3
  have e0 : mup (mup μ 22 3 (μ 22 3 + 1)) 11 p 0 = mbk p 0 μ := by
    funext a j; simp only [mbk, mup, mabortk]; grind
  have e4 : aup A1 9 p 0 = aad (aup A1 9 p 0) p 0 := aad_0.symm
  rw [e0, e4] at hR3
  have s1 : (aup A1 9 p 0) 9 p = 0 := by simp [aup]
  refine gWf (key 0 (by omega) (aup A1 9 p 0) _ hR3 e1 s1 (fun k hk => ?_) (fun q hq => ?_) ?_ ?_) ?_
  · rw [← hA1 k (by omega)]; funext b; exact if_neg (by omega)
  · rw [← hA1 9 (by omega)]; exact if_neg (by omega)
  · exact hT1
  · show gset (gset σ1.1 _ _) _ _ _ = _
    rw [hA1 0 (by omega), hA1 1 (by omega), gset_ne n3.symm, gset_ne n2.symm]
    exact hC 2 p 0 _ (by omega) lT rfl
  · show (gset (gset (gset σ1.1 (A 0 0) _) (A 1 p) _) (A 1 p) _, σ1.2) = _
    rw [gset_2, hA1 0 (by omega), hA1 1 (by omega)]
    rfl
end KD
