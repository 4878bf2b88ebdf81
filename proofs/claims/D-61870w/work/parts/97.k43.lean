/-! the kernel's members: ends (2): the signals are sent -/
section KG
variable {G : gG} {n m n' m' fr rc rs : Nat} {A A' : kA} {X X' : kX} {σ σ' σ0 σ2 : gS} {μ μ' : mS} {Q : gO → gS → Prop}
/-- the loop of the signals; ν: the state when it begins -/
theorem ends_s (hG : gGood G) {p w it : Nat} {d b o9 : Int} {ν : mS} (hp : p < 6) (hw : w = A 0 0) (hRq : bx 0 (mRq ν)) (hN : n + 10 ≤ 1000000) (hXi : X it = none)
    (hQ : ∀ A' σ' x, kRep G (n + 4) A' (gset X it x) σ' (msendk p (ν 17 p).toNat ν) → (∀ k, ¬ (k = 13 ∨ k = 15) → A' k = A k) → m + 20 ≤ σ'.2.2.1 → 16 * (m + 20) ≤ σ'.2.2.2 → gBase G ≤ σ'.2.1 → lx 0 (gW G mX1_ends (fr + 10) rc rs Q 242 [(0, vr w), (1, vr (A 2 p)), (2, vi d), (3, vi b), (4, vi o9), (5, vr it)] [] σ'))
    (l0 : A 20 0 = 1) (lT : A 22 p = 1) (lP : bx 0 (∀ q, q < 6 → (A 21 q = 1 ↔ ν 8 q = 1))) (lP6 : bx 0 (∀ q, 6 ≤ q → A 21 q ≠ 1)) (hbi : gBase G ≤ it) :
    ∀ k : Nat, k ≤ (ν 17 p).toNat → ∀ A1 σ1 (lr : Int), kRep G (n + k) A1 (gset X it (.inl (11, [vi (k : Nat), vi lr, vi (A 16 p), vr (A 2 p + 4)]))) σ1 (msendk p k ν) → (∀ k, ¬ (k = 13 ∨ k = 15) → A1 k = A k) → m + 20 + (4 - k) ≤ σ1.2.2.1 → 16 * (m + 20 + (4 - k)) ≤ σ1.2.2.2 → gBase G ≤ σ1.2.1 → lx 0 (gW G mX1_ends (fr + 10) rc rs Q 155 [(0, vr w), (1, vr (A 2 p)), (2, vi d), (3, vi b), (4, vi o9), (5, vr it)] [] σ1) := by
  replace hQ := bx_in hQ
  subst hw
  refine dnb _ fun k hk ih A1 σ1 lr hR hA r1 r2 r3 => ?_
  obtain ⟨q1, q2⟩ := bx_out hRq
  have q17 := (q1 p hp).2.2.2.2
  have sk : ∀ a, a ≠ 13 → a ≠ 14 → msendk p k ν a = ν a := fun a h1 h2 => msendk_k h1 h2 k
  have sr := msendk_r (p := p) (μ := ν) (fun x hx => by have := q1 x hx; omega) k
  have lT' : A1 22 p = 1 := by rw [hA 22 (by omega)]; exact lT
  have l0' : A1 20 0 = 1 := by rw [hA 20 (by omega)]; exact l0
  have hhi := hR.2.2.2.2.2 it _ (gset_self _ _ _)
  have hhl := (hR.2.1 2 p 4 _ lT' rfl).1
  have hhb := (hR.2.1 2 p 5 _ lT' rfl).1
  have hh0 := (hR.2.1 0 0 0 _ l0' rfl).1
  have hh2 := (hR.2.1 0 0 2 _ l0' rfl).1
  have hm9 := (hR.2.2.2.2.1 p).2.2.1
  have hm8 := (hR.2.2.2.2.1 p).2.1
  rw [sk 17 (by omega) (by omega), hA 2 (by omega), hA 16 (by omega)] at hhl
  rw [sk 17 (by omega) (by omega), hA 2 (by omega)] at hhb
  rw [hA 0 (by omega)] at hh0 hh2
  rw [sk 8 (by omega) (by omega), hA 1 (by omega)] at hh2
  rw [hA 16 (by omega)] at hm9
  by_cases h4 : k < (ν 17 p).toNat
  · have hsig : σ1.1 (A1 14 (4 * p + (k : Int).toNat)) = some (.inl (9, [vi (ν 16 (4 * p + k)), vi (ν 15 (4 * p + k))])) := by
      have := hR.2.2.2.1.2.2 p k lT' (by rw [sk 17 (by omega) (by omega)]; omega)
      rw [sk 16 (by omega) (by omega), sk 15 (by omega) (by omega)] at this
      exact this
    have q16 := q2 (4 * p + k) (by omega)
    have li := klt hR hhi
    have ls := klt hR hsig
    have lk := klt hR hh0
    have lk2 := klt hR hh2
    have nx : ∀ k' i' j' e', A1 (20 + k') i' = 1 → kcell G A1 (msendk p k ν) k' i' j' = some e' → A1 k' i' + j' ≠ it := fun k' i' j' e' hl hc e9 => by
      have := (hR.2.1 k' i' j' e' hl hc).2.2.2
      rw [e9, gset_self] at this; cases this
    have hsi : A1 14 (4 * p + (k : Int).toNat) ≠ it := by intro e; rw [e, hhi] at hsig; cases hsig
    have hki : A 0 0 ≠ it := by have := nx 0 0 0 _ l0' rfl; rw [hA 0 (by omega)] at this; exact this
    have hki2 : A 0 0 + 2 ≠ it := by have := nx 0 0 2 _ l0' rfl; rw [hA 0 (by omega)] at this; exact this
    have hR2 := ksetF hR (a := it) (e := .inl (11, [vi ((k + 1 : Nat) : Int), vi (k : Int), vi (A 16 p), vr (A 2 p + 4)])) (gset_self _ _ _) rfl
    rw [gset_2] at hR2
    have es : msendk p (k + 1) ν = msend (ν 16 (4 * p + k)).toNat (ν 15 (4 * p + k)) (msendk p k ν) := rfl
    have hq6 : (ν 16 (4 * p + k)).toNat < 6 := by omega
    have m8 : msendk p k ν 8 = ν 8 := sk 8 (by omega) (by omega)
    have s14 := sr (ν 16 (4 * p + k)).toNat hq6
    by_cases h8 : ν 8 (ν 16 (4 * p + k)).toNat = 1
    · have hif : (if (ν 16 (4 * p + k)).toNat < 6 ∧ ν 8 (ν 16 (4 * p + k)).toNat = 1 then some (A 1 (ν 16 (4 * p + k)).toNat) else none) = some (A 1 (ν 16 (4 * p + k)).toNat) := if_pos ⟨hq6, h8⟩
      have lQ : A1 21 (ν 16 (4 * p + k)).toNat = 1 := by rw [hA 21 (by omega)]; exact (bx_out lP _ hq6).mpr h8
      have hhp := (hR.2.1 1 _ 0 _ lQ rfl).1
      have hhs := (hR.2.1 1 _ 2 _ lQ rfl).1
      have hht := (hR.2.1 1 _ 3 _ lQ rfl).1
      have np0 := nx 1 _ 0 _ lQ rfl
      have np2 := nx 1 _ 2 _ lQ rfl
      have np3 := nx 1 _ 3 _ lQ rfl
      have bP := (hR.2.1 1 _ 0 _ lQ rfl).2.2.1
      have m15 := (hR.2.2.2.2.1 (ν 16 (4 * p + k)).toNat).2.1
      rw [hA 1 (by omega)] at hhp hhs hht np0 np2 np3 bP
      have hy9 : (fun k' : Nat => if (k' : Int) < ν 17 p then some (A1 14 (4 * p + k')) else none) (k : Int).toNat = some (A1 14 (4 * p + (k : Int).toNat)) := if_pos (by omega)
      by_cases h14 : msendk p k ν 14 (ν 16 (4 * p + k)).toNat < 4
      · have l3 := klt hR hht
        have h4' : ∀ q, A1 21 q = 1 → msendk p k ν 14 q ≤ 4 := fun q hq => by
          rcases Nat.lt_or_ge q 6 with y | y
          · exact (sr q y).2
          · rw [hA 21 (by omega)] at hq; exact absurd hq (bx_out lP6 q y)
        refine ends_a hG hhi hhl hhb hbi ⟨by omega, by omega⟩ (by omega) (by omega) hy9 hsig (by omega) hh0 hh2 hsi hki hki2 hif hhp hhs hht np0 np2 np3 l3 bP ⟨s14.1, h14⟩ ⟨by omega, by omega⟩ ⟨by omega, by omega⟩ r3 li (bx_in fun y hy => ?_) ?_
        · have hs9 := kr_send hR2 (y := y) (v := ν 15 (4 * p + k)) lQ (by rw [m8]; exact h8) s14.1 h14 h4' (Or.inr hy) rfl rfl
          rw [← es, hA 1 (by omega)] at hs9
          exact bx_out ih (by omega) _ _ k (kRep_le hs9 (by omega)) (fun b hb => by rw [← hA b hb]; funext j; simp only [asig]; grind) (by show m + 20 + (4 - (k + 1)) ≤ σ1.2.2.1; omega) (by show 16 * (m + 20 + (4 - (k + 1))) ≤ σ1.2.2.2; omega) r3
        · have hs9 := kr_send (knew hR2 (e := .inl (12, [vi (ν 15 (4 * p + k))])) (c := σ1.2.2.1 - 1) (s := σ1.2.2.2 - 1) r3) (y := σ1.2.1) (v := ν 15 (4 * p + k)) lQ (by rw [m8]; exact h8) s14.1 h14 h4' (Or.inl (gset_self _ _ _)) rfl rfl
          rw [← es, hA 1 (by omega)] at hs9
          exact bx_out ih (by omega) _ _ k (kRep_le hs9 (by omega)) (fun b hb => by rw [← hA b hb]; funext j; simp only [asig]; grind) (by show m + 20 + (4 - (k + 1)) ≤ σ1.2.2.1 - 1; omega) (by show 16 * (m + 20 + (4 - (k + 1))) ≤ σ1.2.2.2 - 1; omega) (by show gBase G ≤ σ1.2.1 + 1; omega)
      · have e9 : msend (ν 16 (4 * p + k)).toNat (ν 15 (4 * p + k)) (msendk p k ν) = msendk p k ν := by
          unfold msend
          rw [if_neg (fun q => h14 q.2)]
        rw [← e9, ← es] at hR2
        exact ends_f hG hhi hhl hhb hbi ⟨by omega, by omega⟩ (by omega) (by omega) hy9 hsig (by omega) hh0 hh2 hsi hki hki2 hif hhp hhs np0 np2 ⟨by omega, s14.2⟩ (bx_out ih (by omega) A1 _ k (kRep_le hR2 (by omega)) hA (by show m + 20 + (4 - (k + 1)) ≤ σ1.2.2.1; omega) (by show 16 * (m + 20 + (4 - (k + 1))) ≤ σ1.2.2.2; omega) r3)
    · have hif : (if (ν 16 (4 * p + k)).toNat < 6 ∧ ν 8 (ν 16 (4 * p + k)).toNat = 1 then some (A 1 (ν 16 (4 * p + k)).toNat) else none) = none := if_neg (fun q => h8 q.2)
      have hy9 : (fun k' : Nat => if (k' : Int) < ν 17 p then some (A1 14 (4 * p + k')) else none) (k : Int).toNat = some (A1 14 (4 * p + (k : Int).toNat)) := if_pos (by omega)
      have e9 : msend (ν 16 (4 * p + k)).toNat (ν 15 (4 * p + k)) (msendk p k ν) = msendk p k ν := by
        unfold msend
        rw [m8, if_neg (fun q => h8 q.1)]
      rw [← e9, ← es] at hR2
      exact ends_n hG hhi hhl hhb hbi ⟨by omega, by omega⟩ (by omega) (by omega) hy9 hsig (by omega) hh0 hh2 hsi hki hki2 hif (bx_out ih (by omega) A1 _ k (kRep_le hR2 (by omega)) hA (by show m + 20 + (4 - (k + 1)) ≤ σ1.2.2.1; omega) (by show 16 * (m + 20 + (4 - (k + 1))) ≤ σ1.2.2.2; omega) r3)
  · have e : k = (ν 17 p).toNat := by omega
    subst e
    refine okc_l hG (o := 1) (M := mX1_ends) (by decide) rfl okX1_ends (fun pc => Nat.beq pc 155 || Nat.beq pc 242) ?_
    repeat' (first | ((conv => whnf); first | refine And.intro ?_ ?_ | (intro _ h9; cases h9; first | exact Or.inl ⟨_, (by first | assumption | exact gset_self _ _ _ | (refine (gset_ne (by first | omega | (dsimp only; omega))).trans ?_; first | assumption | exact gset_self _ _ _ | (refine (gset_ne (by first | omega | (dsimp only; omega))).trans ?_; first | assumption | exact gset_self _ _ _ | (refine (gset_ne (by first | omega | (dsimp only; omega))).trans ?_; first | assumption | exact gset_self _ _ _ | (refine (gset_ne (by first | omega | (dsimp only; omega))).trans ?_; first | assumption | exact gset_self _ _ _ | (refine (gset_ne (by first | omega | (dsimp only; omega))).trans ?_; first | assumption | exact gset_self _ _ _))))))⟩ | exact gBx_obj (by assumption)) | (intro _ h9; obtain rfl := Option.some.inj h9) | (intro h9; replace h9 := okI_t h9; conv at h9 => whnf) | (intro h9; replace h9 := okI_r h9; clear h9) | (intro h9; first | exact absurd h9 (Option.some_ne_none _) | exact absurd h9.symm (Option.some_ne_none _) | exact absurd h9 (by decide) | exact absurd rfl h9) | (intro h9) | refine sJ22_hasNext hG (by first | assumption | exact gset_self _ _ _ | (refine (gset_ne (by first | omega | (dsimp only; omega))).trans ?_; first | assumption | exact gset_self _ _ _ | (refine (gset_ne (by first | omega | (dsimp only; omega))).trans ?_; first | assumption | exact gset_self _ _ _ | (refine (gset_ne (by first | omega | (dsimp only; omega))).trans ?_; first | assumption | exact gset_self _ _ _ | (refine (gset_ne (by first | omega | (dsimp only; omega))).trans ?_; first | assumption | exact gset_self _ _ _ | (refine (gset_ne (by first | omega | (dsimp only; omega))).trans ?_; first | assumption | exact gset_self _ _ _)))))) (by first | assumption | exact gset_self _ _ _ | (refine (gset_ne (by first | omega | (dsimp only; omega))).trans ?_; first | assumption | exact gset_self _ _ _ | (refine (gset_ne (by first | omega | (dsimp only; omega))).trans ?_; first | assumption | exact gset_self _ _ _ | (refine (gset_ne (by first | omega | (dsimp only; omega))).trans ?_; first | assumption | exact gset_self _ _ _ | (refine (gset_ne (by first | omega | (dsimp only; omega))).trans ?_; first | assumption | exact gset_self _ _ _ | (refine (gset_ne (by first | omega | (dsimp only; omega))).trans ?_; first | assumption | exact gset_self _ _ _)))))) ?_ ?_ ?_ ?_ | refine ⟨_, _, _, rfl, (by first | assumption | exact gset_self _ _ _ | (refine (gset_ne (by first | omega | (dsimp only; omega))).trans ?_; first | assumption | exact gset_self _ _ _ | (refine (gset_ne (by first | omega | (dsimp only; omega))).trans ?_; first | assumption | exact gset_self _ _ _ | (refine (gset_ne (by first | omega | (dsimp only; omega))).trans ?_; first | assumption | exact gset_self _ _ _ | (refine (gset_ne (by first | omega | (dsimp only; omega))).trans ?_; first | assumption | exact gset_self _ _ _ | (refine (gset_ne (by first | omega | (dsimp only; omega))).trans ?_; first | assumption | exact gset_self _ _ _)))))), rfl, ?_⟩ | refine ⟨_, _, rfl, (by first | assumption | exact gset_self _ _ _ | (refine (gset_ne (by first | omega | (dsimp only; omega))).trans ?_; first | assumption | exact gset_self _ _ _ | (refine (gset_ne (by first | omega | (dsimp only; omega))).trans ?_; first | assumption | exact gset_self _ _ _ | (refine (gset_ne (by first | omega | (dsimp only; omega))).trans ?_; first | assumption | exact gset_self _ _ _ | (refine (gset_ne (by first | omega | (dsimp only; omega))).trans ?_; first | assumption | exact gset_self _ _ _ | (refine (gset_ne (by first | omega | (dsimp only; omega))).trans ?_; first | assumption | exact gset_self _ _ _)))))), ?_, ?_, ?_, ?_, ?_, ?_⟩ | refine ⟨_, _, _, rfl, (by first | assumption | exact gset_self _ _ _ | (refine (gset_ne (by first | omega | (dsimp only; omega))).trans ?_; first | assumption | exact gset_self _ _ _ | (refine (gset_ne (by first | omega | (dsimp only; omega))).trans ?_; first | assumption | exact gset_self _ _ _ | (refine (gset_ne (by first | omega | (dsimp only; omega))).trans ?_; first | assumption | exact gset_self _ _ _ | (refine (gset_ne (by first | omega | (dsimp only; omega))).trans ?_; first | assumption | exact gset_self _ _ _ | (refine (gset_ne (by first | omega | (dsimp only; omega))).trans ?_; first | assumption | exact gset_self _ _ _)))))), ?_, ?_, ?_⟩ | refine ⟨_, _, _, _, rfl, (by first | assumption | exact gset_self _ _ _ | (refine (gset_ne (by first | omega | (dsimp only; omega))).trans ?_; first | assumption | exact gset_self _ _ _ | (refine (gset_ne (by first | omega | (dsimp only; omega))).trans ?_; first | assumption | exact gset_self _ _ _ | (refine (gset_ne (by first | omega | (dsimp only; omega))).trans ?_; first | assumption | exact gset_self _ _ _ | (refine (gset_ne (by first | omega | (dsimp only; omega))).trans ?_; first | assumption | exact gset_self _ _ _ | (refine (gset_ne (by first | omega | (dsimp only; omega))).trans ?_; first | assumption | exact gset_self _ _ _)))))), ?_, ?_, ?_, ?_⟩ | refine ⟨_, _, _, _, rfl, (by first | assumption | exact gset_self _ _ _ | (refine (gset_ne (by first | omega | (dsimp only; omega))).trans ?_; first | assumption | exact gset_self _ _ _ | (refine (gset_ne (by first | omega | (dsimp only; omega))).trans ?_; first | assumption | exact gset_self _ _ _ | (refine (gset_ne (by first | omega | (dsimp only; omega))).trans ?_; first | assumption | exact gset_self _ _ _ | (refine (gset_ne (by first | omega | (dsimp only; omega))).trans ?_; first | assumption | exact gset_self _ _ _ | (refine (gset_ne (by first | omega | (dsimp only; omega))).trans ?_; first | assumption | exact gset_self _ _ _)))))), ?_, ?_, ?_, ?_, ?_, ?_⟩ | refine ⟨_, _, rfl, Or.inl ⟨_, (by first | assumption | exact gset_self _ _ _ | (refine (gset_ne (by first | omega | (dsimp only; omega))).trans ?_; first | assumption | exact gset_self _ _ _ | (refine (gset_ne (by first | omega | (dsimp only; omega))).trans ?_; first | assumption | exact gset_self _ _ _ | (refine (gset_ne (by first | omega | (dsimp only; omega))).trans ?_; first | assumption | exact gset_self _ _ _ | (refine (gset_ne (by first | omega | (dsimp only; omega))).trans ?_; first | assumption | exact gset_self _ _ _ | (refine (gset_ne (by first | omega | (dsimp only; omega))).trans ?_; first | assumption | exact gset_self _ _ _))))))⟩, ?_, ?_⟩ | refine ⟨_, Or.inl ⟨_, _, _, rfl, (by first | assumption | exact gset_self _ _ _ | (refine (gset_ne (by first | omega | (dsimp only; omega))).trans ?_; first | assumption | exact gset_self _ _ _ | (refine (gset_ne (by first | omega | (dsimp only; omega))).trans ?_; first | assumption | exact gset_self _ _ _ | (refine (gset_ne (by first | omega | (dsimp only; omega))).trans ?_; first | assumption | exact gset_self _ _ _ | (refine (gset_ne (by first | omega | (dsimp only; omega))).trans ?_; first | assumption | exact gset_self _ _ _ | (refine (gset_ne (by first | omega | (dsimp only; omega))).trans ?_; first | assumption | exact gset_self _ _ _)))))), ?_⟩, ?_, ?_⟩ | refine ⟨0, Or.inr ⟨rfl, rfl⟩, ?_, ?_⟩ | exact ⟨_, rfl⟩ | refine ⟨_, rfl, ?_, ?_, ?_⟩ | refine ⟨3, ⟨by decide, by decide⟩, rfl, ?_, ?_, ?_, ?_⟩ | refine ⟨4, ⟨by decide, by decide⟩, rfl, ?_, ?_, ?_, ?_⟩ | refine ⟨5, ⟨by decide, by decide⟩, rfl, ?_, ?_, ?_, ?_⟩ | refine ⟨6, ⟨by decide, by decide⟩, rfl, ?_, ?_, ?_, ?_⟩ | refine ⟨0, by decide, rfl, ?_, ?_, ?_, ?_⟩ | refine ⟨1, by decide, rfl, ?_, ?_, ?_, ?_⟩ | refine ⟨2, by decide, rfl, ?_, ?_, ?_, ?_⟩ | refine ⟨_, _, (by first | assumption | exact gset_self _ _ _ | (refine (gset_ne (by first | omega | (dsimp only; omega))).trans ?_; first | assumption | exact gset_self _ _ _ | (refine (gset_ne (by first | omega | (dsimp only; omega))).trans ?_; first | assumption | exact gset_self _ _ _ | (refine (gset_ne (by first | omega | (dsimp only; omega))).trans ?_; first | assumption | exact gset_self _ _ _ | (refine (gset_ne (by first | omega | (dsimp only; omega))).trans ?_; first | assumption | exact gset_self _ _ _ | (refine (gset_ne (by first | omega | (dsimp only; omega))).trans ?_; first | assumption | exact gset_self _ _ _)))))), ?_, ?_, ?_⟩ | refine ⟨_, _, _, rfl, (by first | assumption | exact gset_self _ _ _ | (refine (gset_ne (by first | omega | (dsimp only; omega))).trans ?_; first | assumption | exact gset_self _ _ _ | (refine (gset_ne (by first | omega | (dsimp only; omega))).trans ?_; first | assumption | exact gset_self _ _ _ | (refine (gset_ne (by first | omega | (dsimp only; omega))).trans ?_; first | assumption | exact gset_self _ _ _ | (refine (gset_ne (by first | omega | (dsimp only; omega))).trans ?_; first | assumption | exact gset_self _ _ _ | (refine (gset_ne (by first | omega | (dsimp only; omega))).trans ?_; first | assumption | exact gset_self _ _ _)))))), ?_, ?_⟩ | refine ⟨_, 12, rfl, gBx_obj (by assumption), ?_, ?_⟩ | refine ⟨_, rfl, ?_⟩) | exact rfl | omega | (simp only [mlen]; omega) | exact Nat.le_of_ble_eq_true rfl | exact Or.inl rfl | exact Or.inr rfl | assumption | exact True.intro | (dsimp only; omega) | (simp only [gN1, gN2, gN4, gN5, gN6, gN7, gN8, gN9, gN10, gN11]; omega) | decide)
    exact bx_out hQ A1 σ1 _ (kRep_le hR (by omega)) hA (by omega) (by omega) r3
end KG
