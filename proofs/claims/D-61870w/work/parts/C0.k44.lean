/-! the kernel's public members (1) -/
section KG
variable {G : gG} {n m n' m' fr rc rs : Nat} {A A' : kA} {X X' : kX} {σ σ' σ0 σ2 : gS} {μ μ' : mS} {Q : gO → gS → Prop}
/-- what a public member answers: r is the model's answer and state, l says which exception stands for which code -/
def kOut (G : gG) (n m : Nat) (A : kA) (X : kX) (c : Int) (r : Int × mS) (l : List (Nat × Int)) (Q : gO → gS → Prop) : Prop :=
  (r.2 26 0 = 0 → kAll c r.2 → ∀ A' σ', A' 0 0 = A 0 0 → kSt G n m A' X σ' r.2 → Q (.inl (some (vi r.1))) σ') ∧
  (∀ A' x σ' k, (k, r.2 26 0) ∈ l → kAll c r.2 → A' 0 0 = A 0 0 → kSt G n m A' X σ' r.2 → σ'.1 x = some (.inl (k, [])) → Q (.inr x) σ')
theorem kOut_v {r : Int × mS} {l : List (Nat × Int)} {v c : Int} {ν : mS} (h : bx 0 (kOut G n m A X c r l Q)) (e : r = (v, ν)) (h0 : ν 26 0 = 0) (hK : kAll c ν) (hA : A' 0 0 = A 0 0) (hS : kSt G n m A' X σ ν) : Q (.inl (some (vi v))) σ := by
  subst e
  exact (bx_out h).1 h0 hK A' σ hA hS
theorem kOut_x {r : Int × mS} {l : List (Nat × Int)} {v c : Int} {ν : mS} {x k : Nat} (h : bx 0 (kOut G n m A X c r l Q)) (e : r = (v, ν)) (hc : (k, ν 26 0) ∈ l) (hK : kAll c ν) (hA : A' 0 0 = A 0 0) (hS : kSt G n m A' X σ ν) (hx : σ.1 x = some (.inl (k, []))) : Q (.inr x) σ := by
  subst e
  exact (bx_out h).2 A' x σ k hc hK hA hS hx
/-- an exception of a check -/
theorem kOut_t {r : Int × mS} {l : List (Nat × Int)} {z c : Int} {ν : mS} {k : Nat} {v : Int} (h : bx 0 (kOut G n m A X c r l Q)) (e : r = (z, mup ν 26 0 v)) (hc : (k, v) ∈ l) (hK : kAll c ν) (hA : A' 0 0 = A 0 0) : kTh Q G n m A' X ν k :=
  bx_in fun x σ' hS hx => kOut_x h e (by rw [mup_ss]; exact hc) (kAll_26 (by omega) hK) hA (kSt_29 hS (by omega)) hx
theorem kSt_plain {p : Nat} (hS : kSt G n m A X σ μ) (hp : p < 6) : kSt G n m A X σ (mplain p μ) := by
  have hB := (hS.2.1.2.2.2.2.2 p).2.2.2.1
  have c2 := hS.2.1.2.1 p hp
  unfold mplain
  rcases hB with g | g
  · rw [if_pos g]
    have d22 : A 22 p ≠ 1 := fun q => by have := c2.2.1.mp q; omega
    have n11 : ¬ 0 < μ 11 p := fun q => by have := c2.2.2.2.1 q; omega
    have e : ∀ b, b < 26 → ¬ (b = 7 ∨ b = 12 ∨ b = 20 ∨ b = 21 ∨ b = 23) → mup (menter p μ) 9 p 0 b = μ b := fun b h1 h2 => by
      by_cases z : b = 9
      · subst z
        funext j
        show (if _ then _ else _) = _
        by_cases w : j = p
        · rw [if_pos ⟨rfl, w⟩, w, g]
        · rw [if_neg (fun q => w q.2), menter_9 g, if_neg w]
      · rw [mup_other _ _ _ z, menter_o h1 (by omega)]
    have e20 : ∀ j, ¬ j / 4 = p → mup (menter p μ) 9 p 0 20 j = μ 20 j := fun j hj => by rw [mup_other _ _ _ (by omega), menter_20 g, if_neg hj]
    have e21 : ∀ j, ¬ j / 4 = p → mup (menter p μ) 9 p 0 21 j = μ 21 j := fun j hj => by rw [mup_other _ _ _ (by omega), menter_21 g, if_neg hj]
    have e12 : ∀ j, j ≠ p → mup (menter p μ) 9 p 0 12 j = μ 12 j := fun j hj => by rw [mup_other _ _ _ (by omega), menter_12 g, if_neg hj]
    generalize mup (menter p μ) 9 p 0 = ν at *
    have n25 : ∀ i, A 25 i = 1 → ¬ i / 4 = p := fun i hi ee => by
      have := ((hS.2.1.2.2.2.1 i (by omega)).2.mp hi).1
      rw [ee] at this; omega
    obtain ⟨t1, t2, t3, t4, t5⟩ := hS.2.1.2.2.2.2.1
    have np : ∀ k, k < A 18 0 → A 11 k ≠ p := fun k hk ee => by have := (t3 k hk).2; rw [ee] at this; exact n11 this
    refine ⟨ksub hS.1 (fun k i h7 hl => ⟨hl, rfl, fun j => ?_⟩) rfl (kimm_c hS.1.2.2.2.1 (fun a ha => e a (by omega) (by omega))) hS.1.2.2.2.2.1, ?_, hS.2.2⟩
    · rcases k with _ | _ | _ | _ | _ | _ | _ | k
      · rcases i with _ | i
        · rcases j with _ | _ | _ | _ | j
          · simp only [kcell, kc0, e 24 (by omega) (by omega), e 25 (by omega) (by omega), e 22 (by omega) (by omega)]
          · simp only [kcell, kc0, e 0 (by omega) (by omega)]
          · simp only [kcell, kc0, e 8 (by omega) (by omega)]
          · rfl
          · rfl
        · rfl
      · simp only [kcell]; unfold kc1; rw [e 10 (by omega) (by omega), e 11 (by omega) (by omega), e 14 (by omega) (by omega), e 18 (by omega) (by omega)]
      · have w : i ≠ p := by intro ee; subst ee; exact d22 hl
        have f20 : (fun d => if d < 4 ∧ 0 ≤ ν 20 (4 * i + d) then some (A 5 (4 * i + d)) else none) = fun d => if d < 4 ∧ 0 ≤ μ 20 (4 * i + d) then some (A 5 (4 * i + d)) else none := funext fun d => by
          by_cases z : d < 4
          · rw [e20 _ (by omega)]
          · rw [if_neg (fun y => z y.1), if_neg (fun y => z y.1)]
        simp only [kcell]; unfold kc2; rw [e 0 (by omega) (by omega), e 5 (by omega) (by omega), e 6 (by omega) (by omega), e 17 (by omega) (by omega), f20]
      · simp only [kcell]; unfold kslot kcF kcL; rw [e 0 (by omega) (by omega), e 1 (by omega) (by omega), e 2 (by omega) (by omega), e 3 (by omega) (by omega)]
      · simp only [kcell, e 18 (by omega) (by omega), e 19 (by omega) (by omega)]
      · have w := n25 i hl
        simp only [kcell, e20 i w, e21 i w]
      · rfl
      · omega
    · obtain ⟨c1, c2', c3, c4, c5, c6⟩ := hS.2.1
      unfold kCon
      rw [e 0 (by omega) (by omega), e 5 (by omega) (by omega), e 8 (by omega) (by omega), e 9 (by omega) (by omega), e 11 (by omega) (by omega), e 18 (by omega) (by omega)]
      refine ⟨c1, c2', c3, fun x hx => ⟨(c4 x hx).1, ?_⟩, ⟨t1, t2, t3, t4, fun k k' h1 h2 => ?_⟩, kB_c c6 (fun a ha => e a (by omega) (by omega))⟩
      · by_cases z : x / 4 = p
        · rw [(c4 x hx).2, z, g]
          constructor
          · intro h; omega
          · intro h; omega
        · rw [e20 x z]; exact (c4 x hx).2
      · rw [e12 _ (np k (by omega)), e12 _ (np k' h2)]
        exact t5 k k' h1 h2
  · rw [if_neg (by omega)]
    exact kSt_c hS (fun a h1 h2 h3 => menter_g (by omega) h1 h2)
end KG
