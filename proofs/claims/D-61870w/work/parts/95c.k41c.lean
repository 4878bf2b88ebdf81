/-! the kernel's heap: a descriptor is made; it is changed, forgotten -/
section KG
variable {G : gG} {n m n' m' fr rc rs : Nat} {A A' : kA} {X X' : kX} {σ σ' σ0 σ2 : gS} {μ μ' : mS} {Q : gO → gS → Prop}
def anewD (A : kA) (x a : Nat) : kA := fun b j => if b = 4 ∧ j = x then a else if b = 24 ∧ j = x then 1 else if b = 30 ∧ j = a then a else A b j
theorem anewD_o {x a k : Nat} (h : ¬ (k = 4 ∨ k = 24 ∨ k = 30)) : anewD A x a k = A k := by funext j; simp only [anewD]; grind
theorem kr_desc (h : kRep G n A X σ μ) {p d x a : Nat} {v pl : Int} (hd : d < 4) (hx : x = 4 * p + d) (hl : A 21 p = 1) (hl0 : A 24 x ≠ 1) (ha : gBase G ≤ a) (hb : ∀ k i, k < 7 → A (20 + k) i = 1 → A k i < a) (hc0 : ∀ k i j e, A (20 + k) i = 1 → kcell G A μ k i j = some e → A k i + j < a) (hXa : X a = none) (hv : 0 ≤ v) (g0 : σ.1 a = some (kdc v pl))
    {e2 : gE} (he2 : e2 = .inr (6, 4, .inr (.inl (va_up (fun d => if d < 4 ∧ 0 ≤ μ 18 (4 * p + d) then some (A 4 (4 * p + d)) else none) d (some a))))) : kRep G n (anewD A x a) X (gset σ.1 (A 1 p + 1) e2, σ.2) (mup (mup μ 18 x v) 19 x pl) := by
  have r := ch1_ok (e' := e2) h (k0 := 1) (i0 := p) (j0 := 1) hl rfl
  have hh := h.2.1 1 p 1 _ hl rfl
  have c1 := hc0 1 p 1 _ hl rfl
  have o := fun k (hk : ¬ (k = 4 ∨ k = 24 ∨ k = 30)) => anewD_o (A := A) (x := x) (a := a) hk
  have u : ∀ b, ¬ (b = 18 ∨ b = 19) → mup (mup μ 18 x v) 19 x pl b = μ b := fun b hb => by rw [mup_other _ _ _ (by omega), mup_other _ _ _ (by omega)]
  have u18 : ∀ j, mup (mup μ 18 x v) 19 x pl 18 j = if j = x then v else μ 18 j := fun j => by simp only [mup]; grind
  have u19 : ∀ j, mup (mup μ 18 x v) 19 x pl 19 j = if j = x then pl else μ 19 j := fun j => by simp only [mup]; grind
  generalize mup (mup μ 18 x v) 19 x pl = ν at *
  have a4 : ∀ s, anewD A x a 4 s = if s = x then a else A 4 s := fun s => by simp only [anewD]; grind
  have a30 : ∀ b, b < a → anewD A x a 30 b = A 30 b := fun b hb => by simp only [anewD]; grind
  have a30a : anewD A x a 30 a = a := by simp [anewD]
  have lv : ∀ k i, k < 7 → anewD A x a (20 + k) i = 1 → ¬ (k = 4 ∧ i = x) → A (20 + k) i = 1 := fun k i hk h1 h2 => by
    simp only [anewD] at h1; grind
  refine kgen h a (fun k i => k = 4 ∧ i = x) _ r.1 r.2.2 ?_ ?_ a30 hc0 hb ha ?_ r.2.1 ?_ ?_
  · intro k i h7 hli hn
    have l1 := lv k i h7 hli hn
    refine ⟨l1, ?_, fun j z hz => ?_⟩
    · by_cases w : k = 4
      · subst w; rw [a4, if_neg (by omega)]
      · rw [o k (by omega)]
    · unfold ch1
      by_cases q2 : k = 1 ∧ i = p ∧ j = 1
      · obtain ⟨rfl, rfl, rfl⟩ := q2
        refine ⟨_, rfl, ?_⟩
        rw [if_pos ⟨rfl, rfl, rfl⟩, he2]
        refine Option.some.inj (Eq.trans ?_ hz)
        refine congrArg (fun f => some (Sum.inr (6, 4, Sum.inr (Sum.inl f)))) (funext fun s => ?_)
        simp only [va_up, u18, a4]
        by_cases w : s = d
        · subst w
          rw [← hx]
          simp [hd, hv]
        · have : ¬ 4 * i + s = x := by omega
          simp [w, this]
      · refine ⟨z, ?_, by rw [if_neg q2]; rfl⟩
        rw [← hz]
        rcases k with _ | _ | _ | _ | _ | _ | _ | k
        · rcases i with _ | i
          · rcases j with _ | _ | _ | _ | j
            · simp only [kcell, kc0, o 0 (by omega), u 24 (by omega), u 25 (by omega), u 22 (by omega)]
            · simp only [kcell, kc0, o 3 (by omega), u 0 (by omega)]
            · simp only [kcell, kc0, o 1 (by omega), u 8 (by omega)]
            · simp only [kcell, kc0, o 10 (by omega), o 26 (by omega), o 6 (by omega), o 18 (by omega)]
            · rfl
          · rfl
        · rcases j with _ | _ | _ | _ | j
          · simp only [kcell, kc1, o 1 (by omega), o 2 (by omega), o 9 (by omega), u 11 (by omega), u 10 (by omega)]
          · have w : i ≠ p := by omega
            refine congrArg (fun f => some (Sum.inr (6, 4, Sum.inr (Sum.inl f)))) (funext fun s => ?_)
            by_cases z4 : s < 4
            · rw [u18, a4, if_neg (show ¬ 4 * i + s = x by omega), if_neg (show ¬ 4 * i + s = x by omega)]
            · rw [if_neg (fun y => z4 y.1), if_neg (fun y => z4 y.1)]
          · simp only [kcell, kc1, o 1 (by omega), o 15 (by omega), u 14 (by omega)]
          · simp only [kcell, kc1, o 13 (by omega), u 14 (by omega)]
          · rfl
        · simp only [kcell]; unfold kc2; rw [u 0 (by omega), u 5 (by omega), u 6 (by omega), u 17 (by omega), u 20 (by omega), o 1 (by omega), o 2 (by omega), o 3 (by omega), o 5 (by omega), o 14 (by omega), o 16 (by omega), o 19 (by omega)]
        · simp only [kcell]; unfold kslot kcF kcL; rw [u 0 (by omega), u 1 (by omega), u 2 (by omega), u 3 (by omega), o 3 (by omega), o 12 (by omega), o 17 (by omega)]
        · have w : ¬ i = x := by omega
          simp only [kcell, u18, u19, if_neg w]
        · simp only [kcell, u 20 (by omega), u 21 (by omega)]
        · simp only [kcell, o 2 (by omega), o 11 (by omega), o 18 (by omega)]
        · omega
  · rintro k i h7 ⟨rfl, rfl⟩
    rw [a4, if_pos rfl]
    refine ⟨Nat.le_refl _, fun j z hz => ?_⟩
    rcases j with _ | j
    · refine ⟨?_, a30a, hXa⟩
      show gset σ.1 (A 1 p + 1) e2 a = _
      rw [gset_ne (by omega), ← hz]
      simp only [kcell, u18, u19, if_pos]
      exact g0
    · cases hz
  · rintro k i k' i' ⟨rfl, rfl⟩ ⟨rfl, rfl⟩ -
    exact ⟨rfl, rfl⟩
  · exact kimm_A (kimm_c (kimm_set h.2.2.2.1 hh.1 rfl) (fun b hb => u b (by omega))) (fun b hb => o b (by omega))
  · intro i
    rw [o 10 (by omega), o 15 (by omega), o 16 (by omega), o 17 (by omega)]
    exact h.2.2.2.2.1 i
theorem kSt_desc (hS : kSt G n (m + 1) A X σ μ) {p d x : Nat} {v pl : Int} (hp : p < 6) (hd : d < 4) (hx : x = 4 * p + d) (h8 : μ 8 p = 1) (hneg : μ 18 x < 0) (hv : 0 ≤ v) (hr : mRs μ)
    {e1 e2 : gE} (he1 : e1 = kdc v pl) (he2 : e2 = .inr (6, 4, .inr (.inl (va_up (fun d => if d < 4 ∧ 0 ≤ μ 18 (4 * p + d) then some (A 4 (4 * p + d)) else none) d (some σ.2.1))))) : kSt G n m (anewD (arng A) x σ.2.1) X (gset (gset σ.1 σ.2.1 e1) (A 1 p + 1) e2, σ.2.1 + 1, σ.2.2.1 - 1, σ.2.2.2 - 3) (mup (mup μ 18 x v) 19 x pl) := by
  have hS0 := kSt_rg hS
  have kb : ∀ k i, k < 7 → arng A (20 + k) i = 1 → arng A k i < σ.2.1 := fun k i h7 hl => kbase hS0 kRg_arng (fun s hs => ⟨(hr.1 s hs).1, (hr.1 s hs).2.1⟩) h7 hl
  have hk := kSt_new hS0 (e := e1) (s := 3) (by omega)
  have g1 : arng A 1 = A 1 := arng_o (by omega)
  have g4 : arng A 4 = A 4 := arng_o (by omega)
  have hR := kr_desc (e2 := e2) (v := v) (pl := pl) hk.1 hd hx ((hS0.2.1.2.1 p hp).1.mpr h8) (fun q => by have := ((hS0.2.1.2.2.2.1 x (by omega)).1.mp q).2; omega) hS.2.2.2.2 kb (fun k i j e hl hc => klt hS0.1 (hS0.1.2.1 k i j e hl hc).1) (kXn hS.1 (Nat.le_refl _)) hv (by rw [← he1]; exact gset_self _ _ _) (by rw [g4]; exact he2)
  rw [g1] at hR
  refine ⟨hR, ?_, hk.2.2⟩
  obtain ⟨c1, c2, c3, c4, c5, c6⟩ := hS0.2.1
  have o := fun k (hk : ¬ (k = 4 ∨ k = 24 ∨ k = 30)) => anewD_o (A := arng A) (x := x) (a := σ.2.1) hk
  have u : ∀ b, ¬ (b = 18 ∨ b = 19) → mup (mup μ 18 x v) 19 x pl b = μ b := fun b hb => by rw [mup_other _ _ _ (by omega), mup_other _ _ _ (by omega)]
  have u18 : ∀ j, mup (mup μ 18 x v) 19 x pl 18 j = if j = x then v else μ 18 j := fun j => by simp only [mup]; grind
  have a24 : ∀ s, anewD (arng A) x σ.2.1 24 s = if s = x then 1 else arng A 24 s := fun s => by simp only [anewD]; grind
  unfold kCon
  rw [o 20 (by omega), o 21 (by omega), o 22 (by omega), o 9 (by omega), o 19 (by omega), o 23 (by omega), o 25 (by omega), o 18 (by omega), o 26 (by omega), o 11 (by omega), u 8 (by omega), u 9 (by omega), u 11 (by omega), u 5 (by omega), u 0 (by omega), u 20 (by omega), u 12 (by omega)]
  refine ⟨c1, c2, c3, fun y hy => ⟨?_, (c4 y hy).2⟩, c5, kB_c c6 (fun a ha => u a (by omega))⟩
  rw [a24, u18]
  by_cases z : y = x
  · subst z
    rw [if_pos rfl, if_pos rfl, show y / 4 = p by omega]
    simp [h8, hv]
  · rw [if_neg z, if_neg z]; exact (c4 y hy).1
/-- the place of a descriptor changes -/
theorem kSt_place (hS : kSt G n m A X σ μ) {x : Nat} {pl : Int} (hx : x < 24) (h8 : μ 8 (x / 4) = 1) (h18 : 0 ≤ μ 18 x) {e1 : gE} (he1 : e1 = kdc (μ 18 x) pl) : kSt G n m A X (gset σ.1 (A 4 x) e1, σ.2) (mup μ 19 x pl) := by
  have hl : A 24 x = 1 := (hS.2.1.2.2.2.1 x hx).1.mpr ⟨h8, h18⟩
  have u : ∀ b, b ≠ 19 → mup μ 19 x pl b = μ b := fun b hb => mup_other _ _ _ hb
  refine ⟨kset hS.1 4 x 0 hl rfl (fun _ _ => rfl) ?_ ?_ (kimm_up hS.1.2.2.2.1 (by omega)) hS.1.2.2.2.2.1, kCon_c hS.2.1 (fun a ha => u a (by omega)) (kB_up hS.2.1.2.2.2.2.2 (by omega)), hS.2.2⟩
  · rw [he1]
    simp [kcell, mup]
  · intro k i j h7 hli hne
    rcases k with _ | _ | _ | _ | _ | _ | _ | k
    · rfl
    · rfl
    · rfl
    · rfl
    · rcases j with _ | j
      · have : ¬ i = x := by omega
        simp only [kcell, mup]; grind
      · rfl
    · rfl
    · rfl
    · omega
/-- a descriptor is forgotten -/
theorem kSt_nod (hS : kSt G n m A X σ μ) {p d x : Nat} (hp : p < 6) (hd : d < 4) (hx : x = 4 * p + d) (h8 : μ 8 p = 1) {e2 : gE} (he2 : e2 = .inr (6, 4, .inr (.inl (va_up (fun d => if d < 4 ∧ 0 ≤ μ 18 (4 * p + d) then some (A 4 (4 * p + d)) else none) d none)))) : kSt G n m (aup A 24 x 0) X (gset σ.1 (A 1 p + 1) e2, σ.2) (mup μ 18 x (-1)) := by
  have hl : A 21 p = 1 := (hS.2.1.2.1 p hp).1.mpr h8
  have r := ch1_ok (e' := e2) hS.1 (k0 := 1) (i0 := p) (j0 := 1) hl rfl
  have hh := hS.1.2.1 1 p 1 _ hl rfl
  have o : ∀ k, k ≠ 24 → aup A 24 x 0 k = A k := fun k hk => by funext b; simp only [aup]; grind
  have a24 : ∀ s, aup A 24 x 0 24 s = if s = x then 0 else A 24 s := fun s => by simp only [aup]; grind
  have u : ∀ b, b ≠ 18 → mup μ 18 x (-1) b = μ b := fun b hb => mup_other _ _ _ hb
  have u18 : ∀ j, mup μ 18 x (-1) 18 j = if j = x then -1 else μ 18 j := fun j => by simp only [mup]; grind
  generalize mup μ 18 x (-1) = ν at *
  refine ⟨kmv hS.1 (fun k i => (k, i)) _ r.1 r.2.2 (o _ (by omega)) (fun k i g1 g2 => ⟨g1, by simp only [aup] at g2; grind, by rw [o k (by omega)]⟩) (fun k i k' i' _ _ _ _ g => ⟨congrArg Prod.fst g, congrArg Prod.snd g⟩) (fun k i j e g1 g2 g3 => ?_) r.2.1 (kimm_A (kimm_c (kimm_set hS.1.2.2.2.1 hh.1 rfl) (fun b hb => u b (by omega))) (fun b hb => o b (by omega))) (fun i => by rw [o 10 (by omega), o 15 (by omega), o 16 (by omega), o 17 (by omega)]; exact hS.1.2.2.2.2.1 i), ?_, hS.2.2⟩
  · unfold ch1
    by_cases q2 : k = 1 ∧ i = p ∧ j = 1
    · obtain ⟨rfl, rfl, rfl⟩ := q2
      refine ⟨_, rfl, ?_⟩
      rw [if_pos ⟨rfl, rfl, rfl⟩, he2]
      refine Option.some.inj (Eq.trans ?_ g3)
      refine congrArg (fun f => some (Sum.inr (6, 4, Sum.inr (Sum.inl f)))) (funext fun s => ?_)
      simp only [va_up, u18, o 4 (by omega)]
      by_cases w : s = d
      · subst w
        rw [← hx]
        simp
      · have : ¬ 4 * i + s = x := by omega
        simp [w, this]
    · refine ⟨e, ?_, by rw [if_neg q2]; rfl⟩
      rw [← g3]
      rcases k with _ | _ | _ | _ | _ | _ | _ | k
      · rcases i with _ | i
        · rcases j with _ | _ | _ | _ | j
          · simp only [kcell, kc0, o 0 (by omega), u 24 (by omega), u 25 (by omega), u 22 (by omega)]
          · simp only [kcell, kc0, o 3 (by omega), u 0 (by omega)]
          · simp only [kcell, kc0, o 1 (by omega), u 8 (by omega)]
          · simp only [kcell, kc0, o 10 (by omega), o 26 (by omega), o 6 (by omega), o 18 (by omega)]
          · rfl
        · rfl
      · rcases j with _ | _ | _ | _ | j
        · simp only [kcell, kc1, o 1 (by omega), o 2 (by omega), o 9 (by omega), u 11 (by omega), u 10 (by omega)]
        · have w : i ≠ p := by omega
          refine congrArg (fun f => some (Sum.inr (6, 4, Sum.inr (Sum.inl f)))) (funext fun s => ?_)
          by_cases z4 : s < 4
          · rw [u18, o 4 (by omega), if_neg (show ¬ 4 * i + s = x by omega)]
          · rw [if_neg (fun y => z4 y.1), if_neg (fun y => z4 y.1)]
        · simp only [kcell, kc1, o 1 (by omega), o 15 (by omega), u 14 (by omega)]
        · simp only [kcell, kc1, o 13 (by omega), u 14 (by omega)]
        · rfl
      · simp only [kcell]; unfold kc2; rw [u 0 (by omega), u 5 (by omega), u 6 (by omega), u 17 (by omega), u 20 (by omega), o 1 (by omega), o 2 (by omega), o 3 (by omega), o 5 (by omega), o 14 (by omega), o 16 (by omega), o 19 (by omega)]
      · simp only [kcell]; unfold kslot kcF kcL; rw [u 0 (by omega), u 1 (by omega), u 2 (by omega), u 3 (by omega), o 3 (by omega), o 12 (by omega), o 17 (by omega)]
      · have w : ¬ i = x := by intro y; subst y; simp [aup] at g2
        simp only [kcell, u18, u 19 (by omega), if_neg w]
      · simp only [kcell, u 20 (by omega), u 21 (by omega)]
      · simp only [kcell, o 2 (by omega), o 11 (by omega), o 18 (by omega)]
      · omega
  · obtain ⟨c1, c2, c3, c4, c5, c6⟩ := hS.2.1
    unfold kCon
    rw [o 20 (by omega), o 21 (by omega), o 22 (by omega), o 9 (by omega), o 19 (by omega), o 23 (by omega), o 25 (by omega), o 18 (by omega), o 26 (by omega), o 11 (by omega), u 8 (by omega), u 9 (by omega), u 11 (by omega), u 5 (by omega), u 0 (by omega), u 20 (by omega), u 12 (by omega)]
    refine ⟨c1, c2, c3, fun y hy => ⟨?_, (c4 y hy).2⟩, c5, kB_c c6 (fun a ha => u a (by omega))⟩
    rw [a24, u18]
    by_cases z : y = x
    · subst z
      rw [if_pos rfl, if_pos rfl]
      simp
    · rw [if_neg z, if_neg z]; exact (c4 y hy).1
end KG
