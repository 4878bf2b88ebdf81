/-! towards link, unlink, rename -/
section KG
variable {G : gG} {n m n' m' fr rc rs : Nat} {A A' A0 : kA} {X X' : kX} {σ σ' σ0 σ1 σ2 : gS} {μ μ' ν : mS} {Q Q' Q0 : gO → gS → Prop}
/-- a walk, where what goes wrong is the model's affair -/
theorem sX1_walkK (hG : gGood G) {p N' : Nat} {z c c' : Int} {l : List (Nat × Int)} (hp : p < 6) (hz : inR z) (hS : kSt G n (m + 200) A X σ ν) (hIn : bx 0 (kIn p c ν)) (hcl : bx 0 (kCl p ν)) (h26 : ν 26 0 = 0) (hc : c ≤ 600000) (hcc : c + 40 ≤ c') (hN : n + 50 ≤ 1000000) (hN' : n + 30 ≤ N') (hA : A 0 0 = A0 0 0)
    (hF : bx 0 (¬ (mwalk p z 3 5 0 (mplen z 0 4) (mup ν 29 0 0)).1 = 0 → kOut G N' m A0 X c' (0, mfail p (mwalk p z 3 5 0 (mplen z 0 4) (mup ν 29 0 0)).1 (mwalk p z 3 5 0 (mplen z 0 4) (mup ν 29 0 0)).2) l Q0)) (hl : bx 0 ((14, 2) ∈ l ∧ (17, 3) ∈ l ∧ (16, 5) ∈ l)) (hx : bx 0 (∀ x σ', Q0 (.inr x) σ' → Q (.inr x) σ'))
    (hQ1 : bx 0 (∀ A' σ', (mwalk p z 3 5 0 (mplen z 0 4) (mup ν 29 0 0)).1 = 0 → kSt G (n + 30) m A' X σ' (mwalk p z 3 5 0 (mplen z 0 4) (mup ν 29 0 0)).2 → kkp p A A' → kJc p (c + 30) (mwalk p z 3 5 0 (mplen z 0 4) (mup ν 29 0 0)).2 → 0 ≤ (mwalk p z 3 5 0 (mplen z 0 4) (mup ν 29 0 0)).2 29 0 ∧ (mwalk p z 3 5 0 (mplen z 0 4) (mup ν 29 0 0)).2 29 0 ≤ 11 → Q (.inl (some (vi ((mwalk p z 3 5 0 (mplen z 0 4) (mup ν 29 0 0)).2 29 0)))) σ')) : bx 0 (gOKb G mX1_walk (fr + 12) [vr (A 0 0), vr (A 2 p), vi z, vi (mplen z 0 4 : Nat)] σ Q) := by
  have hj := kJc_0 hp (bx_out hIn) (bx_out hcl) h26
  have hS0 : kSt G n (m + 200) A X σ (mup ν 29 0 0) := kSt_29 hS (by omega)
  have hl4 := mplen_le z 4 0
  have wr := mwalk_r (z := z) (ms := 3) (fl := 5) (p := p) hp (mplen z 0 4) 0 (mup ν 29 0 0) hj.1.1.2.1.1 (by rw [mup_ss]; omega)
  have w2 := mwalk_2 (z := z) (ms := 3) (fl := 5) hp (by omega) (by omega) (mplen z 0 4) 0 c (mup ν 29 0 0) hj (by rw [mup_ss]; omega) (by rw [mup_ss]; omega)
  have e1 : mwalk p z 3 5 0 ((mplen z 0 4 : Nat) : Int).toNat (mup (mup ν 29 0 0) 29 0 0) = mwalk p z 3 5 0 (mplen z 0 4) (mup ν 29 0 0) := by rw [Int.toNat_natCast, mup_mm]
  obtain ⟨l1, l2, l3⟩ := bx_out hl
  replace w2 := bx_in w2
  generalize hW : mwalk p z 3 5 0 (mplen z 0 4) (mup ν 29 0 0) = W at *
  refine sX1_walk hG (m := m) (ms := 3) (fl := 5) (c0 := c) (J := kJc p) hS0 (bx_in (kJ_c hp)) (bx_in hj) (by omega) (by omega) hp hz (by omega) (bx_in fun h1 A1 σ1 hS1 hk1 hj1 => ?_) (bx_in fun h1 A1 x σ1 hS1 hk1 hx1 => ?_) (bx_in fun h1 A1 x σ1 hS1 hk1 hj1 hx1 => ?_) (bx_in fun h1 A1 x σ1 hS1 hk1 hj1 hx1 => ?_) (bx_in kJc_le)
  · rw [e1] at h1 hS1 hj1 ⊢
    obtain ⟨w1, w3, w4⟩ := wr
    refine bx_out hQ1 A1 σ1 h1 hS1 hk1 (bx_out hj1) ?_
    rcases w4 with y | y
    · exact y.2
    · omega
  · rw [e1] at h1 hS1
    obtain ⟨c9, μ', i1, i2, i3⟩ := bx_out w2 h1
    rw [i3] at hS1
    exact bx_out hx x σ1 (kOut_g (μ := μ') (k := W.1) (z := 0) (bx_in (bx_out hF (by omega))) (by rw [i3]) l1 (kAll_le (kAll_abort i2).1 (by omega)) (by rw [hk1]; exact hA) (kSt_le hS1 (by omega) (by omega)) hx1)
  · rw [e1] at h1 hS1 hj1
    have hj2 := (bx_out hj1)
    have hI2 := kIn_le (c' := c') hj2.1.1 (by omega)
    exact bx_out hx x σ1 (bx_out (kOut_f (A := A1) (k := W.1) (z := 0) (w := 17) hp (bx_in (bx_out hF (by omega))) rfl (by rw [h1]; exact l2) hI2 hj2.2.1 (wr9_refl hj2.2.1) hj2.2.2 hI2.2.1 hI2.2.2.1 (by rw [hk1]; exact hA)) x σ1 (kSt_le hS1 (by omega) (by omega)) hx1)
  · rw [e1] at h1 hS1 hj1
    have hj2 := (bx_out hj1)
    have hI2 := kIn_le (c' := c') hj2.1.1 (by omega)
    exact bx_out hx x σ1 (bx_out (kOut_f (A := A1) (k := W.1) (z := 0) (w := 16) hp (bx_in (bx_out hF (by omega))) rfl (by rw [h1]; exact l3) hI2 hj2.2.1 (wr9_refl hj2.2.1) hj2.2.2 hI2.2.1 hI2.2.2.1 (by rw [hk1]; exact hA)) x σ1 (kSt_le hS1 (by omega) (by omega)) hx1)
/-- the links of a file change -/
theorem kSt_links (hS : kSt G n m A X σ μ) {s : Nat} {v : Int} (hl : A 23 s = 1) (hk : μ 0 s = 1) (hm8 : ∀ t, A 23 t = 1 → μ 1 t ≤ 8) {e0 : gE} (he0 : e0 = .inl (6, [vr (A 3 s + 1), vi (μ 1 s), vi v])) : kSt G n m A X (gset σ.1 (A 3 s) e0, σ.2) (mup μ 2 s v) := by
  obtain ⟨hhf, hhg⟩ := kfil hS.1 hl hk
  have u : ∀ a, a ≠ 2 → mup μ 2 s v a = μ a := fun a ha => mup_other _ _ _ ha
  have := kSt_fil2 (μ' := mup μ 2 s v) (e1 := .inr (0, 8, .inl (fun k => if k < 8 ∧ (k : Int) < μ 1 s then μ 3 (8 * s + k) else 0))) (e0 := e0) hS hl hk (fun b j y1 y2 => by
    by_cases z : b = 2
    · subst z; rw [mup_v, if_neg (by omega)]
    · rw [u b z]) hm8 (by rw [u 1 (by omega), u 3 (by omega)]) (by rw [u 1 (by omega), mup_ss]; exact he0)
  rw [gset_id hhg] at this
  exact this
/-- copies of two items: the order doesn't matter -/
theorem mdw_comm {p h i : Nat} (hh : h < 15) (hi : i < 15) (hhi : h ≠ i) : mdw p h (mdw p i μ) = mdw p i (mdw p h μ) := by
  have e1 : ∀ (x y : Nat) (ξ : mS), x ≠ y → mdw p x ξ 5 (15 * p + y) = ξ 5 (15 * p + y) := fun x y ξ hxy => (mdw_v (μ := ξ) (p := p) (i := x)).2.1 _ (by omega)
  by_cases z1 : μ 5 (15 * p + h) = 0
  · by_cases z2 : μ 5 (15 * p + i) = 0
    · have d1 : mdw p h μ = cpw p h μ := by unfold mdw; rw [if_pos z1]
      have d2 : mdw p i μ = cpw p i μ := by unfold mdw; rw [if_pos z2]
      have t1 := e1 i h μ (fun e => hhi e.symm)
      have t2 := e1 h i μ hhi
      have d3 : mdw p h (mdw p i μ) = cpw p h (mdw p i μ) := by
        show (if mdw p i μ 5 (15 * p + h) = 0 then _ else _) = _
        rw [if_pos (by rw [t1]; exact z1)]
      have d4 : mdw p i (mdw p h μ) = cpw p i (mdw p h μ) := by
        show (if mdw p h μ 5 (15 * p + i) = 0 then _ else _) = _
        rw [if_pos (by rw [t2]; exact z2)]
      rw [d3, d4, d1, d2]
      obtain ⟨a1, a2, a3, a4, a5⟩ := cpw_v (μ := μ) (p := p) (i := i)
      obtain ⟨b1, b2, b3, b4, b5⟩ := cpw_v (μ := μ) (p := p) (i := h)
      obtain ⟨c1, c2, c3, c4, c5⟩ := cpw_v (μ := cpw p i μ) (p := p) (i := h)
      obtain ⟨f1, f2, f3, f4, f5⟩ := cpw_v (μ := cpw p h μ) (p := p) (i := i)
      have key : ∀ c, csame (cpw p h (cpw p i μ)) (cpw p i (cpw p h μ)) c c := by
        intro c
        have inv : ∀ {x y : mS} {u w : Nat}, csame x y u w → csame y x w u := fun h => ⟨fun a ha => (h.1 a ha).symm, fun a k ha hk => (h.2 a k ha hk).symm⟩
        by_cases y1 : c = 15 + 15 * p + h
        · subst y1
          have l := csame_trans (a4 h (by omega)) (c5 (by omega))
          have r := csame_trans (b5 (by omega)) (f4 (15 + 15 * p + h) (by omega))
          exact csame_trans (inv l) r
        · by_cases y2 : c = 15 + 15 * p + i
          · subst y2
            have l := csame_trans (a5 (by omega)) (c4 (15 + 15 * p + i) (by omega))
            have r := csame_trans (b4 i (by omega)) (f5 (by omega))
            exact csame_trans (inv l) r
          · have l := csame_trans (a4 c y2) (c4 c y1)
            have r := csame_trans (b4 c y1) (f4 c y2)
            exact csame_trans (inv l) r
      funext a j
      by_cases a4' : a ≤ 4
      · rcases (by omega : a ≤ 2 ∨ a = 3 ∨ a = 4) with e | e
        · exact ((key j).1 a e).symm
        · have := (key (j / 8)).2 a (j % 8) e (by omega)
          rw [show 8 * (j / 8) + j % 8 = j by omega] at this
          exact this.symm
      · by_cases a5' : a = 5
        · subst a5'
          rw [c2, f2, a2, b2]
          by_cases y1 : j = 15 * p + h
          · rw [if_pos y1, if_neg (by omega), if_pos y1]
          · by_cases y2 : j = 15 * p + i
            · rw [if_neg y1, if_pos y2, if_pos y2]
            · rw [if_neg y1, if_neg y2, if_neg y2, if_neg y1]
        · by_cases a7 : a = 7
          · subst a7
            rw [c3, f3, a3, b3]
            by_cases y1 : j = h
            · rw [if_pos y1, if_neg (by omega), if_pos y1]
            · by_cases y2 : j = i
              · rw [if_neg y1, if_pos y2, if_pos y2]
              · rw [if_neg y1, if_neg y2, if_neg y2, if_neg y1]
          · rw [c1 a (by omega) a7, f1 a (by omega) a7, a1 a (by omega) a7, b1 a (by omega) a7]
    · have d2 : ∀ ξ : mS, ξ 5 (15 * p + i) = μ 5 (15 * p + i) → mdw p i ξ = ξ := fun ξ hx => by unfold mdw; rw [if_neg (by rw [hx]; exact z2)]
      rw [d2 μ rfl, d2 _ (e1 h i μ hhi)]
  · have d1 : ∀ ξ : mS, ξ 5 (15 * p + h) = μ 5 (15 * p + h) → mdw p h ξ = ξ := fun ξ hx => by unfold mdw; rw [if_neg (by rw [hx]; exact z1)]
    rw [d1 μ rfl, d1 _ (e1 i h μ (fun e => hhi e.symm))]
/-- what is named stays while paths are walked -/
theorem kP_i {p i : Nat} {k : Int} (hp : p < 6) (hi : i < 15) : kP p (fun μ => rch μ p i ∧ mkd μ p i = k) :=
  ⟨fun c μ j h hr hm hP => ⟨(kIn_reads hp h hr hm).2 i hP.1, by rw [mview_kd (mview_reads hm) hi]; exact hP.2⟩, fun μ k9 v hk hP => ⟨rch_up hk hP.1, by rw [mkd_u hk]; exact hP.2⟩⟩
end KG
