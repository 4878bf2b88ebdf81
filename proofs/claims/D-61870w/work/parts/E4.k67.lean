/-! the kernel's members: items in the making -/
section KG
variable {G : gG} {n m n' m' fr rc rs : Nat} {A A' A0 : kA} {X X' : kX} {σ σ' σ0 σ1 σ2 : gS} {μ μ' ν : mS} {Q Q' Q0 : gO → gS → Prop}
/-- cells put by -/
def xat (X : kX) (a : Nat) (f : Nat → Option gE) : kX := fun b => if a ≤ b then f (b - a) else X b
theorem kSt_frz {f : Nat → Option gE} (hS : kSt G n m A X σ ν) (hr : mRs ν) (he : kext σ σ1) (hf : ∀ j e, f j = some e → σ1.1 (σ.2.1 + j) = some e) (r1 : m' ≤ σ1.2.2.1) (r2 : 16 * m' ≤ σ1.2.2.2) : kSt G n m' (arng A) (xat X σ.2.1 f) σ1 ν := by
  have hS0 := kSt_rg hS
  refine ⟨kfrz (kRep_ext hS0.1 he) (fun b e hb => ?_) (fun k i j e hl hc => ?_), hS0.2.1, r1, r2, Nat.le_trans hS.2.2.2.2 he.2.1⟩
  · unfold xat at hb
    by_cases z : σ.2.1 ≤ b
    · rw [if_pos z] at hb
      have := hf _ e hb
      rw [show σ.2.1 + (b - σ.2.1) = b by omega] at this
      exact this
    · rw [if_neg z] at hb
      exact he.1 b e (hS.1.2.2.2.2.2 b e hb)
  · have lt := klt hS0.1 (hS0.1.2.1 k i j e hl hc).1
    unfold xat
    rw [if_neg (by omega)]
    exact (hS0.1.2.1 k i j e hl hc).2.2.2
/-- what create does, but for the mark -/
def mcr0 (p i : Nat) (k : Int) (ν : mS) : mS := fun a j => if a = 5 then ν 5 j else mcreate p i k ν a j
theorem mcr0_e {p i : Nat} {k : Int} : mup (mcr0 p i k ν) 5 (15 * p + i) 1 = mcreate p i k ν := by
  funext a j
  simp only [mup, mcr0]
  by_cases z : a = 5
  · subst z
    have := (mcre_v (μ := ν) (p := p) (i := i) (k := k)).2.1 j
    rw [this]
    simp
  · simp [z]
theorem mcr0_v {p i : Nat} {k : Int} : (∀ b j, ¬ (b ≤ 2 ∧ j = 15 + 15 * p + i) → ¬ ((b = 3 ∨ b = 4) ∧ 8 * (15 + 15 * p + i) ≤ j ∧ j < 8 * (15 + 15 * p + i) + 8) → mcr0 p i k ν b j = ν b j) ∧ mcr0 p i k ν 0 (15 + 15 * p + i) = k ∧ mcr0 p i k ν 1 (15 + 15 * p + i) = 0 ∧ mcr0 p i k ν 2 (15 + 15 * p + i) = if k = 1 then 1 else 0 := by
  obtain ⟨v1, v2, v3, v4, v5, v6⟩ := mcre_v (μ := ν) (p := p) (i := i) (k := k)
  refine ⟨fun b j h1 h2 => ?_, ?_, ?_, ?_⟩
  · unfold mcr0
    by_cases z : b = 5
    · rw [if_pos z, z]
    · rw [if_neg z]
      unfold mcreate
      rw [if_neg (by omega), if_neg (by omega), if_neg (by omega), if_neg (by omega)]
      exact mcopy_e b j h1 h2
  · unfold mcr0; rw [if_neg (by omega)]; exact v4
  · unfold mcr0; rw [if_neg (by omega)]; exact v5
  · unfold mcr0; rw [if_neg (by omega)]; exact v6
theorem kSt_mkG {f : Nat → Option gE} {p i a L : Nat} {k : Int} (hS : kSt G n m A (xat X a f) σ ν) (hXn : ∀ b, a ≤ b → X b = none) (hL : 0 < L) (hk : ¬ k = 0) (hp : p < 6) (hi : i < 15) (h9 : ν 9 p = 1) (h5 : ν 5 (15 * p + i) = 0) (hr : mRs ν) (hba : gBase G ≤ a) (hfL : ∀ j, j < L → f j ≠ none)
    (hcell : ∀ j e, kslot (asl (arng A) (15 + 15 * p + i) a 0 L (fun _ => 0)) (mcr0 p i k ν) (15 + 15 * p + i) j = some e → j < L ∧ f j = some e) {e' : gE}
    (he : e' = .inr (4, 15, .inr (.inl (va_up (fun s => if s < 15 ∧ ν 5 (15 * p + s) = 1 ∧ ν 0 (15 + 15 * p + s) ≠ 0 then some (A 3 (15 + 15 * p + s)) else none) i (some a))))) : kSt G n m (asl (arng A) (15 + 15 * p + i) a 0 L (fun _ => 0)) X (gset σ.1 (A 2 p + 1) e', σ.2) (mcreate p i k ν) := by
  obtain ⟨v1, v2, v3, v4⟩ := mcr0_v (ν := ν) (p := p) (i := i) (k := k)
  have := kSt_mk (X' := X) (n' := n) (a := a) (mc := 0) (L := L) (y := fun _ => 0) (μ' := mcr0 p i k ν) (e' := e') hS rfl hp hi h9 h5 hr hba hL (fun j hj => ?_) (fun b e hb => ?_) (fun j _ => hXn _ (by omega)) v1 (by rw [v3]; omega) (by rw [v2]; exact hk) (fun j e hj => ?_) (fun k2 hk2 => by rw [v3] at hk2; omega) (Nat.le_refl _) (by omega) he
  · rw [mcr0_e] at this; exact this
  · unfold xat
    rw [if_pos (by omega), show a + j - a = j by omega]
    exact hfL j hj
  · unfold xat
    by_cases z : a ≤ b
    · rw [hXn b z] at hb; cases hb
    · rw [if_neg z]; exact hb
  · obtain ⟨h1, h2⟩ := hcell j e hj
    refine ⟨h1, ?_⟩
    unfold xat
    rw [if_pos (by omega), show a + j - a = j by omega]
    exact h2
/-- a file, a directory, a pipe -/
def fXf (a : Nat) : Nat → Option gE := fun j => match j with
  | 0 => some (.inl (6, [vr (a + 1), vi 0, vi 1]))
  | 1 => some (.inr (0, 8, .inl (fun _ => 0)))
  | _ => none
def fXl (c l a : Nat) : Nat → Option gE := fun j => match j with
  | 0 => some (.inl (c, [vr (a + 1)]))
  | 1 => some (.inl (10, [vi 0, vr (a + 2), vi 0]))
  | 2 => some (.inr (3, l, .inr (.inl (fun _ => none))))
  | _ => none
theorem kSt_mkL {p i a c l : Nat} {k : Int} (hS : kSt G n m A (xat X a (fXl c l a)) σ ν) (hk : (k = 2 ∧ c = 1 ∧ l = 5) ∨ (k = 3 ∧ c = 7 ∧ l = 6)) (hXn : ∀ b, a ≤ b → X b = none) (hp : p < 6) (hi : i < 15) (h9 : ν 9 p = 1) (h5 : ν 5 (15 * p + i) = 0) (hr : mRs ν) (hba : gBase G ≤ a) {e' : gE}
    (he : e' = .inr (4, 15, .inr (.inl (va_up (fun s => if s < 15 ∧ ν 5 (15 * p + s) = 1 ∧ ν 0 (15 + 15 * p + s) ≠ 0 then some (A 3 (15 + 15 * p + s)) else none) i (some a))))) : kSt G n m (asl (arng A) (15 + 15 * p + i) a 0 3 (fun _ => 0)) X (gset σ.1 (A 2 p + 1) e', σ.2) (mcreate p i k ν) := by
  obtain ⟨v1, v2, v3, v4⟩ := mcr0_v (ν := ν) (p := p) (i := i) (k := k)
  have a3 : asl (arng A) (15 + 15 * p + i) a 0 3 (fun _ => 0) 3 (15 + 15 * p + i) = a := by simp [asl]
  have a17 : asl (arng A) (15 + 15 * p + i) a 0 3 (fun _ => 0) 17 (15 + 15 * p + i) = 0 := by simp [asl]
  refine kSt_mkG hS hXn (by omega) (by omega) hp hi h9 h5 hr hba (fun j hj => ?_) (fun j e hj => ?_) he
  · rcases j with _ | _ | _ | j
    · exact Option.some_ne_none _
    · exact Option.some_ne_none _
    · exact Option.some_ne_none _
    · omega
  · have hs : kslot (asl (arng A) (15 + 15 * p + i) a 0 3 (fun _ => 0)) (mcr0 p i k ν) (15 + 15 * p + i) j = kcL c l (asl (arng A) (15 + 15 * p + i) a 0 3 (fun _ => 0)) (mcr0 p i k ν) (15 + 15 * p + i) j := by
      unfold kslot
      rw [v2]
      rcases hk with ⟨rfl, rfl, rfl⟩ | ⟨rfl, rfl, rfl⟩
      · rw [if_neg (by omega), if_pos rfl]
      · rw [if_neg (by omega), if_neg (by omega), if_pos rfl]
    rw [hs] at hj
    unfold kcL at hj
    rw [a3, a17, v3] at hj
    rcases j with _ | _ | _ | j
    · exact ⟨by omega, hj⟩
    · exact ⟨by omega, hj⟩
    · refine ⟨by omega, ?_⟩
      rw [← hj]
      refine congrArg (fun f => some (Sum.inr (3, l, Sum.inr (Sum.inl f)))) (funext fun s => ?_)
      rw [if_neg (by omega)]
    · cases hj
theorem kSt_mkF {p i a : Nat} (hS : kSt G n m A (xat X a (fXf a)) σ ν) (hXn : ∀ b, a ≤ b → X b = none) (hp : p < 6) (hi : i < 15) (h9 : ν 9 p = 1) (h5 : ν 5 (15 * p + i) = 0) (hr : mRs ν) (hba : gBase G ≤ a) {e' : gE}
    (he : e' = .inr (4, 15, .inr (.inl (va_up (fun s => if s < 15 ∧ ν 5 (15 * p + s) = 1 ∧ ν 0 (15 + 15 * p + s) ≠ 0 then some (A 3 (15 + 15 * p + s)) else none) i (some a))))) : kSt G n m (asl (arng A) (15 + 15 * p + i) a 0 2 (fun _ => 0)) X (gset σ.1 (A 2 p + 1) e', σ.2) (mcreate p i 1 ν) := by
  obtain ⟨v1, v2, v3, v4⟩ := mcr0_v (ν := ν) (p := p) (i := i) (k := 1)
  have a3 : asl (arng A) (15 + 15 * p + i) a 0 2 (fun _ => 0) 3 (15 + 15 * p + i) = a := by simp [asl]
  refine kSt_mkG hS hXn (by omega) (by omega) hp hi h9 h5 hr hba (fun j hj => ?_) (fun j e hj => ?_) he
  · rcases j with _ | _ | j
    · exact Option.some_ne_none _
    · exact Option.some_ne_none _
    · omega
  · have hs : kslot (asl (arng A) (15 + 15 * p + i) a 0 2 (fun _ => 0)) (mcr0 p i 1 ν) (15 + 15 * p + i) j = kcF (asl (arng A) (15 + 15 * p + i) a 0 2 (fun _ => 0)) (mcr0 p i 1 ν) (15 + 15 * p + i) j := by
      unfold kslot
      rw [v2, if_pos rfl]
    rw [hs] at hj
    unfold kcF at hj
    rw [a3, v3, v4, if_pos rfl] at hj
    rcases j with _ | _ | j
    · exact ⟨by omega, hj⟩
    · refine ⟨by omega, ?_⟩
      rw [← hj]
      refine congrArg (fun f => some (Sum.inr (0, 8, Sum.inl f))) (funext fun s => ?_)
      rw [if_neg (by omega)]
    · cases hj
/-- a creation, inside a call -/
theorem kIn_new {p i : Nat} {c : Int} {k : Int} (hp : p < 6) (hi : i < 15) (h : kIn p c μ) (h5 : μ 5 (15 * p + i) = 0) (h0 : μ 0 i = 0) (hf : ∀ q, q < 6 → μ 9 q = 1 → ¬ μ 5 (15 * q + i) = 1) (hk : (i < 12 → k = 1 ∨ k = 2) ∧ (12 ≤ i → k = 3)) (hc : 1 ≤ c) (hbal : mbal (mcreate p i k μ) (mof (mcreate p i k μ) p)) : kIn p c (mcreate p i k μ) := by
  obtain ⟨v1, v2, v3, v4, v5, v6⟩ := mcre_v (μ := μ) (p := p) (i := i) (k := k)
  have g := ((h.1.2.2.1 p hp).1 h.2.2.2.2.1).1
  have r8 : mR8 μ := fun c hc => (h.2.1.1.1 c hc).2.2.2.1
  obtain ⟨n1, n2, n3, n4, n5⟩ := iPr_new hp hi h.2.1.2.2.1 r8 h5 h0 hk g.2
  refine kIn_own hp h (fun a ha => v1 a (by omega)) (fun s hs hn => v3 s (by omega)) (fun q j hq hqp hj => ⟨by rw [v2, if_neg (by omega)], by rw [v1 6 (by omega)]⟩) (fun x _ => by rw [v1 18 (by omega)]) (fun q hq hqp g9 j hj => ?_) ⟨hbal, n1⟩ (mI_create (by omega) hi h.2.1) ?_ (fun j => ?_)
  · rw [v2, v1 6 (by omega)]
    have a1 := h.1.2.2.2.1 p q hp hq (fun y => hqp y.symm) h.2.2.2.2.1 g9
    have a2 := h.1.2.2.2.1 q p hq hp hqp g9 h.2.2.2.2.1
    refine ⟨fun w => ?_, fun w => (a2.1 j hj w).2⟩
    by_cases z : j = i
    · rw [z]
      refine ⟨hf q hq g9, fun y => ?_⟩
      have := (((h.1.2.2.1 q hq).1 g9).1).2.2.2.2.2.2.2.2 i hi y
      rcases this.2 with t | t
      · exact t h0
      · exact hf q hq g9 t
    · rw [if_neg (by omega)] at w
      exact a1.1 j hj w
  · intro s hs
    by_cases z : s = 15 + 15 * p + i
    · rw [z, v6]; split <;> omega
    · rw [(v3 s z).1 2 (by omega)]; exact h.2.2.1 s hs
  · have := h.2.2.2.1 j
    rw [v2, v1 6 (by omega), v1 8 (by omega), v1 9 (by omega), v1 10 (by omega)]
    refine ⟨?_, this.2⟩
    split
    · exact Or.inr rfl
    · exact this.1
end KG
