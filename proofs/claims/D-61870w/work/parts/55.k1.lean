/-! the kernel's heap, by a state μ and ghosts A -/
abbrev kA : Type := Nat → Nat → Nat
/-- cells that stay -/
abbrev kX : Type := Nat → Option gE
def aup (A : kA) (k j v : Nat) : kA := fun a b => if a = k ∧ b = j then v else A a b
def kdc (i p : Int) : gE := .inl (5, [vi (i % 16), vi (if 16 ≤ i then p else 0), vi p])
def kcF (A : kA) (μ : mS) (s j : Nat) : Option gE := match j with
  | 0 => some (.inl (6, [vr (A 3 s + 1), vi (μ 1 s), vi (μ 2 s)]))
  | 1 => some (.inr (0, 8, .inl (fun k => if k < 8 ∧ (k : Int) < μ 1 s then μ 3 (8 * s + k) else 0)))
  | _ => none
def kcL (c l : Nat) (A : kA) (μ : mS) (s j : Nat) : Option gE := match j with
  | 0 => some (.inl (c, [vr (A 3 s + 1)]))
  | 1 => some (.inl (10, [vi (A 17 s), vr (A 3 s + 2), vi (μ 1 s)]))
  | 2 => some (.inr (3, l, .inr (.inl (fun k => if (k : Int) < μ 1 s then some (A 12 (8 * s + k)) else none))))
  | _ => none
def kslot (A : kA) (μ : mS) (s j : Nat) : Option gE := if μ 0 s = 1 then kcF A μ s j else if μ 0 s = 2 then kcL 1 5 A μ s j else if μ 0 s = 3 then kcL 7 6 A μ s j else none
def kc0 (G : gG) (A : kA) (μ : mS) (j : Nat) : Option gE := match j with
  | 0 => some (.inl (0, [vr (A 0 0 + 1), vr (A 0 0 + 2), vr (A 0 0 + 3), vi (μ 24 0), vi (μ 25 0), vi (μ 22 2), vi (μ 22 3), vi (μ 22 4), vi (μ 22 5)]))
  | 1 => some (.inr (4, 15, .inr (.inl (fun s => if s < 15 ∧ μ 0 s ≠ 0 then some (A 3 s) else none))))
  | 2 => some (.inr (5, 6, .inr (.inl (fun p => if p < 6 ∧ μ 8 p = 1 then some (A 1 p) else none))))
  | 3 => some (.inl (10, [vi (A 10 0), vr (if A 26 0 = 1 then A 6 0 else gDE G), vi (A 18 0)]))
  | _ => none
def kc1 (A : kA) (μ : mS) (i j : Nat) : Option gE := match j with
  | 0 => some (.inl (2, [vr (A 1 i + 1), vr (A 1 i + 2), .inr (.inl (if A 9 i = 1 then some (A 2 i) else none)), vi (μ 11 i), vi (μ 10 i)]))
  | 1 => some (.inr (6, 4, .inr (.inl (fun d => if d < 4 ∧ 0 ≤ μ 18 (4 * i + d) then some (A 4 (4 * i + d)) else none))))
  | 2 => some (.inl (10, [vi (A 15 i), vr (A 1 i + 3), vi (μ 14 i)]))
  | 3 => some (.inr (3, 4, .inr (.inl (fun k => if (k : Int) < μ 14 i then some (A 13 (4 * i + k)) else none))))
  | _ => none
def kc2 (A : kA) (μ : mS) (i j : Nat) : Option gE := match j with
  | 0 => some (.inl (4, [vr (A 1 i), vi (A 19 i), vr (A 2 i + 1), vr (A 2 i + 2), vr (A 2 i + 3), vr (A 2 i + 4), vr (A 2 i + 6)]))
  | 1 => some (.inr (4, 15, .inr (.inl (fun s => if s < 15 ∧ μ 5 (15 * i + s) = 1 ∧ μ 0 (15 + 15 * i + s) ≠ 0 then some (A 3 (15 + 15 * i + s)) else none))))
  | 2 => some (.inr (1, 15, .inl (fun s => if s < 15 then μ 6 (15 * i + s) else 0)))
  | 3 => some (.inr (1, 15, .inl (fun s => if s < 15 ∧ μ 5 (15 * i + s) = 1 ∧ μ 0 (15 + 15 * i + s) = 0 then 1 else 0)))
  | 4 => some (.inl (10, [vi (A 16 i), vr (A 2 i + 5), vi (μ 17 i)]))
  | 5 => some (.inr (3, 4, .inr (.inl (fun k => if (k : Int) < μ 17 i then some (A 14 (4 * i + k)) else none))))
  | 6 => some (.inr (6, 4, .inr (.inl (fun d => if d < 4 ∧ 0 ≤ μ 20 (4 * i + d) then some (A 5 (4 * i + d)) else none))))
  | _ => none
/-- what the cell j of the thing i of kind k holds: 0 kernel, 1 process, 2 transaction, 3 item, 4 descriptor, 5 descriptor before, 6 the array of transactions -/
def kcell (G : gG) (A : kA) (μ : mS) (k i j : Nat) : Option gE := match k with
  | 0 => bif Nat.beq i 0 then kc0 G A μ j else none
  | 1 => kc1 A μ i j
  | 2 => kc2 A μ i j
  | 3 => kslot A μ i j
  | 4 => bif Nat.beq j 0 then some (kdc (μ 18 i) (μ 19 i)) else none
  | 5 => bif Nat.beq j 0 then some (kdc (μ 20 i) (μ 21 i)) else none
  | 6 => bif Nat.beq i 0 && Nat.beq j 0 then some (.inr (3, 10, .inr (.inl (fun k => if k < A 18 0 then some (A 2 (A 11 k)) else none)))) else none
  | _ => none
/-- what never changes: entries, boxes, signals -/
def kimm (G : gG) (A : kA) (σ : gS) (μ : mS) : Prop :=
  (∀ s k : Nat, A 23 s = 1 → (k : Int) < μ 1 s → (μ 0 s = 2 → σ.1 (A 12 (8 * s + k)) = some (.inl (8, [vi (μ 3 (8 * s + k)), vi (μ 4 (8 * s + k))]))) ∧ (μ 0 s = 3 → gBx G σ (A 12 (8 * s + k)) (μ 3 (8 * s + k)))) ∧
  (∀ p k : Nat, A 21 p = 1 → (k : Int) < μ 14 p → gBx G σ (A 13 (4 * p + k)) (μ 13 (4 * p + k))) ∧
  (∀ p k : Nat, A 22 p = 1 → (k : Int) < μ 17 p → σ.1 (A 14 (4 * p + k)) = some (.inl (9, [vi (μ 16 (4 * p + k)), vi (μ 15 (4 * p + k))])))
def kRep (G : gG) (n : Nat) (A : kA) (X : kX) (σ : gS) (μ : mS) : Prop :=
  (∀ a, σ.2.1 ≤ a → σ.1 a = none) ∧
  (∀ k i j e, A (20 + k) i = 1 → kcell G A μ k i j = some e → σ.1 (A k i + j) = some e ∧ A 30 (A k i + j) = A k i ∧ gBase G ≤ A k i ∧ X (A k i + j) = none) ∧
  (∀ k i k' i', k < 7 → k' < 7 → A (20 + k) i = 1 → A (20 + k') i' = 1 → A k i = A k' i' → k = k' ∧ i = i') ∧
  kimm G A σ μ ∧ (∀ i, A 10 i ≤ n ∧ A 15 i ≤ n ∧ A 16 i ≤ n ∧ A 17 i ≤ n) ∧ (∀ a e, X a = some e → σ.1 a = some e)
/-- no entry, box or signal -/
def ktag (e : gE) : Bool := match e with
  | .inl (c, _) => !(Nat.beq c 8 || Nat.beq c 9 || Nat.beq c 12)
  | .inr _ => true
theorem kcell_9 {G : gG} {A : kA} {μ : mS} {k i j : Nat} {e : gE} (h : kcell G A μ k i j = some e) : k < 7 := by
  rcases k with _ | _ | _ | _ | _ | _ | _ | k <;> first | omega | cases h
theorem kslot_tag {A : kA} {μ : mS} {i j : Nat} {e : gE} (h : kslot A μ i j = some e) : ktag e = true := by
  unfold kslot at h
  split at h
  · rcases j with _ | _ | j <;> cases h <;> rfl
  · split at h
    · rcases j with _ | _ | _ | j <;> cases h <;> rfl
    · split at h
      · rcases j with _ | _ | _ | j <;> cases h <;> rfl
      · cases h
theorem bif_some {b : Bool} {x e : gE} (h : (bif b then some x else none) = some e) : b = true ∧ e = x := by
  cases b with
  | true => exact ⟨rfl, (Option.some.inj h).symm⟩
  | false => cases h
theorem kcell_tag {G : gG} {A : kA} {μ : mS} {k i j : Nat} {e : gE} (h : kcell G A μ k i j = some e) : ktag e = true := by
  rcases k with _ | _ | _ | _ | _ | _ | _ | k
  · rcases i with _ | i
    · rcases j with _ | _ | _ | _ | j <;> cases h <;> rfl
    · cases h
  · rcases j with _ | _ | _ | _ | j <;> cases h <;> rfl
  · rcases j with _ | _ | _ | _ | _ | _ | _ | j <;> cases h <;> rfl
  · exact kslot_tag h
  · obtain ⟨-, rfl⟩ := bif_some h; rfl
  · obtain ⟨-, rfl⟩ := bif_some h; rfl
  · obtain ⟨-, rfl⟩ := bif_some h; rfl
  · cases h
section KR
variable {G : gG} {n : Nat} {A A' : kA} {X X' : kX} {σ : gS} {μ μ' : mS}
theorem kne (h : kRep G n A X σ μ) {k i j k' i' j' : Nat} {e e' : gE} (h1 : A (20 + k) i = 1) (h2 : kcell G A μ k i j = some e) (h3 : A (20 + k') i' = 1) (h4 : kcell G A μ k' i' j' = some e') (hn : ¬ (k = k' ∧ i = i' ∧ j = j')) : A k i + j ≠ A k' i' + j' := by
  intro e9
  have e1 := (h.2.1 k i j e h1 h2).2.1
  have e2 := (h.2.1 k' i' j' e' h3 h4).2.1
  rw [e9, e2] at e1
  obtain ⟨a, b⟩ := h.2.2.1 k i k' i' (kcell_9 h2) (kcell_9 h4) h1 h3 e1.symm
  subst a; subst b
  exact hn ⟨rfl, rfl, by omega⟩
theorem gBx_set {a y : Nat} {e0 e' : gE} {z : Int} (ha : σ.1 a = some e0) (ht : ktag e0 = true) (h : gBx G σ y z) : gBx G (gset σ.1 a e', σ.2) y z := by
  rcases h with h | h
  · refine Or.inl ?_
    have : y ≠ a := by intro e; subst e; rw [ha] at h; cases h; cases ht
    show gset σ.1 a e' y = _
    rw [gset_ne this]; exact h
  · exact Or.inr h
theorem kimm_set (h : kimm G A σ μ) {a : Nat} {e0 e' : gE} (ha : σ.1 a = some e0) (ht : ktag e0 = true) : kimm G A (gset σ.1 a e', σ.2) μ := by
  have key : ∀ y c vs, (c = 8 ∨ c = 9) → σ.1 y = some (.inl (c, vs)) → gset σ.1 a e' y = some (.inl (c, vs)) := by
    intro y c vs hc hy
    have : y ≠ a := by intro e; subst e; rw [ha] at hy; cases hy; rcases hc with rfl | rfl <;> cases ht
    rw [gset_ne this]; exact hy
  refine ⟨fun s k h1 h2 => ⟨fun h3 => ?_, fun h3 => ?_⟩, fun p k h1 h2 => ?_, fun p k h1 h2 => ?_⟩
  · exact key _ _ _ (Or.inl rfl) ((h.1 s k h1 h2).1 h3)
  · exact gBx_set ha ht ((h.1 s k h1 h2).2 h3)
  · exact gBx_set ha ht (h.2.1 p k h1 h2)
  · exact key _ _ _ (Or.inr rfl) (h.2.2 p k h1 h2)
/-- cells change, names move -/
theorem kmv (h : kRep G n A X σ μ) {σ' : gS} {n' : Nat} (φ : Nat → Nat → Nat × Nat) (ch : Nat → Nat → Nat → Option gE) (hf : ∀ a, σ'.2.1 ≤ a → σ'.1 a = none)
    (hg : ∀ k i j e, A (20 + k) i = 1 → kcell G A μ k i j = some e → σ'.1 (A k i + j) = some ((ch k i j).getD e)) (h30 : A' 30 = A 30)
    (hφ : ∀ k i, k < 7 → A' (20 + k) i = 1 → (φ k i).1 < 7 ∧ A (20 + (φ k i).1) (φ k i).2 = 1 ∧ A' k i = A (φ k i).1 (φ k i).2)
    (hinj : ∀ k i k' i', k < 7 → k' < 7 → A' (20 + k) i = 1 → A' (20 + k') i' = 1 → φ k i = φ k' i' → k = k' ∧ i = i')
    (hs : ∀ k i j e, k < 7 → A' (20 + k) i = 1 → kcell G A' μ' k i j = some e → ∃ e0, kcell G A μ (φ k i).1 (φ k i).2 j = some e0 ∧ (ch (φ k i).1 (φ k i).2 j).getD e0 = e)
    (hX : ∀ a e, X a = some e → σ'.1 a = some e) (him : kimm G A' σ' μ') (hmc : ∀ i, A' 10 i ≤ n' ∧ A' 15 i ≤ n' ∧ A' 16 i ≤ n' ∧ A' 17 i ≤ n') : kRep G n' A' X σ' μ' := by
  refine ⟨hf, fun k i j e h2 h3 => ?_, fun k i k' i' g1 g2 g3 g4 g5 => ?_, him, hmc, hX⟩
  · have k9 := kcell_9 h3
    obtain ⟨a1, a2, a3⟩ := hφ k i k9 h2
    obtain ⟨e0, b1, b2⟩ := hs k i j e k9 h2 h3
    have c1 := h.2.1 _ _ j e0 a2 b1
    rw [a3, h30]
    refine ⟨?_, c1.2⟩
    rw [hg _ _ j e0 a2 b1, b2]
  · obtain ⟨a1, a2, a3⟩ := hφ k i g1 g3
    obtain ⟨b1, b2, b3⟩ := hφ k' i' g2 g4
    rw [a3, b3] at g5
    obtain ⟨c1, c2⟩ := h.2.2.1 _ _ _ _ a1 b1 a2 b2 g5
    exact hinj k i k' i' g1 g2 g3 g4 (Prod.ext c1 c2)
def ch1 (k0 i0 j0 : Nat) (e' : gE) : Nat → Nat → Nat → Option gE := fun k i j => if k = k0 ∧ i = i0 ∧ j = j0 then some e' else none
def ch2 (k0 i0 j0 : Nat) (e0 : gE) (k1 i1 j1 : Nat) (e1 : gE) : Nat → Nat → Nat → Option gE := fun k i j => if k = k1 ∧ i = i1 ∧ j = j1 then some e1 else ch1 k0 i0 j0 e0 k i j
theorem ch1_ok (h : kRep G n A X σ μ) {k0 i0 j0 : Nat} {e0 e' : gE} (hl : A (20 + k0) i0 = 1) (hc : kcell G A μ k0 i0 j0 = some e0) : (∀ a, σ.2.1 ≤ a → gset σ.1 (A k0 i0 + j0) e' a = none) ∧ (∀ a e, X a = some e → gset σ.1 (A k0 i0 + j0) e' a = some e) ∧ ∀ k i j e, A (20 + k) i = 1 → kcell G A μ k i j = some e → gset σ.1 (A k0 i0 + j0) e' (A k i + j) = some ((ch1 k0 i0 j0 e' k i j).getD e) := by
  have hh := h.2.1 k0 i0 j0 e0 hl hc
  refine ⟨fun a ha => ?_, fun a e ha => ?_, fun k i j e h2 h3 => ?_⟩
  · have : a ≠ A k0 i0 + j0 := by intro e; rw [← e, h.1 a ha] at hh; cases hh.1
    rw [gset_ne this]; exact h.1 a ha
  · have : a ≠ A k0 i0 + j0 := by intro e; rw [e, hh.2.2.2] at ha; cases ha
    rw [gset_ne this]; exact h.2.2.2.2.2 a e ha
  · unfold ch1
    by_cases q : k = k0 ∧ i = i0 ∧ j = j0
    · rw [if_pos q]
      obtain ⟨rfl, rfl, rfl⟩ := q
      exact gset_self _ _ _
    · rw [if_neg q, gset_ne (kne h h2 h3 hl hc q)]
      exact (h.2.1 k i j e h2 h3).1
theorem ch2_ok (h : kRep G n A X σ μ) {k0 i0 j0 k1 i1 j1 : Nat} {e0 e' e1 e2 : gE} (hl : A (20 + k0) i0 = 1) (hc : kcell G A μ k0 i0 j0 = some e0) (hl1 : A (20 + k1) i1 = 1) (hc1 : kcell G A μ k1 i1 j1 = some e1) : (∀ a, σ.2.1 ≤ a → gset (gset σ.1 (A k0 i0 + j0) e') (A k1 i1 + j1) e2 a = none) ∧ (∀ a e, X a = some e → gset (gset σ.1 (A k0 i0 + j0) e') (A k1 i1 + j1) e2 a = some e) ∧ ∀ k i j e, A (20 + k) i = 1 → kcell G A μ k i j = some e → gset (gset σ.1 (A k0 i0 + j0) e') (A k1 i1 + j1) e2 (A k i + j) = some ((ch2 k0 i0 j0 e' k1 i1 j1 e2 k i j).getD e) := by
  have hh := h.2.1 k1 i1 j1 e1 hl1 hc1
  have r := ch1_ok (e' := e') h hl hc
  refine ⟨fun a ha => ?_, fun a e ha => ?_, fun k i j e h2 h3 => ?_⟩
  · have : a ≠ A k1 i1 + j1 := by intro e; rw [← e, h.1 a ha] at hh; cases hh.1
    rw [gset_ne this]; exact r.1 a ha
  · have : a ≠ A k1 i1 + j1 := by intro e; rw [e, hh.2.2.2] at ha; cases ha
    rw [gset_ne this]; exact r.2.1 a e ha
  · unfold ch2
    by_cases q : k = k1 ∧ i = i1 ∧ j = j1
    · rw [if_pos q]
      obtain ⟨rfl, rfl, rfl⟩ := q
      exact gset_self _ _ _
    · rw [if_neg q, gset_ne (kne h h2 h3 hl1 hc1 q)]
      exact r.2.2 k i j e h2 h3
/-- one cell changes; names and places stay -/
theorem kset (h : kRep G n A X σ μ) {n' : Nat} (k0 i0 j0 : Nat) {e0 e' : gE} (hl : A (20 + k0) i0 = 1) (hc : kcell G A μ k0 i0 j0 = some e0) (hA : ∀ k, k < 7 ∨ 20 ≤ k → A' k = A k) (h1 : kcell G A' μ' k0 i0 j0 = some e')
    (hs : ∀ k i j, k < 7 → A (20 + k) i = 1 → ¬ (k = k0 ∧ i = i0 ∧ j = j0) → kcell G A' μ' k i j = kcell G A μ k i j)
    (him : kimm G A' σ μ') (hmc : ∀ i, A' 10 i ≤ n' ∧ A' 15 i ≤ n' ∧ A' 16 i ≤ n' ∧ A' 17 i ≤ n') : kRep G n' A' X (gset σ.1 (A k0 i0 + j0) e', σ.2) μ' := by
  have r := ch1_ok (e' := e') h hl hc
  have hh := h.2.1 k0 i0 j0 e0 hl hc
  refine kmv h (fun k i => (k, i)) (ch1 k0 i0 j0 e') r.1 r.2.2 (hA 30 (by omega)) (fun k i g1 g2 => ⟨g1, by rw [hA _ (by omega)] at g2; exact g2, by rw [hA k (by omega)]⟩) (fun k i k' i' _ _ _ _ g => ⟨congrArg Prod.fst g, congrArg Prod.snd g⟩) (fun k i j e g1 g2 g3 => ?_) r.2.1 (kimm_set him hh.1 (kcell_tag hc)) hmc
  rw [hA _ (by omega)] at g2
  unfold ch1
  by_cases q : k = k0 ∧ i = i0 ∧ j = j0
  · obtain ⟨rfl, rfl, rfl⟩ := q
    rw [h1] at g3
    cases g3
    exact ⟨e0, hc, by rw [if_pos ⟨rfl, rfl, rfl⟩]; rfl⟩
  · rw [hs k i j g1 g2 q] at g3
    exact ⟨e, g3, by rw [if_neg q]; rfl⟩
theorem kset2 (h : kRep G n A X σ μ) {n' : Nat} (k0 i0 j0 : Nat) {e0 e' : gE} (hl : A (20 + k0) i0 = 1) (hc : kcell G A μ k0 i0 j0 = some e0) (k1 i1 j1 : Nat) {e1 e2 : gE} (hl1 : A (20 + k1) i1 = 1) (hc1 : kcell G A μ k1 i1 j1 = some e1) (hn : ¬ (k0 = k1 ∧ i0 = i1 ∧ j0 = j1)) (hA : ∀ k, k < 7 ∨ 20 ≤ k → A' k = A k) (h1 : kcell G A' μ' k0 i0 j0 = some e') (h2 : kcell G A' μ' k1 i1 j1 = some e2)
    (hs : ∀ k i j, k < 7 → A (20 + k) i = 1 → ¬ (k = k0 ∧ i = i0 ∧ j = j0) → ¬ (k = k1 ∧ i = i1 ∧ j = j1) → kcell G A' μ' k i j = kcell G A μ k i j)
    (him : kimm G A' σ μ') (hmc : ∀ i, A' 10 i ≤ n' ∧ A' 15 i ≤ n' ∧ A' 16 i ≤ n' ∧ A' 17 i ≤ n') : kRep G n' A' X (gset (gset σ.1 (A k0 i0 + j0) e') (A k1 i1 + j1) e2, σ.2) μ' := by
  have r := ch2_ok (e' := e') (e2 := e2) h hl hc hl1 hc1
  have hh := h.2.1 k0 i0 j0 e0 hl hc
  have hh1 := h.2.1 k1 i1 j1 e1 hl1 hc1
  have ne : A k1 i1 + j1 ≠ A k0 i0 + j0 := kne h hl1 hc1 hl hc (fun q => hn ⟨q.1.symm, q.2.1.symm, q.2.2.symm⟩)
  refine kmv h (fun k i => (k, i)) (ch2 k0 i0 j0 e' k1 i1 j1 e2) r.1 r.2.2 (hA 30 (by omega)) (fun k i g1 g2 => ⟨g1, by rw [hA _ (by omega)] at g2; exact g2, by rw [hA k (by omega)]⟩) (fun k i k' i' _ _ _ _ g => ⟨congrArg Prod.fst g, congrArg Prod.snd g⟩) (fun k i j e g1 g2 g3 => ?_) r.2.1 (kimm_set (kimm_set him hh.1 (kcell_tag hc)) ((gset_ne ne).trans hh1.1) (kcell_tag hc1)) hmc
  rw [hA _ (by omega)] at g2
  unfold ch2 ch1
  by_cases q : k = k1 ∧ i = i1 ∧ j = j1
  · obtain ⟨rfl, rfl, rfl⟩ := q
    rw [h2] at g3
    cases g3
    exact ⟨e1, hc1, by rw [if_pos ⟨rfl, rfl, rfl⟩]; rfl⟩
  · by_cases q2 : k = k0 ∧ i = i0 ∧ j = j0
    · obtain ⟨rfl, rfl, rfl⟩ := q2
      rw [h1] at g3
      cases g3
      exact ⟨e0, hc, by rw [if_neg q, if_pos ⟨rfl, rfl, rfl⟩]; rfl⟩
    · rw [hs k i j g1 g2 q2 q] at g3
      exact ⟨e, g3, by rw [if_neg q, if_neg q2]; rfl⟩
/-- a new cell that nobody names -/
theorem knew (h : kRep G n A X σ μ) {e : gE} {c s : Nat} (hb : gBase G ≤ σ.2.1) : kRep G n A X (gset σ.1 σ.2.1 e, σ.2.1 + 1, c, s) μ := by
  have key : ∀ a x, σ.1 a = some x → gset σ.1 σ.2.1 e a = some x := fun a x hx => by
    have : a ≠ σ.2.1 := by intro q; rw [h.1 a (by omega)] at hx; cases hx
    rw [gset_ne this]; exact hx
  have kb : ∀ a z, gBx G σ a z → gBx G (gset σ.1 σ.2.1 e, σ.2.1 + 1, c, s) a z := fun a z hx => by
    rcases hx with hx | hx
    · exact Or.inl (key _ _ hx)
    · exact Or.inr hx
  refine ⟨fun a ha => ?_, fun k i j e h2 h3 => ?_, h.2.2.1, ?_, h.2.2.2.2.1, fun a x hx => key _ _ (h.2.2.2.2.2 a x hx)⟩
  · have ha : σ.2.1 + 1 ≤ a := ha
    show gset σ.1 σ.2.1 e a = none
    rw [gset_ne (by omega)]; exact h.1 a (by omega)
  · obtain ⟨a1, a2⟩ := h.2.1 k i j e h2 h3
    exact ⟨key _ _ a1, a2⟩
  · obtain ⟨a, b, d⟩ := h.2.2.2.1
    exact ⟨fun s k h1 h2 => ⟨fun h3 => key _ _ ((a s k h1 h2).1 h3), fun h3 => kb _ _ ((a s k h1 h2).2 h3)⟩, fun p k h1 h2 => kb _ _ (b p k h1 h2), fun p k h1 h2 => key _ _ (d p k h1 h2)⟩
/-- cells are put by, taken back -/
theorem kfrz (h : kRep G n A X σ μ) (hX : ∀ a e, X' a = some e → σ.1 a = some e) (ho : ∀ k i j e, A (20 + k) i = 1 → kcell G A μ k i j = some e → X' (A k i + j) = none) : kRep G n A X' σ μ :=
  ⟨h.1, fun k i j e h2 h3 => ⟨(h.2.1 k i j e h2 h3).1, (h.2.1 k i j e h2 h3).2.1, (h.2.1 k i j e h2 h3).2.2.1, ho k i j e h2 h3⟩, h.2.2.1, h.2.2.2.1, h.2.2.2.2.1, hX⟩
theorem kfrz_le (h : kRep G n A X σ μ) (hX : ∀ a e, X' a = some e → X a = some e) : kRep G n A X' σ μ :=
  kfrz h (fun a e q => h.2.2.2.2.2 a e (hX a e q)) (fun k i j e h2 h3 => by
    cases q : X' (A k i + j) with
    | none => rfl
    | some e' => have := hX _ _ q; rw [(h.2.1 k i j e h2 h3).2.2.2] at this; cases this)
/-- a new cell that stays -/
theorem knewF (h : kRep G n A X σ μ) {e : gE} {c s : Nat} (hb : gBase G ≤ σ.2.1) : kRep G n A (gset X σ.2.1 e) (gset σ.1 σ.2.1 e, σ.2.1 + 1, c, s) μ := by
  refine kfrz (knew h hb) (fun a x hx => ?_) (fun k i j x h2 h3 => ?_)
  · by_cases q : a = σ.2.1
    · subst q; rw [gset_self] at hx; exact (gset_self _ _ _).trans hx
    · rw [gset_ne q] at hx
      show gset σ.1 σ.2.1 e a = _
      rw [gset_ne q]; exact h.2.2.2.2.2 a x hx
  · have hh := h.2.1 k i j x h2 h3
    have : A k i + j ≠ σ.2.1 := by intro q; rw [q, h.1 _ (Nat.le_refl _)] at hh; cases hh.1
    rw [gset_ne this]; exact hh.2.2.2
/-- a cell that stays is changed -/
theorem ksetF (h : kRep G n A X σ μ) {a : Nat} {e0 e : gE} (ha : X a = some e0) (ht : ktag e0 = true) : kRep G n A (gset X a e) (gset σ.1 a e, σ.2) μ := by
  have h0 := h.2.2.2.2.2 a e0 ha
  have lt : a < σ.2.1 := by
    rcases Nat.lt_or_ge a σ.2.1 with q | q
    · exact q
    · rw [h.1 a q] at h0; cases h0
  refine ⟨fun b hb => ?_, fun k i j x h2 h3 => ?_, h.2.2.1, kimm_set h.2.2.2.1 h0 ht, h.2.2.2.2.1, fun b x hx => ?_⟩
  · have hb : σ.2.1 ≤ b := hb
    show gset σ.1 a e b = none
    rw [gset_ne (by omega)]; exact h.1 b hb
  · have hh := h.2.1 k i j x h2 h3
    have ne : A k i + j ≠ a := by intro q; rw [q, ha] at hh; cases hh.2.2.2
    refine ⟨?_, hh.2.1, hh.2.2.1, ?_⟩
    · show gset σ.1 a e _ = _
      rw [gset_ne ne]; exact hh.1
    · rw [gset_ne ne]; exact hh.2.2.2
  · show gset σ.1 a e b = _
    by_cases q : b = a
    · subst q; rw [gset_self] at hx ⊢; exact hx
    · rw [gset_ne q] at hx ⊢; exact h.2.2.2.2.2 b x hx
end KR
