/-! the plain law (2): what holds between calls, and inside them -/
/-- a descriptor names an item -/
def nms (v : Int) (i : Nat) : Prop := 0 ≤ v ∧ v % 16 = (i : Int)
/-- names in a directory differ -/
def ndis (μ : mS) (c : Nat) : Prop := μ 0 c = 2 → ∀ k k' : Nat, (k : Int) < μ 1 c → (k' : Int) < μ 1 c → μ 3 (8 * c + k) = μ 3 (8 * c + k') → k = k'
/-- what is committed -/
def iC (μ : mS) : Prop := mbal μ id ∧ (∀ i, i < 12 → ¬ μ 0 i = 3) ∧ (∀ i, 12 ≤ i → i < 15 → μ 0 i = 0 ∨ μ 0 i = 3) ∧ (∀ c, c < 12 → ndis μ c) ∧ μ 0 0 = 2
/-- what a process that goes may name: the root, what its descriptors named before, what it made, what stands in a directory that it has seen -/
def mgr (μ : mS) (q i : Nat) : Prop := i = 0 ∨ (∃ d, d < 4 ∧ nms (μ 20 (4 * q + d)) i) ∨ (μ 0 i = 0 ∧ μ 5 (15 * q + i) = 1) ∨ (∃ d, d < 12 ∧ μ 6 (15 * q + d) = 1 ∧ 1 ≤ men μ d i)
/-- what it names -/
def mref (μ : mS) (q i : Nat) : Prop := (∃ d, d < 4 ∧ nms (μ 18 (4 * q + d)) i) ∨ (μ 5 (15 * q + i) = 1 ∨ μ 6 (15 * q + i) = 1) ∨ (∃ d, d < 12 ∧ μ 5 (15 * q + d) = 1 ∧ 1 ≤ men μ (15 + 15 * q + d) i)
/-- a copy and its item -/
def icp (μ : mS) (q i : Nat) : Prop := μ 5 (15 * q + i) = 1 → (i < 12 → ¬ μ 0 (15 + 15 * q + i) = 3 ∧ (μ 0 i = 1 → μ 0 (15 + 15 * q + i) = 1) ∧ (μ 0 i = 2 → μ 0 (15 + 15 * q + i) = 2 ∨ μ 0 (15 + 15 * q + i) = 0)) ∧ (12 ≤ i → μ 0 (15 + 15 * q + i) = 3)
/-- descriptors and what a process sees -/
def ids (μ : mS) (v : Nat → Nat) (x : Int) : Prop := 0 ≤ x → (x ≤ 11 → μ 0 (v x.toNat) = 1) ∧ (12 ≤ x → μ 0 (v (x - 16).toNat) = 3)
/-- a process that goes -/
abbrev iPr (μ : mS) (q : Nat) : Prop := (∀ i, i < 12 → mref μ q i → mgr μ q i) ∧ (∀ d, d < 4 → 28 ≤ μ 18 (4 * q + d) → (∃ e, e < 4 ∧ μ 20 (4 * q + e) = μ 18 (4 * q + d)) ∨ (μ 0 (μ 18 (4 * q + d) - 16).toNat = 0 ∧ μ 5 (15 * q + (μ 18 (4 * q + d) - 16).toNat) = 1)) ∧ (∀ i, i < 15 → icp μ q i) ∧ (∀ c, c < 12 → ndis μ (mof μ q c)) ∧ μ 0 (mof μ q 0) = 2 ∧ (∀ d, d < 4 → ids μ id (μ 20 (4 * q + d))) ∧ (∀ d, d < 4 → ids μ (mof μ q) (μ 18 (4 * q + d))) ∧ (∀ i, i < 15 → μ 6 (15 * q + i) = 1 → i < 12 ∧ (¬ μ 0 i = 0 ∨ μ 5 (15 * q + i) = 1))
abbrev iP (μ : mS) (q : Nat) : Prop := mbal μ (mof μ q) ∧ iPr μ q
/-- a process that doesn't go -/
def iN (μ : mS) (q : Nat) : Prop := kZ μ q ∧ μ 11 q = 0 ∧ ∀ d, d < 4 → ids μ id (μ 18 (4 * q + d))
def sol (μ : mS) (x : Nat) : Int := if μ 9 (x / 4) = 1 then μ 20 x else μ 18 x
/-- what would be swept is named by somebody for sure -/
def iS (μ : mS) : Prop := ∀ i, i < 15 → (μ 0 i = 3 ∨ (μ 0 i = 1 ∧ μ 2 i = 0)) → ∃ x, x < 24 ∧ μ 8 (x / 4) = 1 ∧ nms (sol μ x) i
/-- two that go -/
def iA (μ : mS) (p q : Nat) : Prop := (∀ i, i < 15 → μ 5 (15 * p + i) = 1 → ¬ μ 5 (15 * q + i) = 1 ∧ ¬ μ 6 (15 * q + i) = 1) ∧ μ 12 p ≠ μ 12 q
/-- nothing is left of a process that isn't there -/
def kNt (μ : mS) : Prop := ∀ p, p < 6 → μ 8 p = 0 → μ 11 p = 0 ∧ μ 10 p = 0 ∧ μ 14 p = 0 ∧ ∀ d, d < 4 → μ 18 (4 * p + d) = -1
def kInv (μ : mS) : Prop := iC μ ∧ iS μ ∧ (∀ q, q < 6 → (μ 9 q = 1 → iP μ q ∧ μ 12 q ≤ μ 23 0) ∧ (¬ μ 9 q = 1 → iN μ q)) ∧ (∀ p q, p < 6 → q < 6 → p ≠ q → μ 9 p = 1 → μ 9 q = 1 → iA μ p q) ∧ kNt μ ∧ (∀ q, q < 6 → μ 9 q = 1 → μ 8 q = 1)
/-- between calls -/
def kInv0 (μ : mS) : Prop := kInv μ ∧ ∀ q, q < 6 → μ 9 q = 1 → 0 < μ 11 q
theorem mof_w {μ : mS} {q i : Nat} (h : ¬ μ 5 (15 * q + i) = 0) : mof μ q i = 15 + 15 * q + i := by unfold mof; rw [if_neg h]
theorem mof_n {μ : mS} {q i : Nat} (h : μ 5 (15 * q + i) = 0) : mof μ q i = i := by unfold mof; rw [if_pos h]
theorem mof_c {μ μ' : mS} {q i : Nat} (h : μ' 5 (15 * q + i) = μ 5 (15 * q + i)) : mof μ' q i = mof μ q i := by unfold mof; rw [h]
/-- a process that goes doesn't look further than this -/
def eqP (μ μ' : mS) (q : Nat) : Prop := (∀ c, c < 15 → csame μ μ' c c) ∧ (∀ i, i < 15 → (μ 5 (15 * q + i) = 0 ∨ csame μ μ' (15 + 15 * q + i) (15 + 15 * q + i)) ∧ μ' 5 (15 * q + i) = μ 5 (15 * q + i) ∧ μ' 6 (15 * q + i) = μ 6 (15 * q + i)) ∧ (∀ d, d < 4 → μ' 18 (4 * q + d) = μ 18 (4 * q + d) ∧ μ' 20 (4 * q + d) = μ 20 (4 * q + d))
theorem csame_of {μ μ' : mS} {q i : Nat} (h : eqP μ μ' q) (hi : i < 15) : csame μ μ' (mof μ q i) (mof μ' q i) := by
  rw [mof_c (h.2.1 i hi).2.1]
  unfold mof
  split
  · exact h.1 i hi
  · rename_i z
    rcases (h.2.1 i hi).1 with y | y
    · exact absurd y z
    · exact y
theorem ndis_c {μ μ' : mS} {c c' : Nat} (h : csame μ μ' c c') (h8 : μ 1 c ≤ 8) (hd : ndis μ c) : ndis μ' c' := by
  intro h0 k k' h1 h2 h3
  rw [h.1 0 (by omega)] at h0
  rw [h.1 1 (by omega)] at h1 h2
  rw [h.2 3 k (by omega) (by omega), h.2 3 k' (by omega) (by omega)] at h3
  exact hd h0 k k' h1 h2 h3
theorem ids_c {μ μ' : mS} {v v' : Nat → Nat} {x : Int} (h : ∀ i, i < 15 → μ' 0 (v' i) = μ 0 (v i)) (hx : x ≤ 30) (hd : ids μ v x) : ids μ' v' x := by
  intro h0
  obtain ⟨a, b⟩ := hd h0
  exact ⟨fun q => by rw [h _ (by omega)]; exact a q, fun q => by rw [h _ (by omega)]; exact b q⟩
def mR8 (μ : mS) : Prop := ∀ c, c < 105 → μ 1 c ≤ 8
theorem iP_c {μ μ' : mS} {q : Nat} (hq : q < 6) (h : eqP μ μ' q) (h8 : mR8 μ) (hx : mRx μ) (hP : iP μ q) : iP μ' q := by
  obtain ⟨p1, p2, p3, p4, p5, p6, p7, p8, p9⟩ := hP
  have hv := fun i (hi : i < 15) => csame_of h hi
  have o8 : ∀ i, i < 15 → μ 1 (mof μ q i) ≤ 8 := fun i hi => h8 _ (mof_lt hq hi)
  have hm1 : ∀ d i, d < 15 → men μ' d i = men μ d i := fun d i hd => men_c (h.1 d hd) (h8 d (by omega))
  have hsl : ∀ d, d < 15 → μ 5 (15 * q + d) = 1 → csame μ μ' (15 + 15 * q + d) (15 + 15 * q + d) := fun d hd w => by
    rcases (h.2.1 d hd).1 with y | y
    · omega
    · exact y
  have hm2 : ∀ d i, d < 15 → μ 5 (15 * q + d) = 1 → men μ' (15 + 15 * q + d) i = men μ (15 + 15 * q + d) i := fun d i hd w => men_c (hsl d hd w) (h8 _ (by omega))
  have h0 : ∀ i, i < 15 → μ' 0 i = μ 0 i := fun i hi => (h.1 i hi).1 0 (by omega)
  have hw := fun i (hi : i < 15) => (h.2.1 i hi).2
  refine ⟨mbal_c p1 (fun d hd => hv d (by omega)) (fun d hd => o8 d (by omega)), fun i hi hr => ?_, fun d hd h28 => ?_, fun i hi => ?_, fun c hc => ndis_c (hv c (by omega)) (o8 c (by omega)) (p5 c hc), ?_, fun d hd => ?_, fun d hd => ?_, fun i hi hs => ?_⟩
  · have hr' : mref μ q i := by
      rcases hr with ⟨d, hd, hn⟩ | hr | ⟨d, hd, hw1, hm⟩
      · rw [(h.2.2 d hd).1] at hn; exact Or.inl ⟨d, hd, hn⟩
      · rw [(hw i (by omega)).1, (hw i (by omega)).2] at hr; exact Or.inr (Or.inl hr)
      · rw [(hw d (by omega)).1] at hw1
        rw [hm2 d i (by omega) hw1] at hm
        exact Or.inr (Or.inr ⟨d, hd, hw1, hm⟩)
    rcases p2 i hi hr' with g | ⟨d, hd, hn⟩ | ⟨g1, g2⟩ | ⟨d, hd, g1, g2⟩
    · exact Or.inl g
    · rw [← (h.2.2 d hd).2] at hn; exact Or.inr (Or.inl ⟨d, hd, hn⟩)
    · refine Or.inr (Or.inr (Or.inl ⟨?_, ?_⟩))
      · rw [h0 i (by omega)]; exact g1
      · rw [(hw i (by omega)).1]; exact g2
    · refine Or.inr (Or.inr (Or.inr ⟨d, hd, ?_, ?_⟩))
      · rw [(hw d (by omega)).2]; exact g1
      · rw [hm1 d i (by omega)]; exact g2
  · rw [(h.2.2 d hd).1] at h28 ⊢
    have := (hx (4 * q + d) (by omega)).1
    rcases p3 d hd h28 with ⟨e, he, g⟩ | g
    · exact Or.inl ⟨e, he, by rw [(h.2.2 e he).2]; exact g⟩
    · exact Or.inr (by rw [h0 _ (by omega), (hw _ (by omega)).1]; exact g)
  · intro w
    rw [(hw i hi).1] at w
    rw [h0 i hi, (hsl i hi w).1 0 (by omega)]
    exact p4 i hi w
  · rw [(hv 0 (by omega)).1 0 (by omega)]; exact p6
  · rw [(h.2.2 d hd).2]
    have := (hx (4 * q + d) (by omega)).2.1
    exact ids_c (fun i hi => h0 i hi) (by omega) (p7 d hd)
  · rw [(h.2.2 d hd).1]
    have := (hx (4 * q + d) (by omega)).1
    exact ids_c (fun i hi => (hv i hi).1 0 (by omega)) (by omega) (p8 d hd)
  · rw [(hw i hi).2] at hs
    rw [(hw i hi).1, h0 i hi]
    exact p9 i hi hs
