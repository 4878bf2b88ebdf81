/-! the plain law (1): who names what -/
def sm (f : Nat → Int) : Nat → Int
  | 0 => 0
  | k + 1 => sm f k + f k
theorem sm_ext {f g : Nat → Int} : ∀ n : Nat, (∀ k, k < n → f k = g k) → sm f n = sm g n := by
  intro n
  induction n with
  | zero => intro _; rfl
  | succ n ih => intro h; show sm f n + f n = sm g n + g n; rw [ih (fun k hk => h k (by omega)), h n (by omega)]
theorem sm_add3 {f a b c : Nat → Int} : ∀ n : Nat, (∀ k, k < n → f k = a k + b k - c k) → sm f n = sm a n + sm b n - sm c n := by
  intro n
  induction n with
  | zero => intro _; rfl
  | succ n ih => intro h; show sm f n + f n = (sm a n + a n) + (sm b n + b n) - (sm c n + c n); rw [ih (fun k hk => h k (by omega)), h n (by omega)]; omega
theorem sm_nn {f : Nat → Int} : ∀ n : Nat, (∀ k, k < n → 0 ≤ f k) → 0 ≤ sm f n := by
  intro n
  induction n with
  | zero => intro _; exact Int.le_refl _
  | succ n ih => intro h; have h1 := ih (fun k hk => h k (by omega)); have h2 := h n (by omega); show 0 ≤ sm f n + f n; omega
theorem sm_ge {f : Nat → Int} : ∀ n : Nat, (∀ k, k < n → 0 ≤ f k) → ∀ j, j < n → f j ≤ sm f n := by
  intro n
  induction n with
  | zero => intro _ j hj; omega
  | succ n ih =>
    intro h j hj
    have h0 := sm_nn (f := f) n (fun k hk => h k (by omega))
    have h2 := h n (by omega)
    show f j ≤ sm f n + f n
    by_cases e : j = n
    · subst e; omega
    · have := ih (fun k hk => h k (by omega)) j (by omega); omega
theorem sm_ge2 {f : Nat → Int} : ∀ n : Nat, (∀ k, k < n → 0 ≤ f k) → ∀ j j', j < j' → j' < n → f j + f j' ≤ sm f n := by
  intro n
  induction n with
  | zero => intro _ j j' _ hj; omega
  | succ n ih =>
    intro h j j' hj hj'
    have h2 := h n (by omega)
    show f j + f j' ≤ sm f n + f n
    by_cases e : j' = n
    · subst e
      have := sm_ge (f := f) j' (fun k hk => h k (by omega)) j hj
      omega
    · have := ih (fun k hk => h k (by omega)) j j' hj (by omega); omega
/-- one place differs -/
theorem sm_up {f g : Nat → Int} {j : Nat} {v : Int} : ∀ n : Nat, j < n → (∀ k, k < n → k ≠ j → g k = f k) → g j = f j + v → sm g n = sm f n + v := by
  intro n
  induction n with
  | zero => intro h; omega
  | succ n ih =>
    intro hj h hv
    show sm g n + g n = sm f n + f n + v
    by_cases e : j = n
    · subst e
      rw [sm_ext (f := g) (g := f) j (fun k hk => h k (by omega) (by omega)), hv]; omega
    · rw [ih (by omega) (fun k hk => h k (by omega)) hv, h n (by omega) (by omega)]; omega
/-- how often a slot's entries name i -/
def men (μ : mS) (c i : Nat) : Int := if μ 0 c = 2 then cnt (fun k => decide (μ 4 (8 * c + k) = (i : Int))) (μ 1 c).toNat else 0
/-- how often it may be named -/
def mcap (μ : mS) (c i : Nat) : Int := if μ 0 c = 1 then μ 2 c else if μ 0 c = 2 ∧ i ≠ 0 then 1 else 0
/-- as many names as there may be -/
def mbal (μ : mS) (v : Nat → Nat) : Prop := ∀ i, i < 12 → sm (fun d => men μ (v d) i) 12 = mcap μ (v i) i
/-- two slots hold the same -/
def csame (μ μ' : mS) (c c' : Nat) : Prop := (∀ a, a ≤ 2 → μ' a c' = μ a c) ∧ (∀ a k, a = 3 ∨ a = 4 → k < 8 → μ' a (8 * c' + k) = μ a (8 * c + k))
theorem cnt_ext {S T : Nat → Bool} : ∀ n : Nat, (∀ k, k < n → S k = T k) → cnt S n = cnt T n := by
  intro n
  induction n with
  | zero => intro _; rfl
  | succ n ih => intro h; show cnt S n + b2i (S n) = cnt T n + b2i (T n); rw [ih (fun k hk => h k (by omega)), h n (by omega)]
theorem men_nn {μ : mS} {c i : Nat} : 0 ≤ men μ c i := by
  unfold men
  split
  · exact (cnt_b _ _).1
  · omega
theorem men_c {μ μ' : mS} {c c' i : Nat} (h : csame μ μ' c c') (h8 : μ 1 c ≤ 8) : men μ' c' i = men μ c i := by
  unfold men
  rw [h.1 0 (by omega), h.1 1 (by omega)]
  split
  · refine cnt_ext _ fun k hk => ?_
    rw [h.2 4 k (by omega) (by omega)]
  · rfl
theorem mcap_c {μ μ' : mS} {c c' i : Nat} (h : csame μ μ' c c') : mcap μ' c' i = mcap μ c i := by
  unfold mcap
  rw [h.1 0 (by omega), h.1 2 (by omega)]
theorem csame_refl {μ : mS} {c : Nat} : csame μ μ c c := ⟨fun _ _ => rfl, fun _ _ _ _ => rfl⟩
theorem csame_trans {μ μ' μ'' : mS} {c c' c'' : Nat} (h : csame μ μ' c c') (h2 : csame μ' μ'' c' c'') : csame μ μ'' c c'' := ⟨fun a ha => (h2.1 a ha).trans (h.1 a ha), fun a k ha hk => (h2.2 a k ha hk).trans (h.2 a k ha hk)⟩
theorem csame_e {μ μ' : mS} {c : Nat} (h : ∀ a, a ≤ 4 → μ' a = μ a) : csame μ μ' c c := ⟨fun a ha => by rw [h a (by omega)], fun a k ha _ => by rw [h a (by omega)]⟩
theorem mbal_c {μ μ' : mS} {v v' : Nat → Nat} (h : mbal μ v) (hs : ∀ d, d < 12 → csame μ μ' (v d) (v' d)) (h8 : ∀ d, d < 12 → μ 1 (v d) ≤ 8) : mbal μ' v' := by
  intro i hi
  rw [mcap_c (hs i hi), ← h i hi]
  exact sm_ext _ fun d hd => men_c (hs d hd) (h8 d hd)
/-- an entry: its item is there -/
theorem cnt_pos {S : Nat → Bool} : ∀ (n k : Nat), k < n → S k = true → 1 ≤ cnt S n := by
  intro n
  induction n with
  | zero => intro k hk; omega
  | succ n ih =>
    intro k hk hS
    show 1 ≤ cnt S n + b2i (S n)
    have hb := cnt_b S n
    by_cases e : k = n
    · subst e; rw [hS]; show 1 ≤ cnt S k + 1; omega
    · have := ih k (by omega) hS
      have h2 : 0 ≤ b2i (S n) := by cases S n <;> decide
      omega
theorem cnt_ex {S : Nat → Bool} : ∀ n : Nat, 1 ≤ cnt S n → ∃ k, k < n ∧ S k = true := by
  intro n
  induction n with
  | zero => intro h; have h : (1 : Int) ≤ 0 := h; omega
  | succ n ih =>
    intro h
    by_cases e : S n = true
    · exact ⟨n, by omega, e⟩
    · have e2 : S n = false := by simpa using e
      have : cnt S (n + 1) = cnt S n := by show cnt S n + b2i (S n) = _; rw [e2]; exact Int.add_zero _
      obtain ⟨k, h1, h2⟩ := ih (by omega)
      exact ⟨k, by omega, h2⟩
theorem men_pos {μ : mS} {c i k : Nat} (h0 : μ 0 c = 2) (hk : (k : Int) < μ 1 c) (h4 : μ 4 (8 * c + k) = (i : Int)) : 1 ≤ men μ c i := by
  unfold men
  rw [if_pos h0]
  exact cnt_pos _ k (by omega) (decide_eq_true h4)
theorem men_ex {μ : mS} {c i : Nat} (h : 1 ≤ men μ c i) : μ 0 c = 2 ∧ ∃ k : Nat, (k : Int) < μ 1 c ∧ μ 4 (8 * c + k) = (i : Int) := by
  unfold men at h
  by_cases e : μ 0 c = 2
  · rw [if_pos e] at h
    obtain ⟨k, h1, h2⟩ := cnt_ex _ h
    exact ⟨e, k, by omega, of_decide_eq_true h2⟩
  · rw [if_neg e] at h; omega
/-- what is named is there, and not the root -/
theorem mbal_nm {μ : mS} {v : Nat → Nat} (h : mbal μ v) {d i : Nat} (hd : d < 12) (hi : i < 12) (hm : 1 ≤ men μ (v d) i) : 1 ≤ mcap μ (v i) i := by
  rw [← h i hi]
  have := sm_ge (f := fun d => men μ (v d) i) 12 (fun k _ => men_nn) d hd
  omega
theorem mcap_k {μ : mS} {c i : Nat} (h : 1 ≤ mcap μ c i) : (μ 0 c = 1 ∧ 1 ≤ μ 2 c) ∨ (μ 0 c = 2 ∧ i ≠ 0) := by
  unfold mcap at h
  by_cases e : μ 0 c = 1
  · rw [if_pos e] at h; exact Or.inl ⟨e, h⟩
  · rw [if_neg e] at h
    by_cases e2 : μ 0 c = 2 ∧ i ≠ 0
    · exact Or.inr e2
    · rw [if_neg e2] at h; omega
/-- somebody's end: what the others see -/
theorem mbal_end {μ μ' : mS} {v vp v' : Nat → Nat} (h : mbal μ v) (hp : mbal μ vp) (h0 : mbal μ id) (h8 : ∀ d, d < 12 → μ 1 (v d) ≤ 8 ∧ μ 1 (vp d) ≤ 8 ∧ μ 1 d ≤ 8)
    (hs : ∀ d, d < 12 → (v d = d ∧ csame μ μ' (vp d) (v' d)) ∨ (vp d = d ∧ csame μ μ' (v d) (v' d))) : mbal μ' v' := by
  have key : ∀ d i, d < 12 → men μ' (v' d) i = men μ (v d) i + men μ (vp d) i - men μ d i ∧ mcap μ' (v' d) i = mcap μ (v d) i + mcap μ (vp d) i - mcap μ d i := fun d i hd => by
    have b := h8 d hd
    rcases hs d hd with ⟨e, hc⟩ | ⟨e, hc⟩
    · rw [men_c hc b.2.1, mcap_c hc, e]; omega
    · rw [men_c hc b.1, mcap_c hc, e]; omega
  intro i hi
  rw [(key i i hi).2, sm_add3 (a := fun d => men μ (v d) i) (b := fun d => men μ (vp d) i) (c := fun d => men μ d i) 12 (fun d hd => (key d i hd).1), h i hi, hp i hi]
  have := h0 i hi
  simp only [id] at this
  omega
