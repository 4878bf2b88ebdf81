/-! the model's members: free items, sweeping -/
theorem xdel_mem {ρ : Type} {L : xL ρ} {k : Nat} {a : Nat × xV ρ} (h : a ∈ xdel L k) : a ∈ L := by
  induction L with
  | nil => exact h
  | cons q r ih =>
    unfold xdel at h
    cases hb : (Nat.beq q.1 k || (Nat.beq (q.1 + 1) k && xlong q.2)) with
    | true => rw [hb] at h; exact List.mem_cons_of_mem _ (ih h)
    | false =>
      rw [hb] at h
      rcases List.mem_cons.mp h with e | e
      · subst e; exact List.mem_cons_self
      · exact List.mem_cons_of_mem _ (ih e)
theorem gW_del {G : gG} {M : gM} {fr rc rs : Nat} {Q : gO → gS → Prop} {pc : Nat} {L : gL} {st : List gV} {σ : gS} (k : Nat) (h : gW G M fr rc rs Q pc (xdel L k) st σ) : gW G M fr rc rs Q pc L st σ := by
  intro p e s m args below meth c H locs ls h1 h2 h3 h4 h5 h6
  refine h p e s m args below meth c H locs ls h1 h2 h3 h4 h5 ⟨h6.1, h6.2.1, fun q hq => h6.2.2 q ?_⟩
  obtain ⟨a, ha, rfl⟩ := List.mem_map.mp hq
  exact List.mem_map.mpr ⟨a, xdel_mem ha, rfl⟩
/-- a local that is no more wanted -/
theorem mW_d {G : gG} {σ : gS} {hm : Nat} {M : gM} {fr : Nat} {Q : mQ} {pc : Nat} {L : gL} {st : List gV} {μ : mS} (k : Nat) (h : bx 0 (mW G σ hm M fr Q pc (xdel L k) st μ)) : bx 0 (mW G σ hm M fr Q pc L st μ) := by
  refine bx_in (gW_del k ?_)
  have h9 := bx_out h
  unfold mW mJ at h9
  rwa [fL_del] at h9
section ML
variable {G : gG} {σ : gS} {hm fr : Nat} {μ : mS} {Q : mQ}
def mhld (μ : mS) (i : Nat) : Nat → Bool
  | 0 => false
  | k + 1 => mhld μ i k || decide (μ 9 k = 1 ∧ μ 5 (15 * k + i) = 1)
theorem mhld_iff {μ : mS} {i : Nat} : ∀ {k : Nat}, mhld μ i k = true ↔ ∃ q, q < k ∧ μ 9 q = 1 ∧ μ 5 (15 * q + i) = 1 := by
  intro k
  induction k with
  | zero => simp [mhld]
  | succ n ih =>
    simp only [mhld, Bool.or_eq_true, ih, decide_eq_true_eq]
    constructor
    · rintro (⟨q, h1, h2⟩ | h)
      · exact ⟨q, by omega, h2⟩
      · exact ⟨n, by omega, h⟩
    · rintro ⟨q, h1, h2⟩
      by_cases h : q = n
      · subst h; exact Or.inr h2
      · exact Or.inl ⟨q, by omega, h2⟩
theorem b2i_r (b : Bool) : 0 ≤ b2i b ∧ b2i b ≤ 1 := by cases b <;> decide
theorem b2i_1 {b : Bool} (h : ¬ b2i b = 0) : b = true := by cases b with | true => rfl | false => exact absurd rfl h
theorem b2i_0 {b : Bool} (h : b2i b = 0) : b = false := by cases b with | false => rfl | true => cases h
def mfree (μ : mS) (i : Nat) : Bool := decide (μ 0 i = 0) && !mhld μ i 6
def mspare (μ : mS) (i : Nat) : Nat → Int
  | 0 => -1
  | n + 1 => if mfree μ i = true then i else mspare μ (i + 1) n
theorem tX5_spare (hG : gGood G) (hb : gBase G ≤ hm) {f t : Int} (hf : 0 ≤ f ∧ f ≤ t + 1) (ht : t < 15) (hQ : Q (some (mspare μ f.toNat (t + 1 - f).toNat)) μ) : bx 0 (gOKm G σ hm mX5_spare fr [vr 0, vi f, vi t] μ Q) := by
  have key : ∀ n : Nat, n ≤ (t + 1 - f).toNat → ∀ x : Int, x = f + n → Q (some (mspare μ x.toNat (t + 1 - x).toNat)) μ → bx 0 (mW G σ hm mX5_spare fr Q 2 [(0, vr 0), (1, vi f), (2, vi t), (3, vi x)] [] μ) := by
    refine dn _ fun n hn ih x hx hQ => ?_
    have inn : ∀ k : Nat, k ≤ 6 → x ≤ t → ∀ b : Int, b = b2i (decide (μ 0 x.toNat = 0) && !mhld μ x.toNat k) → bx 0 (mW G σ hm mX5_spare fr Q 26 [(0, vr 0), (1, vi f), (2, vi t), (3, vi x), (4, vi b), (5, vi k)] [] μ) := by
      refine dn 6 fun k hk ih2 hxt b hb9 => ?_
      have e1 : (15 * (k : Int) + x).toNat = 15 * k + x.toNat := by omega
      have e2 := b2i_r (decide (μ 0 x.toNat = 0) && !mhld μ x.toNat k)
      have e3 : (k : Int).toNat = k := rfl
      have e4 : (t + 1 - x).toNat = (t + 1 - (x + 1)).toNat + 1 := by omega
      rw [e4] at hQ
      refine okM_l (M := mX5_spare) hG hb rfl okX5_spare (fun pc => Nat.beq pc 26 || Nat.beq pc 2) ?_
      repeat' (first | ((conv => whnf); first | refine And.intro ?_ ?_ | intro h9) | exact rfl | omega | (simp only [mlen]; omega) | exact Nat.le_of_ble_eq_true rfl | exact Or.inl rfl | exact Or.inr rfl | assumption | (show (_ : Int) ≤ _; grind) | (show (_ : Int) < _; grind))
      · refine mW_d 5 (mW_d 4 (ih (by omega) (x + 1) (by omega) ?_))
        have h7 := h9
        have : k = 6 := by omega
        subst this
        have h8 : mfree μ x.toNat = false := b2i_0 (b := mfree μ x.toNat) (by rw [← h7, hb9]; rfl)
        have e5 : (x + 1).toNat = x.toNat + 1 := by omega
        rw [mspare, if_neg (by rw [h8]; exact Bool.false_ne_true)] at hQ
        rw [e5]; exact hQ
      · have h7 := h9
        have : k = 6 := by omega
        subst this
        have h8 : mfree μ x.toNat = true := b2i_1 (b := mfree μ x.toNat) (by rw [show b2i (mfree μ x.toNat) = b from hb9.symm]; exact h7)
        rw [mspare, if_pos h8] at hQ
        have e5 : ((x.toNat : Nat) : Int) = x := by omega
        rw [e5] at hQ
        exact hQ
      all_goals refine ih2 (by omega) hxt _ ?_
      all_goals rw [e1] at *
      all_goals clear ih ih2 hQ hG hb
      all_goals simp only [mhld]
      · rw [show decide (μ 9 k = 1 ∧ μ 5 (15 * k + x.toNat) = 1) = false from decide_eq_false (by grind), Bool.or_false]; exact hb9
      · rw [show decide (μ 9 k = 1 ∧ μ 5 (15 * k + x.toNat) = 1) = false from decide_eq_false (by grind), Bool.or_false]; exact hb9
      · rw [show decide (μ 9 k = 1 ∧ μ 5 (15 * k + x.toNat) = 1) = true from decide_eq_true (by grind), Bool.or_true]; simp [b2i]
    refine okM_l (M := mX5_spare) hG hb rfl okX5_spare (fun pc => Nat.beq pc 26 || Nat.beq pc 2) ?_
    repeat' (first | ((conv => whnf); first | refine And.intro ?_ ?_ | intro h9) | exact rfl | omega | (simp only [mlen]; omega) | exact Nat.le_of_ble_eq_true rfl | exact Or.inl rfl | exact Or.inr rfl | assumption | (show (_ : Int) ≤ _; grind) | (show (_ : Int) < _; grind))
    · have : (t + 1 - x).toNat = 0 := by omega
      rw [this] at hQ
      exact hQ
    · refine inn 0 (by omega) (by omega) _ ?_
      rw [decide_eq_false (by assumption)]; rfl
    · refine inn 0 (by omega) (by omega) _ ?_
      rw [decide_eq_true (by assumption)]; rfl
  refine okM_e (M := mX5_spare) hG hb rfl okX5_spare (fun pc => Nat.beq pc 2) ?_
  repeat' (first | ((conv => whnf); first | refine And.intro ?_ ?_ | intro h9) | exact rfl | omega | (simp only [mlen]; omega) | exact Nat.le_of_ble_eq_true rfl | exact Or.inl rfl | exact Or.inr rfl | assumption | (show (_ : Int) ≤ _; grind) | (show (_ : Int) < _; grind))
  exact key 0 (by omega) f (by omega) hQ
def mcreate (p i : Nat) (k : Int) (μ : mS) : mS := fun a j => if a = 5 ∧ j = 15 * p + i then 1 else if a = 0 ∧ j = 15 + 15 * p + i then k else if a = 1 ∧ j = 15 + 15 * p + i then 0 else if a = 2 ∧ j = 15 + 15 * p + i then (if k = 1 then 1 else 0) else mcopy i (15 + 15 * p + i) μ a j
theorem tX5_create (hG : gGood G) (hb : gBase G ≤ hm) {p i k : Int} (hp : 0 ≤ p ∧ p < 6) (hi : 0 ≤ i ∧ i < 15) (hk : inR k) (hQ : Q (some i) (mcreate p.toNat i.toNat k μ)) : bx 0 (gOKm G σ hm mX5_create (fr + 1) [vr 0, vi p, vi i, vi k] μ Q) := by
  have e1 : (15 * p + i).toNat = 15 * p.toNat + i.toNat := by omega
  have e2 : (15 + 15 * p + i).toNat = 15 + 15 * p.toNat + i.toNat := by omega
  refine okM (M := mX5_create) hG hb rfl okX5_create ?_
  repeat' (first | refine tX5_copy hG hb ?_ ?_ ?_ ?_ | ((conv => whnf); first | refine And.intro ?_ ?_ | intro h9) | exact rfl | omega | (simp only [mlen]; omega) | exact Nat.le_of_ble_eq_true rfl | exact Or.inl rfl | exact Or.inr rfl | assumption | (show (_ : Int) ≤ _; grind) | (show (_ : Int) < _; grind))
  all_goals refine mQe hQ rfl ?_
  all_goals rw [e2, e1]
  all_goals clear hQ hG hb e1 e2
  all_goals generalize p.toNat = p'
  all_goals generalize i.toNat = i'
  all_goals funext a j; simp only [mup, mcreate, mcopy, mcopyk]; grind (splits := 20)
/-- a descriptor names an item -/
def mnd (μ : mS) (i : Int) (d : Nat) : Bool := decide ((μ 8 (d / 4) = 1 ∧ 0 ≤ μ 18 d ∧ μ 18 d % 16 = i) ∨ (0 < μ 11 (d / 4) ∧ 0 ≤ μ 20 d ∧ μ 20 d % 16 = i))
def mnm (μ : mS) (i : Int) : Bool := (List.range 24).any (mnd μ i)
theorem mnm_t {μ : mS} {i : Int} {d : Nat} (hd : d < 24) (h : mnd μ i d = true) : mnm μ i = true := List.any_eq_true.mpr ⟨d, List.mem_range.mpr hd, h⟩
theorem mnm_f {μ : mS} {i : Int} (h : ∀ d, d < 24 → mnd μ i d = false) : mnm μ i = false := by
  rw [Bool.eq_false_iff]
  intro h9
  obtain ⟨d, hd, h8⟩ := List.any_eq_true.mp h9
  rw [h d (List.mem_range.mp hd)] at h8
  cases h8
theorem tX5_isNamed (hG : gGood G) (hb : gBase G ≤ hm) {i : Int} (hi : inR i) (hQ1 : mnm μ i = true → Q (some 1) μ) (hQ0 : mnm μ i = false → Q (some 0) μ) : bx 0 (gOKm G σ hm mX5_isNamed fr [vr 0, vi i] μ Q) := by
  have key : ∀ k : Nat, k ≤ 24 → (∀ d, d < k → mnd μ i d = false) → bx 0 (mW G σ hm mX5_isNamed fr Q 2 [(0, vr 0), (1, vi i), (2, vi k)] [] μ) := by
    refine dn 24 fun k hk ih hf => ?_
    have e1 : ((k : Int) / 4).toNat = k / 4 := by omega
    have e2 : (k : Int).toNat = k := rfl
    have e3 := and15 (μ 18 k)
    have e4 := and15 (μ 20 k)
    refine okM_l (M := mX5_isNamed) hG hb rfl okX5_isNamed (fun pc => Nat.beq pc 2) ?_
    repeat' (first | ((conv => whnf); first | refine And.intro ?_ ?_ | intro h9) | exact rfl | omega | (simp only [mlen]; omega) | exact Nat.le_of_ble_eq_true rfl | exact Or.inl rfl | exact Or.inr rfl | assumption | (show (_ : Int) ≤ _; grind) | (show (_ : Int) < _; grind))
    · exact hQ0 (mnm_f fun d hd => hf d (by omega))
    all_goals first
      | refine ih (by omega) (fun d hd => ?_)
        clear ih hQ1 hQ0 hG hb
        by_cases h8 : d < k
        · exact hf d h8
        · clear hf
          have h7 : d = k := by omega
          subst h7
          simp only [mnd, decide_eq_false_iff_not]
          grind
      | refine hQ1 (mnm_t (d := k) (by omega) ?_)
        clear ih hQ1 hQ0 hG hb hf
        simp only [mnd, decide_eq_true_eq]
        grind
  refine okM_e (M := mX5_isNamed) hG hb rfl okX5_isNamed (fun pc => Nat.beq pc 2) ?_
  repeat' (first | ((conv => whnf); first | refine And.intro ?_ ?_ | intro h9) | exact rfl | omega | (simp only [mlen]; omega) | exact Nat.le_of_ble_eq_true rfl | exact Or.inl rfl | exact Or.inr rfl | assumption | (show (_ : Int) ≤ _; grind) | (show (_ : Int) < _; grind))
  exact key 0 (by omega) (fun q hq => by omega)
def mgone (μ : mS) (i : Nat) : Bool := !mnm μ i && !(decide (i < 12) && mhld μ i 6) && decide (μ 0 i = 3 ∨ (μ 0 i = 1 ∧ μ 2 i = 0))
def msweepk (k : Nat) (μ : mS) : mS := fun a j => if a = 0 ∧ 1 ≤ j ∧ j < k ∧ mgone μ j = true then 0 else μ a j
def msweep (μ : mS) : mS := msweepk 15 μ
theorem msweepk_o {k a j : Nat} {μ : mS} (h : ¬ a = 0) : msweepk k μ a j = μ a j := if_neg (fun q => h q.1)
theorem msweepk_j {k a j : Nat} {μ : mS} (h : k ≤ j) : msweepk k μ a j = μ a j := if_neg (fun q => by omega)
theorem mnm_c {μ μ' : mS} (h8 : μ' 8 = μ 8) (h18 : μ' 18 = μ 18) (h11 : μ' 11 = μ 11) (h20 : μ' 20 = μ 20) (i : Int) : mnm μ' i = mnm μ i := by
  unfold mnm
  congr 1
  funext d
  unfold mnd
  rw [h8, h18, h11, h20]
theorem mhld_c {μ μ' : mS} (h9 : μ' 9 = μ 9) (h5 : μ' 5 = μ 5) (i : Nat) : ∀ k, mhld μ' i k = mhld μ i k := by
  intro k
  induction k with
  | zero => rfl
  | succ n ih => simp only [mhld, ih, h9, h5]
theorem msweepk_t {k : Nat} {μ : mS} (h1 : 1 ≤ k) (h : mgone μ k = true) : mup (msweepk k μ) 0 k 0 = msweepk (k + 1) μ := by
  funext a j; simp only [mup, msweepk]; grind
theorem msweepk_f {k : Nat} {μ : mS} (h : mgone μ k = false) : msweepk k μ = msweepk (k + 1) μ := by
  funext a j; simp only [msweepk]; grind
theorem or01 (x y : Bool) : (Int32.ofInt (b2i x) ||| Int32.ofInt (b2i y)).toInt = b2i (x || y) := by cases x <;> cases y <;> decide
theorem or01t (x : Bool) : (Int32.ofInt (b2i x) ||| Int32.ofInt 1).toInt = 1 := by cases x <;> decide
theorem or01f (x : Bool) : (Int32.ofInt (b2i x) ||| Int32.ofInt 0).toInt = b2i x := by cases x <;> decide
theorem tX5_sweep (hG : gGood G) (hb : gBase G ≤ hm) (hQ : Q none (msweep μ)) : bx 0 (gOKm G σ hm mX5_sweep (fr + 1) [vr 0] μ Q) := by
  have key : ∀ n : Nat, n ≤ 14 → bx 0 (mW G σ hm mX5_sweep (fr + 1) Q 2 [(0, vr 0), (1, vi ((n + 1 : Nat) : Int))] [] (msweepk (n + 1) μ)) := by
    refine dn 14 fun n hn ih => ?_
    generalize hi : n + 1 = i at *
    have o1 : mnm (msweepk i μ) i = mnm μ i := mnm_c (by funext j; exact msweepk_o (by omega)) (by funext j; exact msweepk_o (by omega)) (by funext j; exact msweepk_o (by omega)) (by funext j; exact msweepk_o (by omega)) i
    have o2 : ∀ j, msweepk i μ 9 j = μ 9 j := fun j => msweepk_o (by omega)
    have o3 : ∀ j, msweepk i μ 5 j = μ 5 j := fun j => msweepk_o (by omega)
    have o4 : ∀ j, msweepk i μ 2 j = μ 2 j := fun j => msweepk_o (by omega)
    have o5 : msweepk i μ 0 i = μ 0 i := msweepk_j (by omega)
    have e4 : (i : Int).toNat = i := rfl
    have tl : i < 15 → ∀ b : Bool, b = (mnm μ i || (decide (i < 12) && mhld μ i 6)) → bx 0 (mW G σ hm mX5_sweep (fr + 1) Q 65 [(0, vr 0), (1, vi i), (2, vi (b2i b))] [] (msweepk i μ)) := by
      intro hi15 b hb9
      have e2 := b2i_r b
      have ih := ih (by omega)
      refine okM_l (M := mX5_sweep) hG hb rfl okX5_sweep (fun pc => Nat.beq pc 2) ?_
      repeat' (first | ((conv => whnf); first | refine And.intro ?_ ?_ | intro h9) | exact rfl | omega | (simp only [mlen]; omega) | exact Nat.le_of_ble_eq_true rfl | exact Or.inl rfl | exact Or.inr rfl | assumption | (show (_ : Int) ≤ _; grind) | (show (_ : Int) < _; grind))
      all_goals refine mW_d 2 (mWe ih ?_)
      all_goals clear ih hQ hG hb
      all_goals first
        | refine msweepk_f ?_
          simp only [mgone]
          grind [b2i_0, b2i_1]
        | refine msweepk_t (by omega) ?_
          simp only [mgone]
          grind [b2i_0, b2i_1]
    have inn : ∀ k : Nat, k ≤ 6 → i < 15 → ∀ b : Bool, b = (mnm μ i || (decide (i < 12) && mhld μ i k)) → bx 0 (mW G σ hm mX5_sweep (fr + 1) Q 16 [(0, vr 0), (1, vi i), (2, vi (b2i b)), (3, vi k)] [] (msweepk i μ)) := by
      refine dn 6 fun k hk ih2 hxt b hb9 => ?_
      have e1 : (15 * (k : Int) + i).toNat = 15 * k + i := by omega
      have e2 := b2i_r b
      have e3 : (k : Int).toNat = k := rfl
      refine okM_l (M := mX5_sweep) hG hb rfl okX5_sweep (fun pc => Nat.beq pc 16 || Nat.beq pc 65) ?_
      repeat' (first | ((conv => whnf); first | refine And.intro ?_ ?_ | intro h9) | exact rfl | omega | (simp only [mlen]; omega) | exact Nat.le_of_ble_eq_true rfl | exact Or.inl rfl | exact Or.inr rfl | assumption | (show (_ : Int) ≤ _; grind) | (show (_ : Int) < _; grind))
      · refine mW_d 3 (tl hxt b ?_)
        have : k = 6 := by omega
        rw [this] at hb9
        exact hb9
      · refine mW_d 3 (tl hxt b ?_)
        have h8 : ¬ i < 12 := by omega
        rw [hb9, decide_eq_false h8]
        rfl
      all_goals have h8 : i < 12 := by omega
      · rw [or01f b]
        refine ih2 (by omega) hxt b ?_
        rw [o2, e3] at h9
        rw [hb9]; simp only [mhld]
        rw [show decide (μ 9 k = 1 ∧ μ 5 (15 * k + i) = 1) = false from decide_eq_false (by clear ih ih2 tl hQ hG hb; grind), Bool.or_false]
      · rw [or01f b]
        refine ih2 (by omega) hxt b ?_
        rw [o3, e1] at h9
        rw [hb9]; simp only [mhld]
        rw [show decide (μ 9 k = 1 ∧ μ 5 (15 * k + i) = 1) = false from decide_eq_false (by clear ih ih2 tl hQ hG hb; grind), Bool.or_false]
      · rw [or01t b]
        refine ih2 (by omega) hxt true ?_
        rw [o2, o3, e1, e3] at *
        simp only [mhld]
        rw [show decide (μ 9 k = 1 ∧ μ 5 (15 * k + i) = 1) = true from decide_eq_true (by clear ih ih2 tl hQ hG hb; grind), Bool.or_true, decide_eq_true h8, Bool.true_and, Bool.or_true]
    refine okM_l (M := mX5_sweep) hG hb rfl okX5_sweep (fun pc => Nat.beq pc 16) ?_
    repeat' (first | refine tX5_isNamed hG hb ?_ ?_ ?_ | ((conv => whnf); first | refine And.intro ?_ ?_ | intro h9) | exact rfl | omega | (simp only [mlen]; omega) | exact Nat.le_of_ble_eq_true rfl | exact Or.inl rfl | exact Or.inr rfl | assumption | (show (_ : Int) ≤ _; grind) | (show (_ : Int) < _; grind))
    · refine mQe hQ rfl ?_
      have : i = 15 := by omega
      rw [this]; rfl
    · exact inn 0 (by omega) (by omega) true (by rw [← o1, h9]; rfl)
    · exact inn 0 (by omega) (by omega) false (by rw [← o1, h9, mhld, Bool.and_false]; rfl)
  refine okM_e (M := mX5_sweep) hG hb rfl okX5_sweep (fun pc => Nat.beq pc 2) ?_
  repeat' (first | ((conv => whnf); first | refine And.intro ?_ ?_ | intro h9) | exact rfl | omega | (simp only [mlen]; omega) | exact Nat.le_of_ble_eq_true rfl | exact Or.inl rfl | exact Or.inr rfl | assumption | (show (_ : Int) ≤ _; grind) | (show (_ : Int) < _; grind))
  refine mWe (key 0 (by omega)) ?_
  funext a j; simp only [msweepk]; grind
end ML
