/-! runs of the model's code with loops -/
def mW (G : gG) (σ : gS) (hm : Nat) (M : gM) (fr : Nat) (Q : mQ) (pc : Nat) (L : gL) (st : List gV) (μ : mS) : Prop := mJ G σ hm M fr σ.2.2.1 σ.2.2.2 Q pc L st μ
theorem okM_e {G : gG} (hG : gGood G) {σ : gS} {hm : Nat} (hb : gBase G ≤ hm) {M : gM} (hown : M.1.cls = gOwn 4) (htb : xTbOK M.2.1 M.2.2.2.2.2) (stop : Nat → Bool) {fr : Nat} {as : List gV} {μ : mS} {Q : mQ} (h : vcM G σ hm M fr Q stop 1000 0 (gent 0 as) [] μ (fun pc L st μ' => bx 0 (mW G σ hm M fr Q pc L st μ'))) : bx 0 (gOKm G σ hm M fr as μ Q) := by
  refine bx_in ?_
  unfold gOKm gOKb
  rw [fL_gent]
  exact vcg_snd (J := mJ G σ hm M fr σ.2.2.1 σ.2.2.2 Q) (vstepM hG hb hown htb) (fun _ _ _ _ h => bx_out h) 1000 0 _ _ _ h
theorem okM_l {G : gG} (hG : gGood G) {σ : gS} {hm : Nat} (hb : gBase G ≤ hm) {M : gM} (hown : M.1.cls = gOwn 4) (htb : xTbOK M.2.1 M.2.2.2.2.2) (stop : Nat → Bool) {fr : Nat} {pc : Nat} {L : gL} {st : List gV} {μ : mS} {Q : mQ} (h : vstep none M.2.2.2.2.2 M.2.2.1 (hopM G σ hm M fr Q) pc L st μ (fun pc L st μ => vcM G σ hm M fr Q stop 1000 pc L st μ (fun pc L st μ' => bx 0 (mW G σ hm M fr Q pc L st μ')))) : bx 0 (mW G σ hm M fr Q pc L st μ) := by
  refine bx_in ?_
  refine vstepM hG hb hown htb pc L st μ _ (fun pc L st μ h => ?_) h
  exact vcg_snd (J := mJ G σ hm M fr σ.2.2.1 σ.2.2.2 Q) (vstepM hG hb hown htb) (fun _ _ _ _ h => bx_out h) 1000 _ _ _ _ h
theorem mWe {G : gG} {σ : gS} {hm : Nat} {M : gM} {fr : Nat} {Q : mQ} {pc : Nat} {L : gL} {st : List gV} {μ : mS} {μ' : mS} (h : bx 0 (mW G σ hm M fr Q pc L st μ')) (e : μ = μ') : bx 0 (mW G σ hm M fr Q pc L st μ) := e ▸ h
theorem mQe {Q : mQ} {v v' : Option Int} {μ μ' : mS} (h : Q v' μ') (e : v = v') (e2 : μ = μ') : Q v μ := e ▸ e2 ▸ h
/-- downwards to a loop's head -/
theorem dn {P : Nat → Prop} (N : Nat) (h : ∀ k, k ≤ N → (k < N → P (k + 1)) → P k) : ∀ k, k ≤ N → P k := by
  have key : ∀ n k, k + n = N → P k := by
    intro n
    induction n with
    | zero => intro k e; exact h k (by omega) (fun q => by omega)
    | succ n ih => intro k e; exact h k (by omega) (fun _ => ih (k + 1) (by omega))
  intro k hk
  exact key (N - k) k (by omega)
/-! the model's members: leaves -/
section ML
variable {G : gG} {σ : gS} {hm fr : Nat} {μ : mS} {Q : mQ}
def mdropk (p k : Nat) (μ : mS) : mS := fun a j => if (a = 5 ∨ a = 6) ∧ 15 * p ≤ j ∧ j < 15 * p + k then 0 else μ a j
def mdrop (p : Nat) (μ : mS) : mS := fun a j => if (a = 5 ∨ a = 6) ∧ 15 * p ≤ j ∧ j < 15 * p + 15 then 0 else if (a = 9 ∨ a = 11 ∨ a = 17) ∧ j = p then 0 else μ a j
theorem tX5_is (hG : gGood G) (hb : gBase G ≤ hm) {v a b : Int} (hv : inR v) (ha : inR a) (hb2 : inR b) (hQ1 : a ≤ v → v ≤ b → Q (some 1) μ) (hQ0 : ¬ (a ≤ v ∧ v ≤ b) → Q (some 0) μ) : bx 0 (gOKm G σ hm mX5_is fr [vi v, vi a, vi b] μ Q) := by
  refine okM (M := mX5_is) hG hb rfl okX5_is ?_
  repeat' (first | ((conv => whnf); first | refine And.intro ?_ ?_ | intro h9) | exact rfl | omega | (simp only [mlen]; omega) | exact Nat.le_of_ble_eq_true rfl | exact Or.inl rfl | exact Or.inr rfl | assumption | (show (_ : Int) ≤ _; grind) | (show (_ : Int) < _; grind))
  · exact hQ0 (by omega)
  · exact hQ0 (by omega)
  · exact hQ1 (by omega) (by omega)
theorem tX5_refuse (hG : gGood G) (hb : gBase G ≤ hm) {c : Int} (hv : inR c) (hQ : Q (some 0) (mup μ 26 0 c)) : bx 0 (gOKm G σ hm mX5_refuse fr [vr 0, vi c] μ Q) := by
  refine okM (M := mX5_refuse) hG hb rfl okX5_refuse ?_
  repeat' (first | ((conv => whnf); first | refine And.intro ?_ ?_ | intro h9) | exact rfl | omega | (simp only [mlen]; omega) | exact Nat.le_of_ble_eq_true rfl | exact Or.inl rfl | exact Or.inr rfl | assumption | (show (_ : Int) ≤ _; grind) | (show (_ : Int) < _; grind))
theorem tX5_thrown (hG : gGood G) (hb : gBase G ≤ hm) (hQ : inR (μ 26 0) → Q (some (μ 26 0)) μ) : bx 0 (gOKm G σ hm mX5_thrown fr [vr 0] μ Q) := by
  refine okM (M := mX5_thrown) hG hb rfl okX5_thrown ?_
  repeat' (first | ((conv => whnf); first | refine And.intro ?_ ?_ | intro h9) | exact rfl | omega | (simp only [mlen]; omega) | exact Nat.le_of_ble_eq_true rfl | exact Or.inl rfl | exact Or.inr rfl | assumption | (show (_ : Int) ≤ _; grind) | (show (_ : Int) < _; grind))
  exact hQ (by assumption)
theorem tX5_drop (hG : gGood G) (hb : gBase G ≤ hm) {p : Int} (hp : 0 ≤ p ∧ p < 6) (hQ : Q none (mdrop p.toNat μ)) : bx 0 (gOKm G σ hm mX5_drop fr [vr 0, vi p] μ Q) := by
  have key : ∀ k : Nat, k ≤ 15 → bx 0 (mW G σ hm mX5_drop fr Q 2 [(0, vr 0), (1, vi p), (2, vi k)] [] (mdropk p.toNat k μ)) := by
    refine dn 15 fun k hk ih => ?_
    refine okM_l (M := mX5_drop) hG hb rfl okX5_drop (fun pc => Nat.beq pc 2) ?_
    repeat' (first | ((conv => whnf); first | refine And.intro ?_ ?_ | intro h9) | exact rfl | omega | (simp only [mlen]; omega) | exact Nat.le_of_ble_eq_true rfl | exact Or.inl rfl | exact Or.inr rfl | assumption | (show (_ : Int) ≤ _; grind) | (show (_ : Int) < _; grind))
    · refine mQe hQ rfl ?_
      funext a j; simp only [mup, mdropk, mdrop]; grind
    · refine mWe (ih (by omega)) ?_
      funext a j; simp only [mup, mdropk]; grind
  refine okM_e (M := mX5_drop) hG hb rfl okX5_drop (fun pc => Nat.beq pc 2) ?_
  repeat' (first | ((conv => whnf); first | refine And.intro ?_ ?_ | intro h9) | exact rfl | omega | (simp only [mlen]; omega) | exact Nat.le_of_ble_eq_true rfl | exact Or.inl rfl | exact Or.inr rfl | assumption | (show (_ : Int) ≤ _; grind) | (show (_ : Int) < _; grind))
  refine mWe (key 0 (by omega)) ?_
  funext a j; simp only [mdropk]; grind
theorem tX5_isProcess (hG : gGood G) (hb : gBase G ≤ hm) {p : Int} (hp : inR p) (hQ1 : 0 ≤ p → p ≤ 5 → μ 8 p.toNat = 1 → Q (some 1) μ) (hQ0 : ¬ (0 ≤ p ∧ p ≤ 5 ∧ μ 8 p.toNat = 1) → Q (some 0) μ) : bx 0 (gOKm G σ hm mX5_isProcess (fr + 1) [vr 0, vi p] μ Q) := by
  refine okM (M := mX5_isProcess) hG hb rfl okX5_isProcess ?_
  repeat' (first | refine tX5_is hG hb ?_ ?_ ?_ ?_ ?_ | ((conv => whnf); first | refine And.intro ?_ ?_ | intro h9) | exact rfl | omega | (simp only [mlen]; omega) | exact Nat.le_of_ble_eq_true rfl | exact Or.inl rfl | exact Or.inr rfl | assumption | (show (_ : Int) ≤ _; grind) | (show (_ : Int) < _; grind))
  · exact hQ0 (by grind)
  · exact hQ1 (by omega) (by omega) (by grind)
  · exact hQ0 (by omega)
theorem tX5_of (hG : gGood G) (hb : gBase G ≤ hm) {p i : Int} (hp : 0 ≤ p ∧ p < 6) (hi : 0 ≤ i ∧ i < 15) (hQ1 : ¬ μ 5 (15 * p.toNat + i.toNat) = 0 → Q (some (15 + 15 * p + i)) μ) (hQ0 : μ 5 (15 * p.toNat + i.toNat) = 0 → Q (some i) μ) : bx 0 (gOKm G σ hm mX5_of fr [vr 0, vi p, vi i] μ Q) := by
  refine okM (M := mX5_of) hG hb rfl okX5_of ?_
  have e : (15 * p + i).toNat = 15 * p.toNat + i.toNat := by omega
  repeat' (first | ((conv => whnf); first | refine And.intro ?_ ?_ | intro h9) | exact rfl | omega | (simp only [mlen]; omega) | exact Nat.le_of_ble_eq_true rfl | exact Or.inl rfl | exact Or.inr rfl | assumption | (show (_ : Int) ≤ _; grind) | (show (_ : Int) < _; grind))
  · rw [e] at h9; exact hQ0 h9
  · rw [e] at h9; exact hQ1 h9
def mcopyk (f t k : Nat) (μ : mS) : mS := fun a j => if a ≤ 2 ∧ j = t then μ a f else if (a = 3 ∨ a = 4) ∧ 8 * t ≤ j ∧ j < 8 * t + k then μ a (8 * f + (j - 8 * t)) else μ a j
def mcopy (f t : Nat) (μ : mS) : mS := mcopyk f t 8 μ
theorem mcopyk_s {f t k : Nat} (h : f ≠ t) (hk : k < 8) (μ : mS) : mup (mup (mcopyk f t k μ) 3 (8 * t + k) (mcopyk f t k μ 3 (8 * f + k))) 4 (8 * t + k) (mup (mcopyk f t k μ) 3 (8 * t + k) (mcopyk f t k μ 3 (8 * f + k)) 4 (8 * f + k)) = mcopyk f t (k + 1) μ := by
  funext a j; simp only [mup, mcopyk]; grind (splits := 20)
theorem tX5_copy (hG : gGood G) (hb : gBase G ≤ hm) {f t : Int} (hf : 0 ≤ f ∧ f < 105) (ht : 0 ≤ t ∧ t < 105) (hn : f ≠ t) (hQ : Q none (mcopy f.toNat t.toNat μ)) : bx 0 (gOKm G σ hm mX5_copy fr [vr 0, vi f, vi t] μ Q) := by
  have key : ∀ k : Nat, k ≤ 8 → bx 0 (mW G σ hm mX5_copy fr Q 38 [(0, vr 0), (1, vi f), (2, vi t), (3, vi k)] [] (mcopyk f.toNat t.toNat k μ)) := by
    refine dn 8 fun k hk ih => ?_
    refine okM_l (M := mX5_copy) hG hb rfl okX5_copy (fun pc => Nat.beq pc 38) ?_
    repeat' (first | ((conv => whnf); first | refine And.intro ?_ ?_ | intro h9) | exact rfl | omega | (simp only [mlen]; omega) | exact Nat.le_of_ble_eq_true rfl | exact Or.inl rfl | exact Or.inr rfl | assumption | (show (_ : Int) ≤ _; grind) | (show (_ : Int) < _; grind))
    · refine mQe hQ rfl ?_
      have : k = 8 := by omega
      rw [this]; rfl
    · refine mWe (ih (by omega)) ?_
      have e1 : (8 * t + (k:Int)).toNat = 8 * t.toNat + k := by omega
      have e2 : (8 * f + (k:Int)).toNat = 8 * f.toNat + k := by omega
      rw [e1, e2]
      exact mcopyk_s (by omega) (by omega) μ
  refine okM_e (M := mX5_copy) hG hb rfl okX5_copy (fun pc => Nat.beq pc 38) ?_
  repeat' (first | ((conv => whnf); first | refine And.intro ?_ ?_ | intro h9) | exact rfl | omega | (simp only [mlen]; omega) | exact Nat.le_of_ble_eq_true rfl | exact Or.inl rfl | exact Or.inr rfl | assumption | (show (_ : Int) ≤ _; grind) | (show (_ : Int) < _; grind))
  refine mWe (key 0 (by omega)) ?_
  funext a j; simp only [mup, mcopyk]; grind
def mabortk (p k : Nat) (μ : mS) : mS := fun a j => if a = 22 ∧ j = 3 then μ 22 3 + 1 else if a = 18 ∧ 4 * p ≤ j ∧ j < 4 * p + k then μ 20 j else if a = 19 ∧ 4 * p ≤ j ∧ j < 4 * p + k then μ 21 j else μ a j
def mabort (p : Nat) (μ : mS) : mS := mdrop p (mabortk p 4 μ)
theorem mabortk_s {p k : Nat} (μ : mS) (hk : k < 4) (j9 : Nat) (hj : j9 = 4 * p + k) : mup (mup (mabortk p k μ) 18 j9 (mabortk p k μ 20 j9)) 19 j9 (mup (mabortk p k μ) 18 j9 (mabortk p k μ 20 j9) 21 j9) = mabortk p (k + 1) μ := by
  subst hj
  funext a j; simp only [mup, mabortk]; grind (splits := 20)
theorem tX5_aborted (hG : gGood G) (hb : gBase G ≤ hm) {p : Int} (hp : 0 ≤ p ∧ p < 6) (hc : inR (μ 22 3 + 1)) (hQ : Q none (mabort p.toNat μ)) : bx 0 (gOKm G σ hm mX5_aborted (fr + 1) [vr 0, vi p] μ Q) := by
  have key : ∀ k : Nat, k ≤ 4 → ∀ x : Int, x = 4 * p + k → bx 0 (mW G σ hm mX5_aborted (fr + 1) Q 14 [(0, vr 0), (1, vi p), (2, vi x)] [] (mabortk p.toNat k μ)) := by
    refine dn 4 fun k hk ih x hx => ?_
    refine okM_l (M := mX5_aborted) hG hb rfl okX5_aborted (fun pc => Nat.beq pc 14) ?_
    repeat' (first | refine tX5_drop hG hb ?_ ?_ | ((conv => whnf); first | refine And.intro ?_ ?_ | intro h9) | exact rfl | omega | (simp only [mlen]; omega) | exact Nat.le_of_ble_eq_true rfl | exact Or.inl rfl | exact Or.inr rfl | assumption | (show (_ : Int) ≤ _; grind) | (show (_ : Int) < _; grind))
    · refine mQe hQ rfl ?_
      have : k = 4 := by omega
      rw [this]; rfl
    · refine mWe (ih (by omega) _ (by omega)) ?_
      exact mabortk_s μ (by omega) _ (by omega)
  refine okM_e (M := mX5_aborted) hG hb rfl okX5_aborted (fun pc => Nat.beq pc 14) ?_
  repeat' (first | ((conv => whnf); first | refine And.intro ?_ ?_ | intro h9) | exact rfl | omega | (simp only [mlen]; omega) | exact Nat.le_of_ble_eq_true rfl | exact Or.inl rfl | exact Or.inr rfl | assumption | (show (_ : Int) ≤ _; grind) | (show (_ : Int) < _; grind))
  refine mWe (key 0 (by omega) (4 * p) (by omega)) ?_
  funext a j; simp only [mup, mabortk]; grind
def b2i (b : Bool) : Int := bif b then 1 else 0
def cnt (S : Nat → Bool) : Nat → Int
  | 0 => 0
  | n + 1 => cnt S n + b2i (S n)
/-- whom a process meets at an item -/
def mcf (μ : mS) (p i : Nat) (w : Int) (q : Nat) : Bool := decide (q ≠ p ∧ μ 9 q = 1 ∧ (μ 5 (15 * q + i) = 1 ∨ (w = 1 ∧ μ 6 (15 * q + i) = 1)))
def mabsk (S : Nat → Bool) (k : Nat) (μ : mS) : mS := fun a j =>
  if a = 22 ∧ j = 3 then μ 22 3 + cnt S k
  else if a = 18 ∧ j / 4 < k ∧ S (j / 4) = true then μ 20 j
  else if a = 19 ∧ j / 4 < k ∧ S (j / 4) = true then μ 21 j
  else if (a = 5 ∨ a = 6) ∧ j / 15 < k ∧ S (j / 15) = true then 0
  else if (a = 9 ∨ a = 11 ∨ a = 17) ∧ j < k ∧ S j = true then 0
  else if a = 10 ∧ j < k ∧ S j = true then 1
  else μ a j
theorem mabsk_0 (S : Nat → Bool) (μ : mS) : mabsk S 0 μ = μ := by
  funext a j; simp only [mabsk, cnt]; grind
theorem mabsk_f {S : Nat → Bool} {k : Nat} {μ : mS} (h : S k = false) : mabsk S k μ = mabsk S (k + 1) μ := by
  have e1 : ∀ x, (x < k ∧ S x = true) ↔ (x < k + 1 ∧ S x = true) := by intro x; constructor <;> intro ⟨h1, h2⟩ <;> refine ⟨?_, h2⟩ <;> grind
  funext a j; simp only [mabsk, cnt, h, e1, b2i, cond_false, Int.add_zero]
theorem mabsk_t {S : Nat → Bool} {k : Nat} {μ : mS} (h : S k = true) : mup (mabort k (mabsk S k μ)) 10 k 1 = mabsk S (k + 1) μ := by
  have e1 : ∀ x, (x < k + 1 ∧ S x = true) ↔ ((x < k ∧ S x = true) ∨ x = k) := by intro x; grind
  have e15 : ∀ x, (15 * k ≤ x ∧ x < 15 * k + 15) ↔ x / 15 = k := by intro x; omega
  have e4 : ∀ x, (4 * k ≤ x ∧ x < 4 * k + 4) ↔ x / 4 = k := by intro x; omega
  funext a j; simp only [mup, mabort, mdrop, mabortk, mabsk, cnt, h, e1, e15, e4, b2i, cond_true]; grind (splits := 30)
end ML
