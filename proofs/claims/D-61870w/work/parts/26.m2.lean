/-! the model's object: one state of ints, by array and place -/
abbrev mS : Type := Nat → Nat → Int
def mup (μ : mS) (k j : Nat) (v : Int) : mS := fun a b => if a = k ∧ b = j then v else μ a b
def mlen (k : Nat) : Nat := match k with
  | 0 | 1 | 2 => 105
  | 3 | 4 => 840
  | 5 | 6 => 90
  | 7 => 15
  | 8 | 9 | 10 | 11 | 12 | 14 | 17 | 22 => 6
  | 13 | 15 | 16 | 18 | 19 | 20 | 21 => 24
  | _ => 0
def mbl (k : Nat) : Bool := Nat.ble 5 k && Nat.ble k 10
def mt (k : Nat) : Nat := bif mbl k then 1 else 0
theorem mlen_le (k : Nat) : mlen k ≤ 2147483647 := by unfold mlen; split <;> omega
def mfv (hm : Nat) (μ : mS) (k : Nat) : gV := bif Nat.blt k 23 then .inr (.inl (some (hm + (k + 1)))) else .inl (μ k 0)
def mobj (hm : Nat) (μ : mS) : List gV := (List.range 31).map (mfv hm μ)
theorem mobj_at {hm : Nat} {μ : mS} {k : Nat} (h : k < 31) : (mobj hm μ)[k]? = some (mfv hm μ k) := by
  unfold mobj
  rw [List.getElem?_map, List.getElem?_range h]; rfl
def mE (hm : Nat) (μ : mS) (j : Nat) : gE := match j with
  | 0 => .inl (3, mobj hm μ)
  | k + 1 => .inr (mt k, mlen k, .inl (μ k))
def gMset (σ : gS) (hm : Nat) (μ : mS) : gS := (fun a => if hm ≤ a ∧ a < hm + 24 then some (mE hm μ (a - hm)) else σ.1 a, σ.2)
theorem gMset_obj {σ : gS} {hm : Nat} {μ : mS} : (gMset σ hm μ).1 hm = some (.inl (3, mobj hm μ)) := by
  show (if hm ≤ hm ∧ hm < hm + 24 then _ else _) = _
  rw [if_pos ⟨Nat.le_refl _, by omega⟩, Nat.sub_self]; rfl
theorem gMset_arr {σ : gS} {hm : Nat} {μ : mS} {k : Nat} (h : k < 23) : (gMset σ hm μ).1 (hm + (k + 1)) = some (.inr (mt k, mlen k, .inl (μ k))) := by
  show (if hm ≤ hm + (k + 1) ∧ hm + (k + 1) < hm + 24 then _ else _) = _
  rw [if_pos ⟨by omega, by omega⟩, Nat.add_sub_cancel_left]; rfl
theorem mup_same (μ : mS) (k j : Nat) (v : Int) : mup μ k j v k = va_up (μ k) j v := by
  funext b
  unfold mup va_up
  by_cases h : b = j
  · rw [if_pos ⟨rfl, h⟩, if_pos h]
  · rw [if_neg (fun q => h q.2), if_neg h]
theorem mup_other (μ : mS) {k k' : Nat} (j : Nat) (v : Int) (h : k' ≠ k) : mup μ k j v k' = μ k' := by
  funext b
  exact if_neg (fun q => h q.1)
theorem mobj_up {hm : Nat} {μ : mS} {k j : Nat} {v : Int} (h : k < 23) : mobj hm (mup μ k j v) = mobj hm μ := by
  unfold mobj
  apply List.map_congr_left
  intro a _
  unfold mfv
  cases hb : Nat.blt a 23 with
  | true => rfl
  | false =>
    have : a ≠ k := fun e => by
      subst e
      rw [show Nat.blt a 23 = true from Nat.ble_eq_true_of_le h] at hb
      cases hb
    rw [mup_other μ j v this]
theorem gMset_putA {σ : gS} {hm : Nat} {μ : mS} {k j : Nat} {x : Int} (h : k < 23) : gset (gMset σ hm μ).1 (hm + (k + 1)) (.inr (mt k, mlen k, .inl (va_up (μ k) j x))) = (gMset σ hm (mup μ k j x)).1 := by
  funext a
  unfold gset gMset
  dsimp only
  by_cases e : a = hm + (k + 1)
  · subst e
    rw [if_pos rfl, if_pos ⟨by omega, by omega⟩, Nat.add_sub_cancel_left]
    show some (Sum.inr (mt k, mlen k, Sum.inl (va_up (μ k) j x))) = some (Sum.inr (mt k, mlen k, Sum.inl (mup μ k j x k)))
    rw [mup_same]
  · rw [if_neg e]
    by_cases r : hm ≤ a ∧ a < hm + 24
    · rw [if_pos r, if_pos r]
      congr 1
      cases hj : a - hm with
      | zero => show Sum.inl (3, mobj hm μ) = Sum.inl (3, mobj hm (mup μ k j x)); rw [mobj_up h]
      | succ q =>
        have : q ≠ k := by omega
        show Sum.inr (mt q, mlen q, Sum.inl (μ q)) = Sum.inr (mt q, mlen q, Sum.inl (mup μ k j x q))
        rw [mup_other μ j x this]
    · rw [if_neg r, if_neg r]
theorem gMset_putF {σ : gS} {hm : Nat} {μ : mS} {k : Nat} {x : Int} (h0 : 23 ≤ k) (h : k < 31) : gset (gMset σ hm μ).1 hm (.inl (3, (mobj hm μ).set k (.inl x))) = (gMset σ hm (mup μ k 0 x)).1 := by
  have e1 : (mobj hm μ).set k (.inl x) = mobj hm (mup μ k 0 x) := by
    apply List.ext_getElem?
    intro q
    by_cases hq : q < 31
    · rw [mobj_at hq, List.getElem?_set]
      by_cases e : k = q
      · subst e
        rw [if_pos rfl, if_pos (by simp [mobj]; omega)]
        unfold mfv
        have : Nat.blt k 23 = false := by
          cases hb : Nat.blt k 23 with
          | false => rfl
          | true => have := Nat.le_of_ble_eq_true hb; omega
        rw [this]
        show _ = some (Sum.inl (mup μ k 0 x k 0))
        unfold mup
        rw [if_pos ⟨rfl, rfl⟩]
      · rw [if_neg e, mobj_at hq]
        unfold mfv
        rw [mup_other μ 0 x (fun z => e z.symm)]
    · rw [List.getElem?_eq_none (by simp [mobj]; omega), List.getElem?_eq_none (by simp [mobj]; omega)]
  funext a
  unfold gset gMset
  dsimp only
  by_cases e : a = hm
  · subst e
    rw [if_pos rfl, if_pos ⟨by omega, by omega⟩, Nat.sub_self, e1]; rfl
  · rw [if_neg e]
    by_cases r : hm ≤ a ∧ a < hm + 24
    · rw [if_pos r, if_pos r]
      congr 1
      cases hj : a - hm with
      | zero => omega
      | succ q =>
        show Sum.inr (mt q, mlen q, Sum.inl (μ q)) = Sum.inr (mt q, mlen q, Sum.inl (mup μ k 0 x q))
        rw [mup_other μ 0 x (by omega)]
    · rw [if_neg r, if_neg r]
/-- references of the model's code: 0 the object, k + 1 its array k -/
def msh (hm : Nat) (r : Option Nat) : Option Nat := match r with
  | none => none
  | some k => some (hm + k)
abbrev mQ : Type := Option Int → mS → Prop
def mpost (σ : gS) (hm : Nat) (Q : mQ) : gO → gS → Prop := fun out σ' => ∃ v μ', out = .inl (v.map Sum.inl) ∧ σ' = gMset σ hm μ' ∧ Q v μ'
def gOKm (G : gG) (σ : gS) (hm : Nat) (M : gM) (fr : Nat) (as : List gV) (μ : mS) (Q : mQ) : Prop := gOKb G M fr (as.map (fV (msh hm))) (gMset σ hm μ) (mpost σ hm Q)
def mints (v : Option Int) : List gV := match v with
  | none => []
  | some z => [.inl z]
def gclM (G : gG) (σ : gS) (hm : Nat) (M' : gM) (fr nx : Nat) (L : gL) (as rest : List gV) (μ : mS) (K : Nat → gL → List gV → mS → Prop) : Prop :=
  bif (Nat.ble (gcat rest + (M'.2.2.1 + 11)) 100 && Nat.ble (gargw as) M'.2.2.1) then (match fr with
    | 0 => False
    | fr' + 1 => bx 0 (gOKm G σ hm M' fr' as μ (fun v μ' => K nx L (mints v ++ rest) μ'))) else False
def hopM (G : gG) (σ : gS) (hm : Nat) (M : gM) (fr : Nat) (Q : mQ) : xHop (Option Nat) mS := fun _ i nx _ L st μ K => match i with
  | .getfield idx => match glk (gFl 4) idx with
    | some (_, k, _) => (match st with
      | .inr (.inl r) :: st => r = some 0 ∧ (bif Nat.blt k 23 then K nx L (.inr (.inl (some (k + 1))) :: st) μ else (okI (gbool 3 k) (μ k 0) → K nx L (.inl (μ k 0) :: st) μ))
      | _ => False)
    | none => False
  | .putfield idx => match glk (gFl 4) idx with
    | some (_, k, _) => (match st with
      | .inl z :: .inr (.inl r) :: st => r = some 0 ∧ Nat.blt k 23 = false ∧ okI (gbool 3 k) z ∧ K nx L st (mup μ k 0 z)
      | _ => False)
    | none => False
  | .iaload => match st with
    | .inl z :: .inr (.inl (some (k + 1))) :: st => bif (mbl k || !(Nat.blt k 23)) then False else (0 ≤ z ∧ z < (mlen k : Int)) ∧ (inR (μ k z.toNat) → K nx L (.inl (μ k z.toNat) :: st) μ)
    | _ => False
  | .baload => match st with
    | .inl z :: .inr (.inl (some (k + 1))) :: st => bif !(mbl k) then False else (0 ≤ z ∧ z < (mlen k : Int)) ∧ ((μ k z.toNat = 0 ∨ μ k z.toNat = 1) → K nx L (.inl (μ k z.toNat) :: st) μ)
    | _ => False
  | .iastore => match st with
    | .inl x :: .inl z :: .inr (.inl (some (k + 1))) :: st => bif (mbl k || !(Nat.blt k 23)) then False else (0 ≤ z ∧ z < (mlen k : Int)) ∧ inR x ∧ K nx L st (mup μ k z.toNat x)
    | _ => False
  | .bastore => match st with
    | .inl x :: .inl z :: .inr (.inl (some (k + 1))) :: st => bif !(mbl k) then False else (0 ≤ z ∧ z < (mlen k : Int)) ∧ (x = 0 ∨ x = 1) ∧ K nx L st (mup μ k z.toNat x)
    | _ => False
  | .ireturn => match st with
    | [.inl z] => (match M.2.2.2.1 with
      | some .int => Q (some z) μ
      | some .boolean => (z = 0 ∨ z = 1) ∧ Q (some z) μ
      | _ => False)
    | _ => False
  | .return_ => match st with
    | [] => (match M.2.2.2.1 with
      | none => Q none μ
      | _ => False)
    | _ => False
  | .invokestatic idx => match glk (gMl 4) idx with
    | some (kd, na, _, (_, M') :: _) => Nat.beq kd 0 = true ∧ (match xpop na st [] with
      | some (as, rest) => gclM G σ hm M' fr nx L as rest μ K
      | none => False)
    | _ => False
  | .invokevirtual idx => match glk (gMl 4) idx with
    | some (kd, na, _, (c, M') :: _) => (Nat.beq kd 3 && Nat.beq c 3) = true ∧ (match xpop na st [] with
      | some (.inr (.inl r) :: as, rest) => r = some 0 ∧ gclM G σ hm M' fr nx L (.inr (.inl r) :: as) rest μ K
      | _ => False)
    | _ => False
  | _ => False
