/-! a code table's check -/
def xchk (cc : ByteArray) (pc : Nat) (e : Option (Instr × Nat × Nat)) : Bool := match e with
  | none => true
  | some (i, nx, tg) => ximm pc nx tg i && (match i with
    | .tableswitch d lo hi os => (match decode cc pc with
      | .ok (j, _) => decide (j = .tableswitch d lo hi os)
      | _ => false)
    | i => decide (decode cc pc = .ok (i, xlen i)))
theorem xtb_ok {cc : ByteArray} {tb : xTb} (N : Nat) (hN : ∀ pc, N ≤ pc → tb pc = none) (h : (List.range N).all (fun pc => xchk cc pc (tb pc)) = true) : xTbOK cc tb := by
  intro pc i nx tg he
  have hlt : pc < N := by
    rcases Nat.lt_or_ge pc N with h1 | h1
    · exact h1
    · rw [hN pc h1] at he; cases he
  have hc := List.all_eq_true.mp h pc (List.mem_range.mpr hlt)
  rw [he] at hc
  unfold xchk at hc
  simp only [Bool.and_eq_true] at hc
  obtain ⟨h1, h2⟩ := hc
  refine ⟨?_, h1⟩
  split at h2
  · split at h2
    · rename_i j ln hj
      simp only [decide_eq_true_eq] at h2
      subst h2
      exact ⟨ln, hj, fun hh => absurd rfl (hh _ _ _ _)⟩
    · cases h2
  · exact ⟨_, by simpa using h2, fun _ => rfl⟩
