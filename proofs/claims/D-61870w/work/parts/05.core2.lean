/-! soundness of xcore over the machine -/
theorem x_nx {nx pc n : Nat} (h : (nx == pc + n) = true) : nx = pc + n := by simpa using h
theorem x_add (a b : Int) : Int32.ofInt (a + b) = Int32.ofInt a + Int32.ofInt b := Int32.ofInt_add a b
theorem x_sub (a b : Int) : Int32.ofInt (a - b) = Int32.ofInt a - Int32.ofInt b := Int32.ofInt_sub a b
theorem x_mul (a b : Int) : Int32.ofInt (a * b) = Int32.ofInt a * Int32.ofInt b := Int32.ofInt_mul a b
theorem x_div {a b : Int} (h : 0 ≤ a ∧ a ≤ 2147483647 ∧ 0 < b ∧ b ≤ 2147483647) : Int32.ofInt (a / b) = Int32.ofInt a / Int32.ofInt b := by
  obtain ⟨h1, h2, h3, h4⟩ := h
  apply Int32.toInt_inj.mp
  have hq : 0 ≤ a / b := Int.ediv_nonneg h1 (by omega)
  have hq2 : a / b ≤ a := Int.ediv_le_self b h1
  rw [x_toInt ⟨by omega, by omega⟩, Int32.toInt_div_of_ne_right _ _ (by
    intro e
    have := congrArg Int32.toInt e
    rw [x_toInt ⟨by omega, by omega⟩] at this
    have h5 : (-1 : Int32).toInt = -1 := by decide
    omega), x_toInt ⟨by omega, by omega⟩, x_toInt ⟨by omega, by omega⟩, Int.tdiv_eq_ediv_of_nonneg h1]
theorem x_rem {a b : Int} (h : 0 ≤ a ∧ a ≤ 2147483647 ∧ 0 < b ∧ b ≤ 2147483647) : Int32.ofInt (a % b) = Int32.ofInt a - Int32.ofInt a / Int32.ofInt b * Int32.ofInt b := by
  rw [← x_div h, ← x_mul, ← x_sub]
  congr 1
  have := Int.emod_def a b
  rw [this, Int.mul_comm]
theorem x_ne0 {b : Int} (h : 0 < b ∧ b ≤ 2147483647) : ¬ Int32.ofInt b = 0 := by
  rw [← x_0, x_eq ⟨by omega, by omega⟩ inR0]
  omega
theorem xsw_t {pc : Nat} {z dflt : Int} {K : Nat → Prop} : ∀ {offs : List Int} {lo : Int}, xsw pc z lo offs dflt K → (∃ (j : Nat) (o : Int), offs[j]? = some o ∧ z = lo + j ∧ K ((pc : Int) + o).toNat) ∨ ((z < lo ∨ lo + offs.length ≤ z) ∧ K ((pc : Int) + dflt).toNat) := by
  intro offs
  induction offs with
  | nil =>
    intro lo h
    refine Or.inr ⟨?_, h⟩
    simp only [List.length_nil]
    omega
  | cons o r ih =>
    intro lo h
    by_cases hz : z = lo
    · exact Or.inl ⟨0, o, rfl, by omega, h.1 hz⟩
    · rcases ih (h.2 hz) with ⟨j, o', h1, h2, h3⟩ | ⟨h1, h2⟩
      · exact Or.inl ⟨j + 1, o', by simpa using h1, by omega, h3⟩
      · refine Or.inr ⟨?_, h2⟩
        simp only [List.length_cons]
        omega
set_option maxHeartbeats 4000000 in
theorem gW_core {G : gG} {M : gM} {fr rc rs : Nat} {Q : gO → gS → Prop} (htb : xTbOK M.2.1 M.2.2.2.2.2) {pc nx tg : Nat} {i : Instr} (hi : M.2.2.2.2.2 pc = some (i, nx, tg)) {L : gL} {st : List gV} {σ : gS}
    (h : xcore none pc i nx tg L st M.2.2.1 (fun pc' L' st' => gW G M fr rc rs Q pc' L' st' σ) (gW G M fr rc rs Q pc L st σ)) : gW G M fr rc rs Q pc L st σ := by
  obtain ⟨⟨len, hd, hlen⟩, him⟩ := htb pc i nx tg hi
  cases i with
  | iconst n =>
    have hlen := hlen (fun _ _ _ _ => by simp)
    subst hlen
    have hnx := x_nx him
    subst hnx
    intro p e s m args below meth c H locs ls hC hR hq h1 h2 hl
    exact lv_iconst hC.1 hC.2.1 hd rfl (h p e s m args below meth c H locs ls hC hR hq h1 h2 hl)
  | bipush n =>
    have hlen := hlen (fun _ _ _ _ => by simp)
    subst hlen
    simp only [ximm, Bool.and_eq_true, decide_eq_true_eq] at him
    obtain ⟨hv, hn⟩ := him
    have hnx := x_nx hn
    subst hnx
    intro p e s m args below meth c H locs ls hC hR hq h1 h2 hl
    exact lv_bipush hC.1 hC.2.1 hd hv (h p e s m args below meth c H locs ls hC hR hq h1 h2 hl)
  | sipush n =>
    have hlen := hlen (fun _ _ _ _ => by simp)
    subst hlen
    simp only [ximm, Bool.and_eq_true, decide_eq_true_eq] at him
    obtain ⟨hv, hn⟩ := him
    have hnx := x_nx hn
    subst hnx
    intro p e s m args below meth c H locs ls hC hR hq h1 h2 hl
    exact lv_sipush hC.1 hC.2.1 hd hv (h p e s m args below meth c H locs ls hC hR hq h1 h2 hl)
  | aconst_null =>
    have hlen := hlen (fun _ _ _ _ => by simp)
    subst hlen
    have hnx := x_nx him
    subst hnx
    intro p e s m args below meth c H locs ls hC hR hq h1 h2 hl
    exact lv_null hC.1 hC.2.1 hd (h p e s m args below meth c H locs ls hC hR hq h1 h2 hl)
  | iload k =>
    have hlen := hlen (fun _ _ _ _ => by simp)
    subst hlen
    have hnx := x_nx him
    subst hnx
    simp only [xcore] at h
    split at h
    · rename_i z hz
      intro p e s m args below meth c H locs ls hC hR hq h1 h2 hl
      exact lv_iload hC.1 hC.2.1 hd (gget hz hl) (h p e s m args below meth c H locs ls hC hR hq h1 h2 hl)
    · exact absurd h id
  | iload_n k =>
    have hlen := hlen (fun _ _ _ _ => by simp)
    subst hlen
    have hnx := x_nx him
    subst hnx
    simp only [xcore] at h
    split at h
    · rename_i z hz
      intro p e s m args below meth c H locs ls hC hR hq h1 h2 hl
      exact lv_iload_n hC.1 hC.2.1 hd rfl (gget hz hl) (h p e s m args below meth c H locs ls hC hR hq h1 h2 hl)
    · exact absurd h id
  | aload k =>
    have hlen := hlen (fun _ _ _ _ => by simp)
    subst hlen
    have hnx := x_nx him
    subst hnx
    simp only [xcore] at h
    split at h
    · rename_i z hz
      intro p e s m args below meth c H locs ls hC hR hq h1 h2 hl
      cases z with
      | none => exact lv_aloadN hC.1 hC.2.1 hd (gget hz hl) (h p e s m args below meth c H locs ls hC hR hq h1 h2 hl)
      | some a => exact lv_aload hC.1 hC.2.1 hd (gget hz hl) (h p e s m args below meth c H locs ls hC hR hq h1 h2 hl)
    · exact absurd h id
  | aload_n k =>
    have hlen := hlen (fun _ _ _ _ => by simp)
    subst hlen
    have hnx := x_nx him
    subst hnx
    simp only [xcore] at h
    split at h
    · rename_i z hz
      intro p e s m args below meth c H locs ls hC hR hq h1 h2 hl
      cases z with
      | none => exact lv_aload_nN hC.1 hC.2.1 hd rfl (gget hz hl) (h p e s m args below meth c H locs ls hC hR hq h1 h2 hl)
      | some a => exact lv_aload_n hC.1 hC.2.1 hd rfl (gget hz hl) (h p e s m args below meth c H locs ls hC hR hq h1 h2 hl)
    · exact absurd h id
  | istore k =>
    have hlen := hlen (fun _ _ _ _ => by simp)
    subst hlen
    have hnx := x_nx him
    subst hnx
    simp only [xcore] at h
    split at h
    · rename_i z st'
      intro p e s m args below meth c H locs ls hC hR hq h1 h2 hl
      exact lv_istore hC.1 hC.2.1 hd hl h.1 (gcL_set (ls := ls) (nL := M.2.2.1) (v := .inl z) rfl) (fun ls' hl' => h.2 p e s m args below meth c H locs ls' hC hR hq h1 h2 (gcL_ins hl'))
    · exact absurd h id
  | istore_n k =>
    have hlen := hlen (fun _ _ _ _ => by simp)
    subst hlen
    have hnx := x_nx him
    subst hnx
    simp only [xcore] at h
    split at h
    · rename_i z st'
      intro p e s m args below meth c H locs ls hC hR hq h1 h2 hl
      exact lv_istore_n hC.1 hC.2.1 hd rfl hl h.1 (gcL_set (ls := ls) (nL := M.2.2.1) (v := .inl z) rfl) (fun ls' hl' => h.2 p e s m args below meth c H locs ls' hC hR hq h1 h2 (gcL_ins hl'))
    · exact absurd h id
  | astore k =>
    have hlen := hlen (fun _ _ _ _ => by simp)
    subst hlen
    have hnx := x_nx him
    subst hnx
    simp only [xcore] at h
    split at h
    · rename_i z st'
      intro p e s m args below meth c H locs ls hC hR hq h1 h2 hl
      cases z with
      | none => exact lv_astoreN hC.1 hC.2.1 hd hl h.1 (gcL_set (ls := ls) (nL := M.2.2.1) (v := .inr (.inl none)) rfl) (fun ls' hl' => h.2 p e s m args below meth c H locs ls' hC hR hq h1 h2 (gcL_ins hl'))
      | some a => exact lv_astore hC.1 hC.2.1 hd hl h.1 (gcL_set (ls := ls) (nL := M.2.2.1) (v := .inr (.inl (some a))) rfl) (fun ls' hl' => h.2 p e s m args below meth c H locs ls' hC hR hq h1 h2 (gcL_ins hl'))
    · exact absurd h id
  | astore_n k =>
    have hlen := hlen (fun _ _ _ _ => by simp)
    subst hlen
    have hnx := x_nx him
    subst hnx
    simp only [xcore] at h
    split at h
    · rename_i z st'
      intro p e s m args below meth c H locs ls hC hR hq h1 h2 hl
      cases z with
      | none => exact lv_astore_nN hC.1 hC.2.1 hd rfl hl h.1 (gcL_set (ls := ls) (nL := M.2.2.1) (v := .inr (.inl none)) rfl) (fun ls' hl' => h.2 p e s m args below meth c H locs ls' hC hR hq h1 h2 (gcL_ins hl'))
      | some a => exact lv_astore_n hC.1 hC.2.1 hd rfl hl h.1 (gcL_set (ls := ls) (nL := M.2.2.1) (v := .inr (.inl (some a))) rfl) (fun ls' hl' => h.2 p e s m args below meth c H locs ls' hC hR hq h1 h2 (gcL_ins hl'))
    · exact absurd h id
  | iinc k n =>
    have hlen := hlen (fun _ _ _ _ => by simp)
    subst hlen
    have hnx := x_nx him
    subst hnx
    simp only [xcore] at h
    split at h
    · rename_i z hz
      intro p e s m args below meth c H locs ls hC hR hq h1 h2 hl
      obtain ⟨j, hj⟩ := List.getElem?_of_mem (List.mem_map.mpr ⟨(k, .inl z), xget_mem hz, rfl⟩ : (k, gc (.inl z)) ∈ gcL L)
      exact lv_iinc hC.1 hC.2.1 hd hl hj (x_add z n).symm h.1 (gcL_set (ls := ls) (nL := M.2.2.1) (v := .inl (z + n)) rfl) (fun ls' hl' => h.2 p e s m args below meth c H locs ls' hC hR hq h1 h2 (gcL_ins hl'))
    · exact absurd h id
  | iadd =>
    have hlen := hlen (fun _ _ _ _ => by simp)
    subst hlen
    have hnx := x_nx him
    subst hnx
    simp only [xcore] at h
    split at h
    · rename_i b a st'
      intro p e s m args below meth c H locs ls hC hR hq h1 h2 hl
      have h3 := (h p e s m args below meth c H locs ls hC hR hq h1 h2 hl)
      simp only [List.map_cons, gc] at h3 ⊢
      rw [x_add] at h3
      exact lv_iadd hC.1 hC.2.1 hd h3
    · exact absurd h id
  | isub =>
    have hlen := hlen (fun _ _ _ _ => by simp)
    subst hlen
    have hnx := x_nx him
    subst hnx
    simp only [xcore] at h
    split at h
    · rename_i b a st'
      intro p e s m args below meth c H locs ls hC hR hq h1 h2 hl
      have h3 := (h p e s m args below meth c H locs ls hC hR hq h1 h2 hl)
      simp only [List.map_cons, gc] at h3 ⊢
      rw [x_sub] at h3
      exact lv_isub hC.1 hC.2.1 hd h3
    · exact absurd h id
  | imul =>
    have hlen := hlen (fun _ _ _ _ => by simp)
    subst hlen
    have hnx := x_nx him
    subst hnx
    simp only [xcore] at h
    split at h
    · rename_i b a st'
      intro p e s m args below meth c H locs ls hC hR hq h1 h2 hl
      have h3 := (h p e s m args below meth c H locs ls hC hR hq h1 h2 hl)
      simp only [List.map_cons, gc] at h3 ⊢
      rw [x_mul] at h3
      exact lv_imul hC.1 hC.2.1 hd h3
    · exact absurd h id
  | idiv =>
    have hlen := hlen (fun _ _ _ _ => by simp)
    subst hlen
    have hnx := x_nx him
    subst hnx
    simp only [xcore] at h
    split at h
    · rename_i b a st'
      intro p e s m args below meth c H locs ls hC hR hq h1 h2 hl
      have h3 := (h.2 p e s m args below meth c H locs ls hC hR hq h1 h2 hl)
      simp only [List.map_cons, gc] at h3 ⊢
      rw [x_div h.1] at h3
      exact lv_idiv hC.1 hC.2.1 hd (x_ne0 h.1.2.2) h3
    · exact absurd h id
  | irem =>
    have hlen := hlen (fun _ _ _ _ => by simp)
    subst hlen
    have hnx := x_nx him
    subst hnx
    simp only [xcore] at h
    split at h
    · rename_i b a st'
      intro p e s m args below meth c H locs ls hC hR hq h1 h2 hl
      have h3 := (h.2 p e s m args below meth c H locs ls hC hR hq h1 h2 hl)
      simp only [List.map_cons, gc] at h3 ⊢
      rw [x_rem h.1] at h3
      exact lv_irem hC.1 hC.2.1 hd (x_ne0 h.1.2.2) h3
    · exact absurd h id
  | iand =>
    have hlen := hlen (fun _ _ _ _ => by simp)
    subst hlen
    have hnx := x_nx him
    subst hnx
    simp only [xcore] at h
    split at h
    · rename_i b a st'
      intro p e s m args below meth c H locs ls hC hR hq h1 h2 hl
      have h3 := (h p e s m args below meth c H locs ls hC hR hq h1 h2 hl)
      simp only [List.map_cons, gc] at h3 ⊢
      rw [xoi] at h3
      exact lv_iand hC.1 hC.2.1 hd h3
    · exact absurd h id
  | ior =>
    have hlen := hlen (fun _ _ _ _ => by simp)
    subst hlen
    have hnx := x_nx him
    subst hnx
    simp only [xcore] at h
    split at h
    · rename_i b a st'
      intro p e s m args below meth c H locs ls hC hR hq h1 h2 hl
      have h3 := (h p e s m args below meth c H locs ls hC hR hq h1 h2 hl)
      simp only [List.map_cons, gc] at h3 ⊢
      rw [xoi] at h3
      exact lv_ior hC.1 hC.2.1 hd h3
    · exact absurd h id
  | ishl =>
    have hlen := hlen (fun _ _ _ _ => by simp)
    subst hlen
    have hnx := x_nx him
    subst hnx
    simp only [xcore] at h
    split at h
    · rename_i b a st'
      intro p e s m args below meth c H locs ls hC hR hq h1 h2 hl
      have h3 := (h p e s m args below meth c H locs ls hC hR hq h1 h2 hl)
      simp only [List.map_cons, gc] at h3 ⊢
      rw [xoi] at h3
      exact lv_ishl hC.1 hC.2.1 hd h3
    · exact absurd h id
  | ishr =>
    have hlen := hlen (fun _ _ _ _ => by simp)
    subst hlen
    have hnx := x_nx him
    subst hnx
    simp only [xcore] at h
    split at h
    · rename_i b a st'
      intro p e s m args below meth c H locs ls hC hR hq h1 h2 hl
      have h3 := (h p e s m args below meth c H locs ls hC hR hq h1 h2 hl)
      simp only [List.map_cons, gc] at h3 ⊢
      rw [xoi] at h3
      exact lv_ishr hC.1 hC.2.1 hd h3
    · exact absurd h id
  | iushr =>
    have hlen := hlen (fun _ _ _ _ => by simp)
    subst hlen
    have hnx := x_nx him
    subst hnx
    simp only [xcore] at h
    split at h
    · rename_i b a st'
      intro p e s m args below meth c H locs ls hC hR hq h1 h2 hl
      have h3 := (h p e s m args below meth c H locs ls hC hR hq h1 h2 hl)
      simp only [List.map_cons, gc] at h3 ⊢
      rw [xoi] at h3
      exact lv_iushr hC.1 hC.2.1 hd rfl h3
    · exact absurd h id
  | i2l =>
    have hlen := hlen (fun _ _ _ _ => by simp)
    subst hlen
    have hnx := x_nx him
    subst hnx
    simp only [xcore] at h
    split at h
    · rename_i a st'
      intro p e s m args below meth c H locs ls hC hR hq h1 h2 hl
      exact lv_i2l hC.1 hC.2.1 hd rfl (h p e s m args below meth c H locs ls hC hR hq h1 h2 hl)
    · exact absurd h id
  | lcmp =>
    have hlen := hlen (fun _ _ _ _ => by simp)
    subst hlen
    have hnx := x_nx him
    subst hnx
    simp only [xcore] at h
    split at h
    · rename_i b a st'
      intro p e s m args below meth c H locs ls hC hR hq h1 h2 hl
      have h3 := (h p e s m args below meth c H locs ls hC hR hq h1 h2 hl)
      simp only [List.map_cons, gc] at h3 ⊢
      rw [xoi] at h3
      exact W.lcmp hC.1 hC.2.1 hd h3
    · exact absurd h id
  | dup =>
    have hlen := hlen (fun _ _ _ _ => by simp)
    subst hlen
    have hnx := x_nx him
    subst hnx
    simp only [xcore] at h
    split at h
    · rename_i a st'
      intro p e s m args below meth c H locs ls hC hR hq h1 h2 hl
      exact lv_dup (va := gc (.inl a)) hC.1 hC.2.1 hd (gc_cat1 rfl) (h p e s m args below meth c H locs ls hC hR hq h1 h2 hl)
    · rename_i a st'
      intro p e s m args below meth c H locs ls hC hR hq h1 h2 hl
      exact lv_dup (va := gc (.inr (.inl a))) hC.1 hC.2.1 hd (gc_cat1 rfl) (h p e s m args below meth c H locs ls hC hR hq h1 h2 hl)
    · exact absurd h id
  | pop =>
    have hlen := hlen (fun _ _ _ _ => by simp)
    subst hlen
    have hnx := x_nx him
    subst hnx
    simp only [xcore] at h
    split at h
    · rename_i a st'
      intro p e s m args below meth c H locs ls hC hR hq h1 h2 hl
      exact lv_pop (va := gc (.inl a)) hC.1 hC.2.1 hd (gc_cat1 rfl) (h p e s m args below meth c H locs ls hC hR hq h1 h2 hl)
    · rename_i a st'
      intro p e s m args below meth c H locs ls hC hR hq h1 h2 hl
      exact lv_pop (va := gc (.inr (.inl a))) hC.1 hC.2.1 hd (gc_cat1 rfl) (h p e s m args below meth c H locs ls hC hR hq h1 h2 hl)
    · exact absurd h id
  | dup_x1 =>
    have hlen := hlen (fun _ _ _ _ => by simp)
    subst hlen
    have hnx := x_nx him
    subst hnx
    simp only [xcore] at h
    split at h
    · rename_i a b st'
      intro p e s m args below meth c H locs ls hC hR hq h1 h2 hl
      exact lv_dup_x1 hC.1 hC.2.1 hd (gc_cat1 h.1.1) (gc_cat1 h.1.2) (h.2 p e s m args below meth c H locs ls hC hR hq h1 h2 hl)
    · exact absurd h id
  | dup_x2 =>
    have hlen := hlen (fun _ _ _ _ => by simp)
    subst hlen
    have hnx := x_nx him
    subst hnx
    simp only [xcore] at h
    split at h
    · rename_i a b d st'
      intro p e s m args below meth c H locs ls hC hR hq h1 h2 hl
      exact lv_dup_x2 hC.1 hC.2.1 hd (gc_cat1 h.1.1) (gc_cat1 h.1.2.1) (gc_cat1 h.1.2.2) (h.2 p e s m args below meth c H locs ls hC hR hq h1 h2 hl)
    · exact absurd h id
  | dup2 =>
    have hlen := hlen (fun _ _ _ _ => by simp)
    subst hlen
    have hnx := x_nx him
    subst hnx
    simp only [xcore] at h
    split at h
    · rename_i a b st'
      intro p e s m args below meth c H locs ls hC hR hq h1 h2 hl
      exact lv_dup2_11 hC.1 hC.2.1 hd (gc_cat1 h.1.1) (gc_cat1 h.1.2) (h.2 p e s m args below meth c H locs ls hC hR hq h1 h2 hl)
    · exact absurd h id
  | goto off =>
    have hlen := hlen (fun _ _ _ _ => by simp)
    subst hlen
    simp only [ximm, Bool.and_eq_true, decide_eq_true_eq] at him
    obtain ⟨ht, hn⟩ := him
    have hnx := x_nx hn
    subst hnx
    intro p e s m args below meth c H locs ls hC hR hq h1 h2 hl
    exact lv_goto hC.1 hC.2.1 hd ht (h p e s m args below meth c H locs ls hC hR hq h1 h2 hl)
  | ifCond c0 off =>
    have hlen := hlen (fun _ _ _ _ => by simp)
    subst hlen
    simp only [ximm, Bool.and_eq_true, decide_eq_true_eq] at him
    obtain ⟨ht, hn⟩ := him
    have hnx := x_nx hn
    subst hnx
    simp only [xcore] at h
    split at h
    · rename_i a st'
      obtain ⟨ha, h⟩ := h
      intro p e s m args below meth c H locs ls hC hR hq h1 h2 hl
      have z0 := x_0
      simp only [List.map_cons, gc]
      cases c0 with
        | eq => exact lv_if_eq hC.1 hC.2.1 hd ht (fun hz => h.1 ((x_eq ha inR0).mp hz) p e s m args below meth c H locs ls hC hR hq h1 h2 hl) (fun hz => h.2 (fun q => hz ((x_eq ha inR0).mpr q)) p e s m args below meth c H locs ls hC hR hq h1 h2 hl)
        | ne => exact lv_if_ne hC.1 hC.2.1 hd ht (fun hz => h.1 (fun q => hz ((x_eq ha inR0).mpr q)) p e s m args below meth c H locs ls hC hR hq h1 h2 hl) (fun hz => h.2 (by first | exact (x_eq ha inR0).mp hz | exact (x_eq ha inR0).mp (Decidable.not_not.mp hz)) p e s m args below meth c H locs ls hC hR hq h1 h2 hl)
        | lt => exact lv_if_lt hC.1 hC.2.1 hd ht (fun hz => h.1 ((x_lt ha inR0).mp hz) p e s m args below meth c H locs ls hC hR hq h1 h2 hl) (fun hz => h.2 (fun q => hz ((x_lt ha inR0).mpr q)) p e s m args below meth c H locs ls hC hR hq h1 h2 hl)
        | ge => exact lv_if_ge hC.1 hC.2.1 hd ht (fun hz => h.1 ((x_le inR0 ha).mp hz) p e s m args below meth c H locs ls hC hR hq h1 h2 hl) (fun hz => h.2 (fun q => hz ((x_le inR0 ha).mpr q)) p e s m args below meth c H locs ls hC hR hq h1 h2 hl)
        | gt => exact lv_if_gt hC.1 hC.2.1 hd ht (fun hz => h.1 ((x_lt inR0 ha).mp hz) p e s m args below meth c H locs ls hC hR hq h1 h2 hl) (fun hz => h.2 (fun q => hz ((x_lt inR0 ha).mpr q)) p e s m args below meth c H locs ls hC hR hq h1 h2 hl)
        | le => exact lv_if_le hC.1 hC.2.1 hd ht (fun hz => h.1 ((x_le ha inR0).mp hz) p e s m args below meth c H locs ls hC hR hq h1 h2 hl) (fun hz => h.2 (fun q => hz ((x_le ha inR0).mpr q)) p e s m args below meth c H locs ls hC hR hq h1 h2 hl)
    · exact absurd h id
  | if_icmp c0 off =>
    have hlen := hlen (fun _ _ _ _ => by simp)
    subst hlen
    simp only [ximm, Bool.and_eq_true, decide_eq_true_eq] at him
    obtain ⟨ht, hn⟩ := him
    have hnx := x_nx hn
    subst hnx
    simp only [xcore] at h
    split at h
    · rename_i b a st'
      obtain ⟨⟨ha, hb⟩, h⟩ := h
      intro p e s m args below meth c H locs ls hC hR hq h1 h2 hl
      simp only [List.map_cons, gc]
      cases c0 with
        | eq => exact lv_icmp_eq hC.1 hC.2.1 hd ht (fun hz => h.1 ((x_eq ha hb).mp hz) p e s m args below meth c H locs ls hC hR hq h1 h2 hl) (fun hz => h.2 (fun q => hz ((x_eq ha hb).mpr q)) p e s m args below meth c H locs ls hC hR hq h1 h2 hl)
        | ne => exact lv_icmp_ne hC.1 hC.2.1 hd ht (fun hz => h.1 (fun q => hz ((x_eq ha hb).mpr q)) p e s m args below meth c H locs ls hC hR hq h1 h2 hl) (fun hz => h.2 (by first | exact (x_eq ha hb).mp hz | exact (x_eq ha hb).mp (Decidable.not_not.mp hz)) p e s m args below meth c H locs ls hC hR hq h1 h2 hl)
        | lt => exact lv_icmp_lt hC.1 hC.2.1 hd ht (fun hz => h.1 ((x_lt ha hb).mp hz) p e s m args below meth c H locs ls hC hR hq h1 h2 hl) (fun hz => h.2 (fun q => hz ((x_lt ha hb).mpr q)) p e s m args below meth c H locs ls hC hR hq h1 h2 hl)
        | ge => exact lv_icmp_ge hC.1 hC.2.1 hd ht (fun hz => h.1 ((x_le hb ha).mp hz) p e s m args below meth c H locs ls hC hR hq h1 h2 hl) (fun hz => h.2 (fun q => hz ((x_le hb ha).mpr q)) p e s m args below meth c H locs ls hC hR hq h1 h2 hl)
        | gt => exact lv_icmp_gt hC.1 hC.2.1 hd ht (fun hz => h.1 ((x_lt hb ha).mp hz) p e s m args below meth c H locs ls hC hR hq h1 h2 hl) (fun hz => h.2 (fun q => hz ((x_lt hb ha).mpr q)) p e s m args below meth c H locs ls hC hR hq h1 h2 hl)
        | le => exact lv_icmp_le hC.1 hC.2.1 hd ht (fun hz => h.1 ((x_le ha hb).mp hz) p e s m args below meth c H locs ls hC hR hq h1 h2 hl) (fun hz => h.2 (fun q => hz ((x_le ha hb).mpr q)) p e s m args below meth c H locs ls hC hR hq h1 h2 hl)
    · exact absurd h id
  | tableswitch d lo hi offs =>
    simp only [xcore] at h
    split at h
    · rename_i a st'
      obtain ⟨⟨ha, hh⟩, h⟩ := h
      simp only [ximm, Bool.and_eq_true, decide_eq_true_eq] at him
      obtain ⟨h0, hal⟩ := him
      intro p e s m args below meth c H locs ls hC hR hq h1 h2 hl
      simp only [List.map_cons, gc]
      rcases xsw_t h with ⟨j, o, g1, g2, g3⟩ | ⟨g1, g2⟩
      · have ho : decide (0 ≤ (pc : Int) + o) = true := List.all_eq_true.mp hal o (List.mem_of_getElem? g1)
        have ho2 : 0 ≤ (pc : Int) + o := by simpa using ho
        have hj : j < offs.size := by have := (List.getElem?_eq_some_iff.mp g1).1; simpa using this
        refine lv_tableIn (off := o) (tgt := ((pc : Int) + o).toNat) hC.1 hC.2.1 hd ?_ ?_ ?_ (by omega) (g3 p e s m args below meth c H locs ls hC hR hq h1 h2 hl)
        · rw [x_toInt ha]; omega
        · rw [x_toInt ha]; omega
        · rw [x_toInt ha]
          have e1 : (a - lo).toNat = j := by omega
          rw [e1, ← Array.getElem?_toList]; exact g1
      · refine lv_tableOut (tgt := ((pc : Int) + d).toNat) hC.1 hC.2.1 hd ?_ (by omega) (g2 p e s m args below meth c H locs ls hC hR hq h1 h2 hl)
        rw [x_toInt ha]
        have e2 : (offs.toList.length : Int) = (offs.size : Int) := by simp
        omega
    · exact absurd h id
  | _ => exact h
