/-! the heap's rows over abstract cells -/
def gset (h : Nat → Option gE) (a : Nat) (e : gE) : Nat → Option gE := fun q => if q = a then some e else h q
theorem gset_self (h : Nat → Option gE) (a : Nat) (e : gE) : gset h a e a = some e := if_pos rfl
theorem gset_ne {h : Nat → Option gE} {a q : Nat} {e : gE} (hq : q ≠ a) : gset h a e q = h q := if_neg hq
theorem va_at_lt {D : va_G} {q : Nat × va_E} {H : Heap} (h : va_at D g_cl q H) : q.1 < H.size := by
  obtain ⟨a, e | e⟩ := q
  · exact (Array.getElem?_eq_some_iff.mp h).1
  · obtain ⟨r, -, cell, h1, -⟩ := h
    exact (Array.getElem?_eq_some_iff.mp h1).1
theorem gRep.at {G : gG} {σ : gS} {H : Heap} (hR : gRep G σ H) {a : Nat} {e : gE} (h : σ.1 a = some e) : va_at G.2.2.2.1 g_cl (a, gcE G e) H := (hR.2.2.2.2 a e h).2
theorem gRep.wf {G : gG} {σ : gS} {H : Heap} (hR : gRep G σ H) {a : Nat} {e : gE} (h : σ.1 a = some e) : gwf e := (hR.2.2.2.2 a e h).1
theorem gRep.lt {G : gG} {σ : gS} {H : Heap} (hR : gRep G σ H) {a : Nat} {e : gE} (h : σ.1 a = some e) : a < σ.2.1 := by
  have := va_at_lt (hR.at h)
  rw [← hR.1]; exact this
theorem gRep.set {G : gG} {σ : gS} {H H' : Heap} (hR : gRep G σ H) {a : Nat} {e : gE} {cell : Cell} (hb : G.2.1.heap.size ≤ a) (hwf : gwf e) (hc : H'[a]? = some cell) (hst : cell.vm.isStatics = false) (hz : H'.size = H.size) (ho : ∀ q : Nat, q ≠ a → H'[q]? = H[q]?) (hat : va_at G.2.2.2.1 g_cl (a, gcE G e) H') : gRep G (gset σ.1 a e, σ.2) H' := by
  obtain ⟨h1, h2, h3, h4, h5⟩ := hR
  refine ⟨hz.trans h1, by rw [hz]; exact h2, fun q hq => ?_, fun q c hq hc' => ?_, fun q e' he => ?_⟩
  · have hq' : q < G.2.1.heap.size := hq
    rw [ho q (by omega)]; exact h3 q hq
  · by_cases hqa : q = a
    · subst hqa
      cases hc.symm.trans hc'
      exact hst
    · rw [ho q hqa] at hc'
      exact h4 q c hq hc'
  · by_cases hqa : q = a
    · subst hqa
      have : some e = some e' := (gset_self σ.1 q e).symm.trans he
      cases this
      exact ⟨hwf, hat⟩
    · have he' : σ.1 q = some e' := (gset_ne hqa).symm.trans he
      exact ⟨(h5 q e' he').1, (h5 q e' he').2.kept (ho q hqa)⟩
theorem gRep.push {G : gG} {σ : gS} {H H' : Heap} (hR : gRep G σ H) {e : gE} {cell : Cell} {rc rs : Nat} (hwf : gwf e) (hc : H'[σ.2.1]? = some cell) (hst : cell.vm.isStatics = false) (hz : H'.size = H.size + 1) (ho : ∀ q : Nat, q < H.size → H'[q]? = H[q]?) (hat : va_at G.2.2.2.1 g_cl (σ.2.1, gcE G e) H') : gRep G (gset σ.1 σ.2.1 e, σ.2.1 + 1, rc, rs) H' := by
  obtain ⟨h1, h2, h3, h4, h5⟩ := hR
  refine ⟨by rw [hz, h1], by rw [hz]; exact Nat.le_succ_of_le h2, fun q hq => ?_, fun q c hq hc' => ?_, fun q e' he => ?_⟩
  · rw [ho q (Nat.lt_of_lt_of_le hq h2)]; exact h3 q hq
  · by_cases hqa : q = σ.2.1
    · subst hqa
      cases hc.symm.trans hc'
      exact hst
    · have hlt : q < H'.size := (Array.getElem?_eq_some_iff.mp hc').1
      rw [ho q (by omega)] at hc'
      exact h4 q c hq hc'
  · by_cases hqa : q = σ.2.1
    · subst hqa
      have : some e = some e' := (gset_self σ.1 σ.2.1 e).symm.trans he
      cases this
      exact ⟨hwf, hat⟩
    · have he' : σ.1 q = some e' := (gset_ne hqa).symm.trans he
      have hlt := va_at_lt (h5 q e' he').2
      exact ⟨(h5 q e' he').1, (h5 q e' he').2.kept (ho q hlt)⟩
/-- the field types, by class and place -/
def g_ty (ci : Nat) : Nat → FieldType := match ci with
  | 0 => tyX1 | 1 => tyX3 | 2 => tyX4 | 3 => tyX5 | 4 => tyX6 | 5 => tyX7 | 6 => tyX8 | 7 => tyX9 | 8 => tyX10 | 9 => tyX11 | 10 => tyJ2 | 11 => tyJ22 | 12 => tyJ17 | 13 => tyJ6 | 14 => tyJ20 | 15 => tyJ18 | 16 => tyJ23 | _ => tyJ21
theorem u_ws0 (C : String) (T : u_T) : ∀ w ∈ u_ws C T 0, w ∈ lw_all := fun w h => by simp [u_ws] at h
theorem g_cls : ∀ (ci : Nat) (r : vw_C), g_cl[ci]? = some r → (∀ w ∈ u_ws r.1 r.2.1 r.2.2, w ∈ lw_all) ∧ (∀ k, k < r.2.2 → parseFieldDescriptor (r.2.1 k).2.2.1 = some (g_ty ci k)) ∧ (∀ a, a < r.2.2 → ∀ b, b < r.2.2 → a ≠ b → (r.2.1 a).2.1 ≠ (r.2.1 b).2.1) := by
  intro ci r h
  match ci, h with
  | 0, h => cases h; exact ⟨in_X1, tyX1_ok, nmX1⟩
  | 1, h => cases h; exact ⟨in_X3, tyX3_ok, nmX3⟩
  | 2, h => cases h; exact ⟨in_X4, tyX4_ok, nmX4⟩
  | 3, h => cases h; exact ⟨in_X5, tyX5_ok, nmX5⟩
  | 4, h => cases h; exact ⟨in_X6, tyX6_ok, nmX6⟩
  | 5, h => cases h; exact ⟨in_X7, tyX7_ok, nmX7⟩
  | 6, h => cases h; exact ⟨in_X8, tyX8_ok, nmX8⟩
  | 7, h => cases h; exact ⟨in_X9, tyX9_ok, nmX9⟩
  | 8, h => cases h; exact ⟨in_X10, tyX10_ok, nmX10⟩
  | 9, h => cases h; exact ⟨in_X11, tyX11_ok, nmX11⟩
  | 10, h => cases h; exact ⟨in_J2, tyJ2_ok, nmJ2⟩
  | 11, h => cases h; exact ⟨in_J22, tyJ22_ok, nmJ22⟩
  | 12, h => cases h; exact ⟨in_J17, tyJ17_ok, nmJ17⟩
  | 13, h => cases h; exact ⟨u_ws0 _ _, fun k hk => absurd hk (Nat.not_lt_zero _), fun a ha => absurd ha (Nat.not_lt_zero _)⟩
  | 14, h => cases h; exact ⟨u_ws0 _ _, fun k hk => absurd hk (Nat.not_lt_zero _), fun a ha => absurd ha (Nat.not_lt_zero _)⟩
  | 15, h => cases h; exact ⟨u_ws0 _ _, fun k hk => absurd hk (Nat.not_lt_zero _), fun a ha => absurd ha (Nat.not_lt_zero _)⟩
  | 16, h => cases h; exact ⟨u_ws0 _ _, fun k hk => absurd hk (Nat.not_lt_zero _), fun a ha => absurd ha (Nat.not_lt_zero _)⟩
  | 17, h => cases h; exact ⟨u_ws0 _ _, fun k hk => absurd hk (Nat.not_lt_zero _), fun a ha => absurd ha (Nat.not_lt_zero _)⟩
  | n + 18, h => simp [g_cl] at h
section GH
variable {G : gG} {M : gM} {fr rc rs : Nat} {Q : gO → gS → Prop} {pc : Nat} {L : gL} {rest : List gV} {σ : gS}
theorem gsame {s : State} {args : Array Value} {ref o n d : String} (h : ref = o ∨ (Cond.sameField ref o n d).before args s = true) : ∀ x, s.fieldFound? o n d = some x → s.fieldFound? ref n d = some x := by
  rcases h with rfl | h
  · exact fun _ h => h
  · exact fun x hx => u_same h x hx
theorem gW_get (hG : gGood G) {idx : Nat} (hd : decode M.2.1 pc = .ok (.getfield idx, 3)) {a ci k : Nat} {vs : List gV} {r : vw_C} {v : gV} {ref : String} (ha : σ.1 a = some (.inl (ci, vs))) (hc : g_cl[ci]? = some r) (hk : k < r.2.2) (hv : vs[k]? = some v)
    (hlink : Cond.fieldLink M.1.cls idx ref (r.2.1 k).2.1 (r.2.1 k).2.2.1 ∈ lw_all) (hsame : ref = (r.2.1 k).1 ∨ Cond.sameField ref (r.2.1 k).1 (r.2.1 k).2.1 (r.2.1 k).2.2.1 ∈ lw_all)
    (h : (∀ z, v = .inl z → okI (gbool ci k) z) → gW G M fr rc rs Q (pc + 3) L (v :: rest) σ) : gW G M fr rc rs Q pc L (.inr (.inl (some a)) :: rest) σ := by
  intro p e s m args below meth c H locs ls hC hR hq h1 h2 hl
  have hts := hC.2.2.2.2.2.2.1
  have hwf : ∀ z, v = .inl z → okI (gbool ci k) z := fun z hz => hR.wf ha k z (hz ▸ hv)
  obtain ⟨C, T, N⟩ := r
  refine va_get (D := G.2.2.2.1) (cl := g_cl) (tys := g_tys G) (ws := [(a, .inr (ci, vs.map gc))]) (C := C) (T := T) (N := N) hC.1 hC.2.1 hts (g_cls ci _ hc).1 hC.2.2.2.2.2.1 (gK hG hC.2.2.2.2.2.2.2.1) ?_ 0 rfl hc k hk (hts _ hlink) (gsame (args := args) ?_) (v := gc v) (by rw [List.getElem?_map, hv]; rfl) hd (h hwf p e s m args below meth c H locs ls hC hR hq h1 h2 hl)
  · intro j q hq
    match j, hq with
    | 0, hq => cases hq; exact hR.at ha
    | j + 1, hq => simp at hq
  · rcases hsame with hs | hs
    · exact Or.inl hs
    · exact Or.inr (hts _ hs)
/-- a field that a nest mate reads -/
theorem gW_getN (hG : gGood G) {idx : Nat} (hd : decode M.2.1 pc = .ok (.getfield idx, 3)) {a ci k : Nat} {vs : List gV} {r : vw_C} {v : gV} {host : String} (ha : σ.1 a = some (.inl (ci, vs))) (hc : g_cl[ci]? = some r) (hk : k < r.2.2) (hv : vs[k]? = some v)
    (hlink : Cond.fieldLinkNest M.1.cls idx (r.2.1 k).1 (r.2.1 k).2.1 (r.2.1 k).2.2.1 host ∈ lw_tbl)
    (h : (∀ z, v = .inl z → okI (gbool ci k) z) → gW G M fr rc rs Q (pc + 3) L (v :: rest) σ) : gW G M fr rc rs Q pc L (.inr (.inl (some a)) :: rest) σ := by
  intro p e s m args below meth c H locs ls hC hR hq h1 h2 hl
  have hts := hC.2.2.2.2.2.2.1
  have hwf : ∀ z, v = .inl z → okI (gbool ci k) z := fun z hz => hR.wf ha k z (hz ▸ hv)
  obtain ⟨C, T, N⟩ := r
  refine va_getN (D := G.2.2.2.1) (cl := g_cl) (tys := g_tys G) (ws := [(a, .inr (ci, vs.map gc))]) (C := C) (T := T) (N := N) hC.1 hC.2.1 hts (g_cls ci _ hc).1 hC.2.2.2.2.2.1 (gK hG hC.2.2.2.2.2.2.2.1) ?_ 0 rfl hc k hk (va_Nw.use rfl (va_Nw.warmF hC.2.2.2.2.2.2.2.1 (va_Nw.of rfl (hG.1 _ hlink)))) (fun _ h => h) (v := gc v) (by rw [List.getElem?_map, hv]; rfl) hd (h hwf p e s m args below meth c H locs ls hC hR hq h1 h2 hl)
  intro j q hq
  match j, hq with
  | 0, hq => cases hq; exact hR.at ha
  | j + 1, hq => simp at hq
/-- what a field of a type takes -/
def gtake (ty : FieldType) (v : gV) : Prop := match ty, v with
  | .int, .inl z => inR z
  | .boolean, .inl z => z = 0 ∨ z = 1
  | .object _, .inr (.inl _) => True
  | .array _, .inr (.inl _) => True
  | _, _ => False
theorem gtake_ok {ty : FieldType} {v : gV} (h : gtake ty v) : narrow ty (gc v) = gc v ∧ fits ty (gc v) = true := by
  unfold gtake at h
  split at h
  · exact ⟨rfl, rfl⟩
  · rcases h with rfl | rfl <;> exact ⟨rfl, rfl⟩
  · rename_i o
    cases o <;> exact ⟨rfl, rfl⟩
  · rename_i o
    cases o <;> exact ⟨rfl, rfl⟩
  · exact absurd h id
theorem gtake_wf {ci k : Nat} {z : Int} (hb : gbool ci k = true → g_ty ci k = .boolean) (hb' : g_ty ci k = .boolean → gbool ci k = true) (h : gtake (g_ty ci k) (.inl z)) : okI (gbool ci k) z := by
  generalize g_ty ci k = ty at h hb hb'
  cases ty with
  | int =>
    cases hg : gbool ci k with
    | true => exact absurd (hb hg) (by simp)
    | false => exact h
  | boolean => rw [hb' rfl]; exact h
  | _ => exact absurd h id
theorem gbool_ok : ∀ (ci : Nat) (r : vw_C) (k : Nat), g_cl[ci]? = some r → k < r.2.2 → ((gbool ci k = true → g_ty ci k = .boolean) ∧ (g_ty ci k = .boolean → gbool ci k = true)) := by
  have key : ∀ ci : Fin 18, ∀ k : Fin 31, k.val < ((g_cl[ci.val]?).map (·.2.2)).getD 0 → ((gbool ci.val k.val = true → g_ty ci.val k.val = .boolean) ∧ (g_ty ci.val k.val = .boolean → gbool ci.val k.val = true)) := by decide +kernel
  intro ci r k hc hk
  have h1 : ci < 18 := (List.getElem?_eq_some_iff.mp hc).1
  have h2 : ∀ ci : Fin 18, ((g_cl[ci.val]?).map (·.2.2)).getD 0 ≤ 31 := by decide +kernel
  have h3 := h2 ⟨ci, h1⟩
  have e : ((g_cl[ci]?).map (·.2.2)).getD 0 = r.2.2 := by rw [hc]; rfl
  have h3 : ((g_cl[ci]?).map (·.2.2)).getD 0 ≤ 31 := h3
  exact key ⟨ci, h1⟩ ⟨k, by omega⟩ (by show k < ((g_cl[ci]?).map (·.2.2)).getD 0; omega)
end GH
