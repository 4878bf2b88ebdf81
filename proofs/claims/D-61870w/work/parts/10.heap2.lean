/-! more rows of the heap: stores, arrays, new -/
section GH2
variable {G : gG} {M : gM} {fr rc rs : Nat} {Q : gO → gS → Prop} {pc : Nat} {L : gL} {rest : List gV} {σ : gS}
theorem glocs {G : gG} {locs : List Loc} (hq : ∀ q ∈ locs, G.2.1.heap.size ≤ q.base) {a i : Nat} (ha : G.2.1.heap.size ≤ a) : ∀ q ∈ locs ++ [(⟨a, i⟩ : Loc)], G.2.1.heap.size ≤ q.base := fun q h => by
  rcases List.mem_append.mp h with z | z
  · exact hq q z
  · rw [List.mem_singleton.mp z]; exact ha
set_option maxHeartbeats 1000000 in
theorem gW_put (hG : gGood G) {idx : Nat} (hd : decode M.2.1 pc = .ok (.putfield idx, 3)) {a ci k : Nat} {vs : List gV} {r : vw_C} {v : gV} {ref : String} (ha : σ.1 a = some (.inl (ci, vs))) (hb : G.2.1.heap.size ≤ a) (hc : g_cl[ci]? = some r) (hk : k < r.2.2) (hl9 : k < vs.length)
    (hlink : Cond.fieldLink M.1.cls idx ref (r.2.1 k).2.1 (r.2.1 k).2.2.1 ∈ lw_all) (hsame : ref = (r.2.1 k).1 ∨ Cond.sameField ref (r.2.1 k).1 (r.2.1 k).2.1 (r.2.1 k).2.2.1 ∈ lw_all)
    (hfin : (r.2.1 k).2.2.2 = false ∨ ((r.2.1 k).2.2.2 = true ∧ M.1.name = "<init>" ∧ (r.2.1 k).1 = M.1.cls)) (ht : gtake (g_ty ci k) v)
    (h : gW G M fr rc rs Q (pc + 3) L rest (gset σ.1 a (.inl (ci, vs.set k v)), σ.2)) : gW G M fr rc rs Q pc L (v :: .inr (.inl (some a)) :: rest) σ := by
  intro p e s m args below meth c H locs ls hC hR hq h1 h2 hl
  have hts := hC.2.2.2.2.2.2.1
  have hK := gK hG hC.2.2.2.2.2.2.2.1
  have hsm := gsame (s := s) (args := args) (ref := ref) (o := (r.2.1 k).1) (n := (r.2.1 k).2.1) (d := (r.2.1 k).2.2.1) (hsame.imp id (hts _))
  obtain ⟨hin, hty, hnm⟩ := g_cls ci r hc
  have hap := va_apart (own := M.1.cls) (D := G.2.2.2.1) (C := r.1) (T := r.2.1) (N := r.2.2) hts hin (g_ty ci) hty hnm hK hc
  obtain ⟨r', hr', cell, q1, q2, q3, q4⟩ := hR.at ha
  cases hc.symm.trans hr'
  obtain ⟨hS, hfc, kC, hkC, hkind⟩ := hK.1 ci r hc
  obtain ⟨cf, kf, fi, f, hi, hsl⟩ := hS k hk
  have hst := (u_facts hfc hkC (u_lays hts hin hk) hi).1
  have hg := gtake_ok ht
  have fin : ∀ H' : Heap, H'[a]? = some (cell.setSlot f.slot (gc v)) → H'.size = H.size → (∀ q : Nat, q ≠ a → H'[q]? = H[q]?) → W p G.1 e (grm fr rc rs) s m args below meth c H' (locs ++ [⟨a, f.slot⟩]) (rc - σ.2.2.1) (rs - σ.2.2.2) (gPost G s below rc rs Q) (F0 m (pc + 3) ls (rest.map gc)) := by
    intro H' e1 e2 e3
    refine h p e s m args below meth c H' _ ls hC (hR.set hb ?_ e1 ?_ e2 e3 ?_) (glocs hq hb) h1 h2 hl
    · intro j z hz
      by_cases hj : j = k
      · subst hj
        rw [List.getElem?_set_self hl9] at hz
        cases hz
        have hbo := gbool_ok ci r j hc hk
        exact gtake_wf hbo.1 hbo.2 ht
      · rw [List.getElem?_set_ne (fun q => hj q.symm)] at hz
        exact hR.wf ha j z hz
    · show cell.vm.isStatics = false
      rw [q3]; rfl
    · refine ⟨r, hc, ?_⟩
      rw [hsl] at e1
      refine t_OB.to (V := updV (vp_V (vs.map gc)) k (gc v)) ⟨_, e1, q2, q3, t_set q4 hap hk (gc v)⟩ (fun j _ => ?_)
      rw [vp_updV_set (by simpa using hl9)]
      show vp_V _ j = vp_V ((vs.set k v).map gc) j
      rw [List.map_set]
  rcases hfin with hf | ⟨hf, hin2, hdecl⟩
  · have hlay := hts _ (hin _ (u_in_lay hk))
    unfold u_lay at hlay
    rw [if_neg (by rw [hf]; decide)] at hlay
    have h6 := u_store hfc hkC hkind hlay hi (hty k hk) hg.1 hg.2
    exact W.putK hC.1 hC.2.1 (f := f) ⟨hC.2.2.2.2.2.1, hts _ hlink, ⟨_, _, _, hsm _ hi⟩, hst⟩ (by rw [q2]; exact h6) q1 q3 (by rw [hsl]; exact k2_hasslot (q4 k hk)) rfl rfl hd fun H' e1 e2 e3 => fin H' e1 e2 e3
  · have hlay := hts _ (hin _ (u_in_lay hk))
    unfold u_lay at hlay
    rw [if_pos hf] at hlay
    have hcf : m.cls = cf := by
      obtain ⟨_, _, c', _, _, _, -, -, hf', -, -, -, hown2, -⟩ := Cond.laysFinal_spec hlay
      have e1 : c' = cf := by have := hi.symm.trans hf'; simp at this; exact this.1.symm
      rw [hdecl] at hown2
      rw [← e1]; exact Option.some.inj (hC.2.2.2.2.2.1.symm.trans hown2)
    have h6 := u_fits hfc hkC hkind (Or.inr hlay) hi (hty k hk) hg.1 hg.2
    exact W.putFinK hC.1 hC.2.1 hC.2.2.2.2.2.1 (hts _ hlink) (hsm _ hi) hst hcf (hC.2.2.2.2.2.2.2.2.1.trans hin2) (by rw [q2]; exact h6) q1 q3 (by rw [hsl]; exact k2_hasslot (q4 k hk)) rfl rfl hd fun H' e1 e2 e3 => fin H' e1 e2 e3
theorem gidx {z : Int} {n : Nat} (h0 : 0 ≤ z) (h1 : z < (n : Int)) (hn : n ≤ 2147483647) : vp_in (Int32.ofInt z) n ∧ (Int32.ofInt z).toNatClampNeg = z.toNat := by
  have e : (Int32.ofInt z).toInt = z := x_toInt ⟨by omega, by omega⟩
  have e2 : (Int32.ofInt z).toNatClampNeg = z.toNat := by
    show (Int32.ofInt z).toInt.toNat = z.toNat
    rw [e]
  refine ⟨vp_in_iff.mpr (by rw [e]; exact ⟨h0, h1⟩), e2⟩
theorem gty_at {G : gG} (hG : gGood G) {s : State} (hw : G.2.1.WarmedH s.vm) {t : Nat} {ty : FieldType} (ht : (g_tys G)[t]? = some (G.2.2.2.2 t, ty)) : ArrOfT s (G.2.2.2.2 t) ty ∧ va_RA s (G.2.2.2.2 t) ty := (gK hG hw).2 t _ ht
theorem gW_iald (hG : gGood G) (hd : decode M.2.1 pc = .ok (.iaload, 1)) {a n : Nat} {f : Nat → Int} {z : Int} (ha : σ.1 a = some (.inr (0, n, .inl f))) (hn : n ≤ 2147483647) (h0 : 0 ≤ z ∧ z < (n : Int))
    (h : inR (f z.toNat) → gW G M fr rc rs Q (pc + 1) L (.inl (f z.toNat) :: rest) σ) : gW G M fr rc rs Q pc L (.inl z :: .inr (.inl (some a)) :: rest) σ := by
  intro p e s m args below meth c H locs ls hC hR hq h1 h2 hl
  obtain ⟨hi, he⟩ := gidx h0.1 h0.2 hn
  have hlt : (Int32.ofInt z).toNatClampNeg < n := Nat.not_le.mp fun q => hi (Or.inr q)
  exact W.iald (v := .int (Int32.ofInt (f z.toNat))) hC.1 hC.2.1 (hR.at ha) ((gty_at hG hC.2.2.2.2.2.2.2.1 (t := 0) rfl).1 n (fun j => .int (Int32.ofInt (f j)))) (fun q => by cases q) (by show ¬ (_ ∨ (arrV _ _ _).slots.size ≤ _); rw [arrV_size]; exact hi) (by show (arrV _ _ _).slots[_]? = _; rw [arrV_read _ _ hlt, he]) rfl rfl hd (h (hR.wf ha z.toNat) p e s m args below meth c H locs ls hC hR hq h1 h2 hl)
theorem gW_zald (hG : gGood G) (hd : decode M.2.1 pc = .ok (.baload, 1)) {a n : Nat} {f : Nat → Int} {z : Int} (ha : σ.1 a = some (.inr (1, n, .inl f))) (hn : n ≤ 2147483647) (h0 : 0 ≤ z ∧ z < (n : Int))
    (h : (f z.toNat = 0 ∨ f z.toNat = 1) → gW G M fr rc rs Q (pc + 1) L (.inl (f z.toNat) :: rest) σ) : gW G M fr rc rs Q pc L (.inl z :: .inr (.inl (some a)) :: rest) σ := by
  intro p e s m args below meth c H locs ls hC hR hq h1 h2 hl
  obtain ⟨hi, he⟩ := gidx h0.1 h0.2 hn
  have hlt : (Int32.ofInt z).toNatClampNeg < n := Nat.not_le.mp fun q => hi (Or.inr q)
  exact W.zald (v := .int (Int32.ofInt (f z.toNat))) hC.1 hC.2.1 (hR.at ha) ((gty_at hG hC.2.2.2.2.2.2.2.1 (t := 1) rfl).1 n (fun j => .int (Int32.ofInt (f j)))) (fun q => by cases q) (by show ¬ (_ ∨ (arrV _ _ _).slots.size ≤ _); rw [arrV_size]; exact hi) (by show (arrV _ _ _).slots[_]? = _; rw [arrV_read _ _ hlt, he]) rfl rfl hd (h (hR.wf ha z.toNat) p e s m args below meth c H locs ls hC hR hq h1 h2 hl)
theorem gW_lald (hG : gGood G) (hd : decode M.2.1 pc = .ok (.laload, 1)) {a n : Nat} {f : Nat → Int64} {z : Int} (ha : σ.1 a = some (.inr (2, n, .inr (.inr f)))) (hn : n ≤ 2147483647) (h0 : 0 ≤ z ∧ z < (n : Int))
    (h : gW G M fr rc rs Q (pc + 1) L (.inr (.inr (f z.toNat)) :: rest) σ) : gW G M fr rc rs Q pc L (.inl z :: .inr (.inl (some a)) :: rest) σ := by
  intro p e s m args below meth c H locs ls hC hR hq h1 h2 hl
  obtain ⟨hi, he⟩ := gidx h0.1 h0.2 hn
  have hlt : (Int32.ofInt z).toNatClampNeg < n := Nat.not_le.mp fun q => hi (Or.inr q)
  exact W.lald (v := .long (f z.toNat)) hC.1 hC.2.1 (hR.at ha) ((gty_at hG hC.2.2.2.2.2.2.2.1 (t := 2) rfl).1 n (fun j => .long (f j))) (fun q => by cases q) (by show ¬ (_ ∨ (arrV _ _ _).slots.size ≤ _); rw [arrV_size]; exact hi) (by show (arrV _ _ _).slots[_]? = _; rw [arrV_read _ _ hlt, he]) rfl rfl hd (h p e s m args below meth c H locs ls hC hR hq h1 h2 hl)
theorem gW_aald (hG : gGood G) (hd : decode M.2.1 pc = .ok (.aaload, 1)) {a n t : Nat} {E : String} {f : Nat → Option Nat} {z : Int} (ha : σ.1 a = some (.inr (t, n, .inr (.inl f)))) (ht : (g_tys G)[t]? = some (G.2.2.2.2 t, .object E)) (hn : n ≤ 2147483647) (h0 : 0 ≤ z ∧ z < (n : Int))
    (h : gW G M fr rc rs Q (pc + 1) L (.inr (.inl (f z.toNat)) :: rest) σ) : gW G M fr rc rs Q pc L (.inl z :: .inr (.inl (some a)) :: rest) σ := by
  intro p e s m args below meth c H locs ls hC hR hq h1 h2 hl
  obtain ⟨hi, he⟩ := gidx h0.1 h0.2 hn
  have hlt : (Int32.ofInt z).toNatClampNeg < n := Nat.not_le.mp fun q => hi (Or.inr q)
  exact W.aald (v := va_rf (f z.toNat)) (ty := .object E) hC.1 hC.2.1 (hR.at ha) ((gty_at hG hC.2.2.2.2.2.2.2.1 ht).1 n (fun j => va_rf (f j))) rfl (fun q => by cases q) (by show ¬ (_ ∨ (arrV _ _ _).slots.size ≤ _); rw [arrV_size]; exact hi) (by show (arrV _ _ _).slots[_]? = _; rw [arrV_read _ _ hlt, he]) rfl rfl hd (h p e s m args below meth c H locs ls hC hR hq h1 h2 hl)
theorem gW_alen (hG : gGood G) (hd : decode M.2.1 pc = .ok (.arraylength, 1)) {a n t : Nat} {ty : FieldType} {x : (Nat → Int) ⊕ (Nat → Option Nat) ⊕ (Nat → Int64)} (ha : σ.1 a = some (.inr (t, n, x))) (ht : (g_tys G)[t]? = some (G.2.2.2.2 t, ty)) (hn : n ≤ 2147483647)
    (h : gW G M fr rc rs Q (pc + 1) L (.inl (n : Int) :: rest) σ) : gW G M fr rc rs Q pc L (.inr (.inl (some a)) :: rest) σ := by
  intro p e s m args below meth c H locs ls hC hR hq h1 h2 hl
  have h3 := h p e s m args below meth c H locs ls hC hR hq h1 h2 hl
  have hA := (gty_at hG hC.2.2.2.2.2.2.2.1 ht).1
  have e1 : Int32.ofNat n = Int32.ofInt (n : Int) := (Int32.ofInt_eq_ofNat).symm
  rcases x with f | f | f
  · exact W.alen (n := Int32.ofInt n) hC.1 hC.2.1 (hR.at ha) (hA n (fun j => .int (Int32.ofInt (f j)))) (by rw [← e1]; show (vp_cell _ _).slots.size.toInt32 = _; rw [vp_cell_i, arrV_size] <;> rfl) rfl rfl hd h3
  · exact W.alen (n := Int32.ofInt n) hC.1 hC.2.1 (hR.at ha) (hA n (fun j => va_rf (f j))) (by rw [← e1]; show (vp_cell _ _).slots.size.toInt32 = _; rw [vp_cell_q, arrV_size] <;> rfl) rfl rfl hd h3
  · exact W.alen (n := Int32.ofInt n) hC.1 hC.2.1 (hR.at ha) (hA n (fun j => .long (f j))) (by rw [← e1]; show (vp_cell _ _).slots.size.toInt32 = _; rw [vp_cell_l, arrV_size] <;> rfl) rfl rfl hd h3
theorem arrV_nst (cA : ClassId) (n : Nat) (f : Nat → Value) : (arrV cA n f).vm.isStatics = false := rfl
theorem gW_iast (hG : gGood G) (hd : decode M.2.1 pc = .ok (.iastore, 1)) {a n : Nat} {f : Nat → Int} {z x : Int} (ha : σ.1 a = some (.inr (0, n, .inl f))) (hb : G.2.1.heap.size ≤ a) (hn : n ≤ 2147483647) (h0 : 0 ≤ z ∧ z < (n : Int)) (hx : inR x)
    (h : gW G M fr rc rs Q (pc + 1) L rest (gset σ.1 a (.inr (0, n, .inl (va_up f z.toNat x))), σ.2)) : gW G M fr rc rs Q pc L (.inl x :: .inl z :: .inr (.inl (some a)) :: rest) σ := by
  intro p e s m args below meth c H locs ls hC hR hq h1 h2 hl
  obtain ⟨hi, he⟩ := gidx h0.1 h0.2 hn
  refine W.iast hC.1 hC.2.1 (hR.at ha) ((gty_at hG hC.2.2.2.2.2.2.2.1 (t := 0) rfl).1 n (fun j => .int (Int32.ofInt (f j)))) (fun q => by cases q) (by show ¬ (_ ∨ (arrV _ _ _).slots.size ≤ _); rw [arrV_size]; exact hi) rfl rfl hd fun H1 e1 z1 oq => ?_
  have e2 : H1[a]? = some (vp_cell (G.2.2.2.2 0) (n, .inl (fun j => Int32.ofInt (va_up f z.toNat x j)))) := by
    rw [e1]
    show some ((vp_cell _ _).setSlot _ _) = _
    rw [vp_cell_i, vp_cell_i, arrV_store]
    congr 2
    funext q
    rw [he]
    by_cases hq : q = z.toNat
    · subst hq; simp [updV, va_up]
    · simp [updV, va_up, hq]
  refine h p e s m args below meth c H1 _ ls hC (hR.set hb ?_ e2 (arrV_nst _ _ _) z1 oq e2) (glocs hq hb) h1 h2 hl
  intro j
  show okI false (va_up f z.toNat x j)
  unfold va_up
  split
  · exact hx
  · exact hR.wf ha j
theorem gW_zast (hG : gGood G) (hd : decode M.2.1 pc = .ok (.bastore, 1)) {a n : Nat} {f : Nat → Int} {z x : Int} (ha : σ.1 a = some (.inr (1, n, .inl f))) (hb : G.2.1.heap.size ≤ a) (hn : n ≤ 2147483647) (h0 : 0 ≤ z ∧ z < (n : Int)) (hx : x = 0 ∨ x = 1)
    (h : gW G M fr rc rs Q (pc + 1) L rest (gset σ.1 a (.inr (1, n, .inl (va_up f z.toNat x))), σ.2)) : gW G M fr rc rs Q pc L (.inl x :: .inl z :: .inr (.inl (some a)) :: rest) σ := by
  intro p e s m args below meth c H locs ls hC hR hq h1 h2 hl
  obtain ⟨hi, he⟩ := gidx h0.1 h0.2 hn
  refine W.zast hC.1 hC.2.1 (hR.at ha) ((gty_at hG hC.2.2.2.2.2.2.2.1 (t := 1) rfl).1 n (fun j => .int (Int32.ofInt (f j)))) (fun q => by cases q) (by show ¬ (_ ∨ (arrV _ _ _).slots.size ≤ _); rw [arrV_size]; exact hi) rfl rfl hd fun H1 e1 z1 oq => ?_
  have e2 : H1[a]? = some (vp_cell (G.2.2.2.2 1) (n, .inl (fun j => Int32.ofInt (va_up f z.toNat x j)))) := by
    rw [e1]
    show some ((vp_cell _ _).setSlot _ _) = _
    rw [vp_cell_i, vp_cell_i, arrV_store]
    congr 2
    funext q
    rw [he]
    by_cases hq : q = z.toNat
    · subst hq
      rcases hx with rfl | rfl <;> simp [updV, va_up] <;> rfl
    · simp [updV, va_up, hq]
  refine h p e s m args below meth c H1 _ ls hC (hR.set hb ?_ e2 (arrV_nst _ _ _) z1 oq e2) (glocs hq hb) h1 h2 hl
  intro j
  show okI true (va_up f z.toNat x j)
  unfold va_up
  split
  · exact hx
  · exact hR.wf ha j
theorem gW_last (hG : gGood G) (hd : decode M.2.1 pc = .ok (.lastore, 1)) {a n : Nat} {f : Nat → Int64} {z : Int} {x : Int64} (ha : σ.1 a = some (.inr (2, n, .inr (.inr f)))) (hb : G.2.1.heap.size ≤ a) (hn : n ≤ 2147483647) (h0 : 0 ≤ z ∧ z < (n : Int))
    (h : gW G M fr rc rs Q (pc + 1) L rest (gset σ.1 a (.inr (2, n, .inr (.inr (va_up f z.toNat x)))), σ.2)) : gW G M fr rc rs Q pc L (.inr (.inr x) :: .inl z :: .inr (.inl (some a)) :: rest) σ := by
  intro p e s m args below meth c H locs ls hC hR hq h1 h2 hl
  obtain ⟨hi, he⟩ := gidx h0.1 h0.2 hn
  refine W.last hC.1 hC.2.1 (hR.at ha) ((gty_at hG hC.2.2.2.2.2.2.2.1 (t := 2) rfl).1 n (fun j => .long (f j))) (fun q => by cases q) (by show ¬ (_ ∨ (arrV _ _ _).slots.size ≤ _); rw [arrV_size]; exact hi) rfl rfl hd fun H1 e1 z1 oq => ?_
  have e2 : H1[a]? = some (vp_cell (G.2.2.2.2 2) (n, .inr (.inl (va_up f z.toNat x)))) := by
    rw [e1]
    show some ((vp_cell _ _).setSlot _ _) = _
    rw [vp_cell_l, vp_cell_l, arrV_store]
    congr 2
    funext q
    rw [he]
    by_cases hq : q = z.toNat
    · subst hq; simp [updV, va_up]
    · simp [updV, va_up, hq]
  exact h p e s m args below meth c H1 _ ls hC (hR.set hb trivial e2 (arrV_nst _ _ _) z1 oq e2) (glocs hq hb) h1 h2 hl
theorem gW_aastN (hG : gGood G) (hd : decode M.2.1 pc = .ok (.aastore, 1)) {a n t : Nat} {E : String} {f : Nat → Option Nat} {z : Int} (ha : σ.1 a = some (.inr (t, n, .inr (.inl f)))) (ht : (g_tys G)[t]? = some (G.2.2.2.2 t, .object E)) (hb : G.2.1.heap.size ≤ a) (hn : n ≤ 2147483647) (h0 : 0 ≤ z ∧ z < (n : Int))
    (h : gW G M fr rc rs Q (pc + 1) L rest (gset σ.1 a (.inr (t, n, .inr (.inl (va_up f z.toNat none)))), σ.2)) : gW G M fr rc rs Q pc L (.inr (.inl none) :: .inl z :: .inr (.inl (some a)) :: rest) σ := by
  intro p e s m args below meth c H locs ls hC hR hq h1 h2 hl
  obtain ⟨hi, he⟩ := gidx h0.1 h0.2 hn
  refine va_WaastN (C := E) hC.1 hC.2.1 (hR.at ha) ((gty_at hG hC.2.2.2.2.2.2.2.1 ht).1 n (fun j => va_rf (f j))) (fun h => by cases h) (by show ¬ (_ ∨ (arrV _ _ _).slots.size ≤ _); rw [arrV_size]; exact hi) rfl rfl hd fun H1 e1 z1 oq => ?_
  have e2 : H1[a]? = some (vp_cell (G.2.2.2.2 t) (n, .inr (.inr (.inr (.inr (va_up f z.toNat none)))))) := by
    rw [e1]
    show some ((vp_cell _ _).setSlot _ _) = _
    rw [vp_cell_q, vp_cell_q, arrV_store]
    congr 2
    funext q
    rw [he]
    by_cases hq : q = z.toNat
    · subst hq; simp [updV, va_up, va_rf]
    · simp [updV, va_up, hq]
  exact h p e s m args below meth c H1 _ ls hC (hR.set hb trivial e2 (arrV_nst _ _ _) z1 oq e2) (glocs hq hb) h1 h2 hl
theorem gW_aast (hG : gGood G) (hd : decode M.2.1 pc = .ok (.aastore, 1)) {a n t v ci : Nat} {E : String} {f : Nat → Option Nat} {vs : List gV} {r : vw_C} {z : Int} (ha : σ.1 a = some (.inr (t, n, .inr (.inl f)))) (ht : (g_tys G)[t]? = some (G.2.2.2.2 t, .object E)) (hb : G.2.1.heap.size ≤ a) (hn : n ≤ 2147483647) (h0 : 0 ≤ z ∧ z < (n : Int))
    (hv : σ.1 v = some (.inl (ci, vs))) (hc : g_cl[ci]? = some r) (hca : r.1 = E ∨ Cond.castable r.1 E ∈ lw_tbl)
    (h : gW G M fr rc rs Q (pc + 1) L rest (gset σ.1 a (.inr (t, n, .inr (.inl (va_up f z.toNat (some v))))), σ.2)) : gW G M fr rc rs Q pc L (.inr (.inl (some v)) :: .inl z :: .inr (.inl (some a)) :: rest) σ := by
  intro p e s m args below meth c H locs ls hC hR hq h1 h2 hl
  obtain ⟨hi, he⟩ := gidx h0.1 h0.2 hn
  have hlt : (Int32.ofInt z).toNatClampNeg < n := Nat.not_le.mp fun q => hi (Or.inr q)
  have h00 : ¬ Int32.ofInt z < 0 := fun q => hi (Or.inl q)
  obtain ⟨r', hr', cellV, g1, g2, g3, -⟩ := hR.at hv
  cases hc.symm.trans hr'
  have hK := gK hG hC.2.2.2.2.2.2.2.1
  have hcls := (hK.1 ci r hc).2
  obtain ⟨kA, comp, k1, k2, k3, -⟩ := (gty_at hG hC.2.2.2.2.2.2.2.1 ht).2
  obtain ⟨kC, hkC, -⟩ := hcls.2
  obtain ⟨kE, hkE⟩ := Vm.classAt_of_findClass k3
  have hass : s.vm.assignable (G.2.2.2.1.1 ci) comp = true := by
    rcases hca with e9 | e9
    · have : comp = G.2.2.2.1.1 ci := Option.some.inj (k3.symm.trans (by rw [← e9]; exact hcls.1))
      rw [this]; exact va_assign hcls
    · obtain ⟨c0, t0, f1, f2, f3⟩ := Cond.castable_spec (va_Nw.use (A := args) rfl (va_Nw.warmC hC.2.2.2.2.2.2.2.1 (va_Nw.of rfl (hG.1 _ e9))))
      cases hcls.1.symm.trans f1
      cases k3.symm.trans f2
      exact f3
  refine W.aast hC.1 hC.2.1 (hR.at ha) (fun q h => by cases h) (fun h => by cases h) k1 k2 rfl hkE ⟨h00, by show _ < (arrV _ _ _).slots.size; rw [arrV_size]; exact hlt⟩ g1 (fun q h => by rw [g3] at h; cases h) (by rw [g2]; exact hkC) (by rw [g2]; exact hass) rfl rfl hd fun H1 e1 z1 oq => ?_
  have e2 : H1[a]? = some (vp_cell (G.2.2.2.2 t) (n, .inr (.inr (.inr (.inr (va_up f z.toNat (some v))))))) := by
    rw [e1]
    show some ((vp_cell _ _).setSlot _ _) = _
    rw [vp_cell_q, vp_cell_q, arrV_store]
    congr 2
    funext q
    rw [he]
    by_cases hq : q = z.toNat
    · subst hq; simp [updV, va_up, va_rf]
    · simp [updV, va_up, hq]
  exact h p e s m args below meth c H1 _ ls hC (hR.set hb trivial e2 (arrV_nst _ _ _) z1 oq e2) (glocs hq hb) h1 h2 hl
end GH2
