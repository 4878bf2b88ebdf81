/-! new, arrays made, casts, nulls -/
section GH3
variable {G : gG} {M : gM} {fr rc rs : Nat} {Q : gO → gS → Prop} {pc : Nat} {L : gL} {rest : List gV} {σ : gS}
/-- the default values of a class's fields -/
def gdv (ty : FieldType) : gV := match ty with
  | .object _ => .inr (.inl none)
  | .array _ => .inr (.inl none)
  | .long => .inr (.inr 0)
  | _ => .inl 0
def gdef (ci N : Nat) : List gV := (List.range N).map (fun k => gdv (g_ty ci k))
def gplain (ty : FieldType) : Bool := match ty with
  | .int | .boolean | .object _ | .array _ => true
  | _ => false
theorem gplain_ok : ∀ (ci : Nat) (r : vw_C) (k : Nat), g_cl[ci]? = some r → k < r.2.2 → gplain (g_ty ci k) = true := by
  have key : ∀ ci : Fin 18, ∀ k : Fin 31, k.val < ((g_cl[ci.val]?).map (·.2.2)).getD 0 → gplain (g_ty ci.val k.val) = true := by decide +kernel
  intro ci r k hc hk
  have h1 : ci < 18 := (List.getElem?_eq_some_iff.mp hc).1
  have h2 : ∀ ci : Fin 18, ((g_cl[ci.val]?).map (·.2.2)).getD 0 ≤ 31 := by decide +kernel
  have h3 := h2 ⟨ci, h1⟩
  have e : ((g_cl[ci]?).map (·.2.2)).getD 0 = r.2.2 := by rw [hc]; rfl
  have h3 : ((g_cl[ci]?).map (·.2.2)).getD 0 ≤ 31 := h3
  exact key ⟨ci, h1⟩ ⟨k, by omega⟩ (by show k < ((g_cl[ci]?).map (·.2.2)).getD 0; omega)
theorem gdv_ok {ty : FieldType} (h : gplain ty = true) : defaultValue ty = gc (gdv ty) := by
  cases ty <;> first | rfl | (simp [gplain] at h)
theorem gdv_int {ty : FieldType} {z : Int} (h : gdv ty = .inl z) : z = 0 := by
  cases ty <;> simp [gdv] at h <;> first | exact h.symm | exact h
theorem gW_new (hG : gGood G) {idx n : Nat} (hd : decode M.2.1 pc = .ok (.new idx, 3)) {ci : Nat} {r : vw_C} (hc : g_cl[ci]? = some r) (h1 : Cond.classLink M.1.cls idx r.1 ∈ lw_all) (h2 : Cond.instantiable r.1 n ∈ lw_all) (h3 : Cond.initialized r.1 ∈ lw_all) (hcr : 1 ≤ σ.2.2.1) (hsr : n ≤ σ.2.2.2)
    (h : gW G M fr rc rs Q (pc + 3) L (.inr (.inl (some σ.2.1)) :: rest) (gset σ.1 σ.2.1 (.inl (ci, gdef ci r.2.2)), σ.2.1 + 1, σ.2.2.1 - 1, σ.2.2.2 - n)) : gW G M fr rc rs Q pc L rest σ := by
  intro p e s m args below meth c H locs ls hC hR hq k1 k2 hl
  have hts := hC.2.2.2.2.2.2.1
  have hK := gK hG hC.2.2.2.2.2.2.2.1
  have hKn := hK.1 ci r hc
  obtain ⟨hin, hty, hnm⟩ := g_cls ci r hc
  refine W.newcK hC.1 hC.2.1 hC.2.2.2.2.2.1 (hts _ h1) (hts _ h2) (hts _ h3) rfl hd (by show _ + 1 ≤ rc; omega) (by show _ + n ≤ rs; omega) hKn.2.1 hR.1 fun H1 kC hkC e1 z1 o1 => ?_
  have hdv : ∀ j, j < r.2.2 → defaultValue (g_ty ci j) = vp_V ((gdef ci r.2.2).map gc) j := by
    intro j hj
    rw [gdv_ok (gplain_ok ci r j hc hj)]
    simp [vp_V, gdef, hj]
  have hat : va_at G.2.2.2.1 g_cl (σ.2.1, gcE G (.inl (ci, gdef ci r.2.2))) H1 := ⟨r, hc, (u_born (g_ty ci) hts hin hKn hkC e1 hty).to hdv⟩
  have hwf : gwf (.inl (ci, gdef ci r.2.2)) := by
    intro k z hz
    have hz0 : z = 0 := by
      unfold gdef at hz
      rw [List.getElem?_map] at hz
      obtain ⟨x, -, hx⟩ := Option.map_eq_some_iff.mp hz
      exact gdv_int hx
    subst hz0
    cases gbool ci k
    · exact inR0
    · exact Or.inl rfl
  have hR' := hR.push (rc := σ.2.2.1 - 1) (rs := σ.2.2.2 - n) hwf e1 rfl (by rw [z1, hR.1]) (fun q hq => o1 q (by rw [← hR.1]; exact hq)) hat
  have K := h p e s m args below meth c H1 locs ls hC hR' hq (by show σ.2.2.1 - 1 ≤ rc; omega) (by show σ.2.2.2 - n ≤ rs; omega) hl
  have e4 : rc - (σ.2.2.1 - 1) = rc - σ.2.2.1 + 1 := by omega
  have e5 : rs - (σ.2.2.2 - n) = rs - σ.2.2.2 + n := by omega
  rw [e4, e5] at K
  exact K
def gaty (t : Nat) : ArrayType := match t with
  | 0 => .int
  | 1 => .boolean
  | _ => .long
def gzero (t : Nat) : (Nat → Int) ⊕ (Nat → Option Nat) ⊕ (Nat → Int64) := match t with
  | 0 => .inl (fun _ => 0)
  | 1 => .inl (fun _ => 0)
  | _ => .inr (.inr (fun _ => 0))
theorem gW_newa (hG : gGood G) {t : Nat} (ht : t < 3) (hd : decode M.2.1 pc = .ok (.newarray (gaty t), 2)) {z : Int} (hw : Cond.arrayClass (newarray.typeOf (gaty t)) ∈ lw_all) (h0 : 0 ≤ z ∧ z ≤ 10000) (hcr : 1 ≤ σ.2.2.1) (hsr : z.toNat ≤ σ.2.2.2)
    (h : gW G M fr rc rs Q (pc + 2) L (.inr (.inl (some σ.2.1)) :: rest) (gset σ.1 σ.2.1 (.inr (t, z.toNat, gzero t)), σ.2.1 + 1, σ.2.2.1 - 1, σ.2.2.2 - z.toNat)) : gW G M fr rc rs Q pc L (.inl z :: rest) σ := by
  intro p e s m args below meth c H locs ls hC hR hq k1 k2 hl
  have hts := hC.2.2.2.2.2.2.1
  obtain ⟨hi, he⟩ := gidx (n := 10001) h0.1 (by omega) (by decide)
  refine va_newaK hC.1 hC.2.1 (hts _ hw) rfl hd rfl (fun q => hi (Or.inl q)) he (by
    have : componentBytes (newarray.typeOf (gaty t)) ≤ 8 := by
      rcases (show t = 0 ∨ t = 1 ∨ t = 2 by omega) with rfl | rfl | rfl <;> decide
    have hz : z.toNat ≤ 10000 := by omega
    calc z.toNat * componentBytes (newarray.typeOf (gaty t)) ≤ 10000 * 8 := Nat.mul_le_mul hz this
      _ ≤ 536870912 := by decide) (by show _ + 1 ≤ rc; omega) (by show _ + z.toNat ≤ rs; omega) hR.1 fun H1 cA e1 z1 o1 hAr hNm => ?_
  have hcA : cA = G.2.2.2.2 t := by
    rcases (show t = 0 ∨ t = 1 ∨ t = 2 by omega) with rfl | rfl | rfl
    · exact Option.some.inj (hNm.symm.trans (gty_at hG hC.2.2.2.2.2.2.2.1 (t := 0) (ty := .int) rfl).2)
    · exact Option.some.inj (hNm.symm.trans (gty_at hG hC.2.2.2.2.2.2.2.1 (t := 1) (ty := .boolean) rfl).2)
    · exact Option.some.inj (hNm.symm.trans (gty_at hG hC.2.2.2.2.2.2.2.1 (t := 2) (ty := .long) rfl).2)
  have hat : va_at G.2.2.2.1 g_cl (σ.2.1, gcE G (.inr (t, z.toNat, gzero t))) H1 ∧ gwf (.inr (t, z.toNat, gzero t)) := by
    rw [hcA] at e1
    rcases (show t = 0 ∨ t = 1 ∨ t = 2 by omega) with rfl | rfl | rfl
    · exact ⟨e1, fun j => inR0⟩
    · exact ⟨e1, fun j => Or.inl rfl⟩
    · exact ⟨e1, trivial⟩
  have hR' := hR.push (rc := σ.2.2.1 - 1) (rs := σ.2.2.2 - z.toNat) hat.2 e1 rfl (by rw [z1, hR.1]) (fun q hq => o1 q (by rw [← hR.1]; exact hq)) hat.1
  have K := h p e s m args below meth c H1 locs ls hC hR' hq (by show σ.2.2.1 - 1 ≤ rc; omega) (by show σ.2.2.2 - z.toNat ≤ rs; omega) hl
  have e4 : rc - (σ.2.2.1 - 1) = rc - σ.2.2.1 + 1 := by omega
  have e5 : rs - (σ.2.2.2 - z.toNat) = rs - σ.2.2.2 + z.toNat := by omega
  rw [e4, e5] at K
  exact K
theorem gW_newq (hG : gGood G) {t idx : Nat} {E : String} (ht : (g_tys G)[t]? = some (G.2.2.2.2 t, .object E)) (hd : decode M.2.1 pc = .ok (.anewarray idx, 3)) {z : Int} (h1 : Cond.classLink M.1.cls idx E ∈ lw_all) (h2 : Cond.arrayOver (.object E) ∈ lw_tbl) (h0 : 0 ≤ z ∧ z ≤ 10000) (hcr : 1 ≤ σ.2.2.1) (hsr : z.toNat ≤ σ.2.2.2)
    (h : gW G M fr rc rs Q (pc + 3) L (.inr (.inl (some σ.2.1)) :: rest) (gset σ.1 σ.2.1 (.inr (t, z.toNat, .inr (.inl (fun _ => none)))), σ.2.1 + 1, σ.2.2.1 - 1, σ.2.2.2 - z.toNat)) : gW G M fr rc rs Q pc L (.inl z :: rest) σ := by
  intro p e s m args below meth c H locs ls hC hR hq k1 k2 hl
  have hts := hC.2.2.2.2.2.2.1
  obtain ⟨hi, he⟩ := gidx (n := 10001) h0.1 (by omega) (by decide)
  refine W.anew hC.1 hC.2.1 hC.2.2.2.2.2.1 (hts _ h1) (va_AO.use (va_AO.moved hC.2.2.2.2.2.2.2.1.alike (va_AO.of (hG.1 _ h2)))) rfl hd rfl (fun q => hi (Or.inl q)) (by rw [he]; omega) (by show _ + 1 ≤ rc; omega) (by rw [he]; show _ + z.toNat ≤ rs; omega) fun cA kA comp f1 f2 f3 f4 => ?_
  generalize hH1 : H.push ({ cls := cA, slots := Array.replicate (Int32.ofInt z).toNatClampNeg .null, vm := .none } : Cell) = H1
  have z1 : H1.size = H.size + 1 := by rw [← hH1, Array.size_push]
  obtain ⟨kA', comp', -, -, -, hNm⟩ := (gty_at hG hC.2.2.2.2.2.2.2.1 ht).2
  have hcA : cA = G.2.2.2.2 t := Option.some.inj (f1.symm.trans hNm)
  have e1 : H1[σ.2.1]? = some (arrV (G.2.2.2.2 t) z.toNat (fun _ => .null)) := by rw [← hH1, ← hR.1, Array.getElem?_push_size, ← arrV_new, hcA, he]
  have o1 : ∀ q : Nat, q < H.size → H1[q]? = H[q]? := fun q hq => by rw [← hH1, Array.getElem?_push, if_neg (Nat.ne_of_lt hq)]
  have hR' := hR.push (e := .inr (t, z.toNat, .inr (.inl (fun _ => none)))) (rc := σ.2.2.1 - 1) (rs := σ.2.2.2 - z.toNat) trivial e1 rfl z1 o1 e1
  have K := h p e s m args below meth c H1 locs ls hC hR' hq (by show σ.2.2.1 - 1 ≤ rc; omega) (by show σ.2.2.2 - z.toNat ≤ rs; omega) hl
  have e4 : rc - (σ.2.2.1 - 1) = rc - σ.2.2.1 + 1 := by omega
  have e5 : rs - (σ.2.2.2 - z.toNat) = rs - σ.2.2.2 + z.toNat := by omega
  rw [e4, e5] at K
  rw [he]
  have e6 : (.ref H.size : Value) = .ref σ.2.1 := by rw [hR.1]
  rw [e6]
  exact K
theorem gW_castN {idx : Nat} (hd : decode M.2.1 pc = .ok (.checkcast idx, 3)) (h : gW G M fr rc rs Q (pc + 3) L (.inr (.inl none) :: rest) σ) : gW G M fr rc rs Q pc L (.inr (.inl none) :: rest) σ := by
  intro p e s m args below meth c H locs ls hC hR hq k1 k2 hl
  exact lv_castN hC.1 hC.2.1 hd (h p e s m args below meth c H locs ls hC hR hq k1 k2 hl)
theorem gR3 {G : gG} (hG : gGood G) {s : State} (hw : G.2.1.WarmedH s.vm) {σ : gS} {H : Heap} (hR : gRep G σ H) {a ci : Nat} {vs : List gV} (ha : σ.1 a = some (.inl (ci, vs))) {r : vw_C} (hc : g_cl[ci]? = some r) : ∃ cell : Cell, H[a]? = some cell ∧ cell.vm.isStatics = false ∧ s.vm.findClass r.1 = some cell.cls := by
  obtain ⟨cell, k, h1, h2, h3, -⟩ := gRecv hG hw hR ha hc
  exact ⟨cell, h1, h2, h3⟩
theorem gW_cast (hG : gGood G) {idx a ci : Nat} {vs : List gV} {r : vw_C} {nm : String} (ha : σ.1 a = some (.inl (ci, vs))) (hc : g_cl[ci]? = some r) (hd : decode M.2.1 pc = .ok (.checkcast idx, 3)) (h1 : Cond.classLink M.1.cls idx nm ∈ lw_all) (h2 : r.1 = nm ∨ Cond.castable r.1 nm ∈ lw_tbl)
    (h : gW G M fr rc rs Q (pc + 3) L (.inr (.inl (some a)) :: rest) σ) : gW G M fr rc rs Q pc L (.inr (.inl (some a)) :: rest) σ := by
  intro p e s m args below meth c H locs ls hC hR hq k1 k2 hl
  have hts := hC.2.2.2.2.2.2.1
  have hK := gK hG hC.2.2.2.2.2.2.2.1
  have h3 := h p e s m args below meth c H locs ls hC hR hq k1 k2 hl
  rcases h2 with e9 | e9
  · subst e9
    exact va_castS hC.1 hC.2.1 hC.2.2.2.2.2.1 (hts _ h1) (hK.1 ci r hc).2 (gR3 hG hC.2.2.2.2.2.2.2.1 hR ha hc) hd h3
  · exact va_castY hC.1 hC.2.1 hC.2.2.2.2.2.1 (hts _ h1) (va_Nw.warmC hC.2.2.2.2.2.2.2.1 (va_Nw.of rfl (hG.1 _ e9))) (gR3 hG hC.2.2.2.2.2.2.2.1 hR ha hc) hd h3
theorem gW_instN {idx : Nat} (hd : decode M.2.1 pc = .ok (.instanceof idx, 3)) (h : gW G M fr rc rs Q (pc + 3) L (.inl 0 :: rest) σ) : gW G M fr rc rs Q pc L (.inr (.inl none) :: rest) σ := by
  intro p e s m args below meth c H locs ls hC hR hq k1 k2 hl
  exact lv_instN hC.1 hC.2.1 hd (h p e s m args below meth c H locs ls hC hR hq k1 k2 hl)
theorem gW_instY (hG : gGood G) {idx a ci : Nat} {vs : List gV} {r : vw_C} (ha : σ.1 a = some (.inl (ci, vs))) (hc : g_cl[ci]? = some r) (hd : decode M.2.1 pc = .ok (.instanceof idx, 3)) (h1 : Cond.classLink M.1.cls idx r.1 ∈ lw_all)
    (h : gW G M fr rc rs Q (pc + 3) L (.inl 1 :: rest) σ) : gW G M fr rc rs Q pc L (.inr (.inl (some a)) :: rest) σ := by
  intro p e s m args below meth c H locs ls hC hR hq k1 k2 hl
  exact va_instS hC.1 hC.2.1 hC.2.2.2.2.2.1 (hC.2.2.2.2.2.2.1 _ h1) ((gK hG hC.2.2.2.2.2.2.2.1).1 ci r hc).2 (gR3 hG hC.2.2.2.2.2.2.2.1 hR ha hc) hd (h p e s m args below meth c H locs ls hC hR hq k1 k2 hl)
theorem gW_instNo (hG : gGood G) {idx a ci : Nat} {vs : List gV} {r : vw_C} {nm : String} (ha : σ.1 a = some (.inl (ci, vs))) (hc : g_cl[ci]? = some r) (hd : decode M.2.1 pc = .ok (.instanceof idx, 3)) (h1 : Cond.classLink M.1.cls idx nm ∈ lw_all) (h2 : Cond.not (.castable r.1 nm) ∈ flatC (Jvm.Cond.and given_1 narrow_1))
    (h : gW G M fr rc rs Q (pc + 3) L (.inl 0 :: rest) σ) : gW G M fr rc rs Q pc L (.inr (.inl (some a)) :: rest) σ := by
  intro p e s m args below meth c H locs ls hC hR hq k1 k2 hl
  exact va_instNo hC.1 hC.2.1 hC.2.2.2.2.2.1 (hC.2.2.2.2.2.2.1 _ h1) ((va_Nc.of (flat_of_before _ hG.2.2.2 _ h2)).moved hC.2.2.2.2.2.2.2.1.alike) (gR3 hG hC.2.2.2.2.2.2.2.1 hR ha hc) hd (h p e s m args below meth c H locs ls hC hR hq k1 k2 hl)
theorem gW_ifnull {off : Int} {tg : Nat} {o : Option Nat} (hd : decode M.2.1 pc = .ok (.ifnull off, 3)) (ht : (pc : Int) + off = (tg : Int)) (h1 : o = none → gW G M fr rc rs Q tg L rest σ) (h2 : ∀ a, o = some a → gW G M fr rc rs Q (pc + 3) L rest σ) : gW G M fr rc rs Q pc L (.inr (.inl o) :: rest) σ := by
  intro p e s m args below meth c H locs ls hC hR hq k1 k2 hl
  cases o with
  | none => exact lv_ifnullN hC.1 hC.2.1 hd ht (h1 rfl p e s m args below meth c H locs ls hC hR hq k1 k2 hl)
  | some a => exact lv_ifnull hC.1 hC.2.1 hd (h2 a rfl p e s m args below meth c H locs ls hC hR hq k1 k2 hl)
theorem gW_ifnonnull {off : Int} {tg : Nat} {o : Option Nat} (hd : decode M.2.1 pc = .ok (.ifnonnull off, 3)) (ht : (pc : Int) + off = (tg : Int)) (h1 : ∀ a, o = some a → gW G M fr rc rs Q tg L rest σ) (h2 : o = none → gW G M fr rc rs Q (pc + 3) L rest σ) : gW G M fr rc rs Q pc L (.inr (.inl o) :: rest) σ := by
  intro p e s m args below meth c H locs ls hC hR hq k1 k2 hl
  cases o with
  | none => exact lv_ifnonnullN hC.1 hC.2.1 hd (h2 rfl p e s m args below meth c H locs ls hC hR hq k1 k2 hl)
  | some a => exact lv_ifnonnull hC.1 hC.2.1 hd ht (h1 a rfl p e s m args below meth c H locs ls hC hR hq k1 k2 hl)
theorem gW_acmp {c0 : ACond} {off : Int} {tg : Nat} {x y : Option Nat} (hd : decode M.2.1 pc = .ok (.if_acmp c0 off, 3)) (ht : (pc : Int) + off = (tg : Int)) (h1 : x = y → gW G M fr rc rs Q (match c0 with | .eq => tg | .ne => pc + 3) L rest σ) (h2 : ¬ x = y → gW G M fr rc rs Q (match c0 with | .eq => pc + 3 | .ne => tg) L rest σ) : gW G M fr rc rs Q pc L (.inr (.inl y) :: .inr (.inl x) :: rest) σ := by
  intro p e s m args below meth c H locs ls hC hR hq k1 k2 hl
  cases c0 with
  | eq => exact lv_acmp_eq hC.1 hC.2.1 hd ht (fun q => h1 q p e s m args below meth c H locs ls hC hR hq k1 k2 hl) (fun q => h2 q p e s m args below meth c H locs ls hC hR hq k1 k2 hl)
  | ne => exact lv_acmp_ne hC.1 hC.2.1 hd ht (fun q => h2 q p e s m args below meth c H locs ls hC hR hq k1 k2 hl) (fun q => h1 (by first | exact q | exact Decidable.not_not.mp q) p e s m args below meth c H locs ls hC hR hq k1 k2 hl)
theorem gW_objInit {idx a : Nat} (hd : decode M.2.1 pc = .ok (.invokespecial idx, 3)) (h1 : Cond.methodLink M.1.cls idx Lib.objectInit ∈ lw_all) (h2 : Cond.instanceMethod Lib.objectInit ∈ lw_all) (h3 : Cond.code Lib.objectInit ⟨#[0xb1]⟩ 1 none ∈ lw_all) (hf : 1 ≤ fr) (hcat : gcat rest ≤ 80)
    (h : gW G M fr rc rs Q (pc + 3) L rest σ) : gW G M fr rc rs Q pc L (.inr (.inl (some a)) :: rest) σ := by
  intro p e s m args below meth c H locs ls hC hR hq k1 k2 hl
  have hts := hC.2.2.2.2.2.2.1
  refine W.objInit hC.1 hC.2.1 hC.2.2.2.2.2.1 (hts _ h1) (hts _ h2) (hts _ h3) rfl (by rw [hC.2.2.1]; exact hl.1) rfl hd hf ?_ (h p e s m args below meth c H locs ls hC hR hq k1 k2 hl)
  show 2 * 0 + ((rest.map gc).map fun v => v.category).sum + 12 ≤ 100 * fr
  rw [gcat_eq]; omega
end GH3
