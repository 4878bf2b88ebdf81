/-! ArrayList, Itr, Integer: by the runs -/
theorem okb1 {G : gG} (hG : gGood G) {M : gM} {o : Nat} (ho : o < 21) (hown : M.1.cls = gOwn o) (htb : xTbOK M.2.1 M.2.2.2.2.2) {fr : Nat} {as : List gV} {σ : gS} {Q : gO → gS → Prop} (h : vc1 G M o fr Q (fun _ => false) 1000 0 (gent 0 as) [] σ (fun _ _ _ _ => False)) : bx 0 (gOKb G M fr as σ Q) :=
  bx_in (vcg_snd (vstep1 hG ho hown htb) (fun _ _ _ _ h => absurd h id) 1000 0 _ _ _ h)
abbrev vr (a : Nat) : gV := .inr (.inl (some a))
abbrev vi (z : Int) : gV := .inl z
abbrev vn : gV := .inr (.inl none)
theorem sJ2_size {G : gG} (hG : gGood G) {fr a : Nat} {σ : gS} {Q : gO → gS → Prop} {mc n : Int} {e : gV} (ha : σ.1 a = some (.inl (10, [vi mc, e, vi n]))) (hQ : Q (.inl (some (vi n))) σ) : bx 0 (gOKb G mJ2_size fr [vr a] σ Q) := by
  refine okb1 hG (o := 12) (by decide) rfl okJ2_size ?_
  conv => whnf
  refine ⟨_, _, _, rfl, ha, rfl, fun hz => ?_⟩
  conv => whnf
  exact hQ
