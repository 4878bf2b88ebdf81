/-! hop1: sound; runs -/
theorem hop1_ok {G : gG} (hG : gGood G) {M : gM} {o : Nat} (ho : o < 21) (hown : M.1.cls = gOwn o) {fr rc rs : Nat} {Q : gO → gS → Prop} {pc nx tg : Nat} {L : gL} {st : List gV} {σ : gS} {K : Nat → gL → List gV → gS → Prop} (hK : ∀ pc L st σ, K pc L st σ → gW G M fr rc rs Q pc L st σ) (htb : xTbOK M.2.1 M.2.2.2.2.2) {i : Instr} (hi : M.2.2.2.2.2 pc = some (i, nx, tg)) (h : hop1 G M o fr Q pc i nx tg L st σ K) : gW G M fr rc rs Q pc L st σ := by
  obtain ⟨⟨len, hd, hlen⟩, him⟩ := htb pc i nx tg hi
  cases i with
  | getfield idx =>
    have hlen := hlen (fun _ _ _ _ => by simp)
    subst hlen
    have hnx : nx = pc + 3 := by simpa [ximm, xlen] using him
    subst hnx
    exact h1_getfield hG ho hown hK hd h
  | putfield idx =>
    have hlen := hlen (fun _ _ _ _ => by simp)
    subst hlen
    have hnx : nx = pc + 3 := by simpa [ximm, xlen] using him
    subst hnx
    exact h1_putfield hG ho hown hK hd h
  | iaload =>
    have hlen := hlen (fun _ _ _ _ => by simp)
    subst hlen
    have hnx : nx = pc + 1 := by simpa [ximm, xlen] using him
    subst hnx
    unfold hop1 at h
    dsimp only at h
    split at h
    · obtain ⟨a, n, f, rfl, ha, hn, hz, h⟩ := h
      exact gW_iald hG hd ha hn hz (fun q => hK _ _ _ _ (h q))
    · exact absurd h id
  | baload =>
    have hlen := hlen (fun _ _ _ _ => by simp)
    subst hlen
    have hnx : nx = pc + 1 := by simpa [ximm, xlen] using him
    subst hnx
    unfold hop1 at h
    dsimp only at h
    split at h
    · obtain ⟨a, n, f, rfl, ha, hn, hz, h⟩ := h
      exact gW_zald hG hd ha hn hz (fun q => hK _ _ _ _ (h q))
    · exact absurd h id
  | laload =>
    have hlen := hlen (fun _ _ _ _ => by simp)
    subst hlen
    have hnx : nx = pc + 1 := by simpa [ximm, xlen] using him
    subst hnx
    unfold hop1 at h
    dsimp only at h
    split at h
    · obtain ⟨a, n, f, rfl, ha, hn, hz, h⟩ := h
      exact gW_lald hG hd ha hn hz (hK _ _ _ _ h)
    · exact absurd h id
  | aaload =>
    have hlen := hlen (fun _ _ _ _ => by simp)
    subst hlen
    have hnx : nx = pc + 1 := by simpa [ximm, xlen] using him
    subst hnx
    exact h1_aaload hG ho hown hK hd h
  | arraylength =>
    have hlen := hlen (fun _ _ _ _ => by simp)
    subst hlen
    have hnx : nx = pc + 1 := by simpa [ximm, xlen] using him
    subst hnx
    exact h1_alen hG ho hown hK hd h
  | iastore =>
    have hlen := hlen (fun _ _ _ _ => by simp)
    subst hlen
    have hnx : nx = pc + 1 := by simpa [ximm, xlen] using him
    subst hnx
    unfold hop1 at h
    dsimp only at h
    split at h
    · obtain ⟨a, n, f, rfl, ha, hb, hn, hz, hx, h⟩ := h
      exact gW_iast hG hd ha hb hn hz hx (hK _ _ _ _ h)
    · exact absurd h id
  | bastore =>
    have hlen := hlen (fun _ _ _ _ => by simp)
    subst hlen
    have hnx : nx = pc + 1 := by simpa [ximm, xlen] using him
    subst hnx
    unfold hop1 at h
    dsimp only at h
    split at h
    · obtain ⟨a, n, f, rfl, ha, hb, hn, hz, hx, h⟩ := h
      exact gW_zast hG hd ha hb hn hz hx (hK _ _ _ _ h)
    · exact absurd h id
  | lastore =>
    have hlen := hlen (fun _ _ _ _ => by simp)
    subst hlen
    have hnx : nx = pc + 1 := by simpa [ximm, xlen] using him
    subst hnx
    unfold hop1 at h
    dsimp only at h
    split at h
    · obtain ⟨a, n, f, rfl, ha, hb, hn, hz, h⟩ := h
      exact gW_last hG hd ha hb hn hz (hK _ _ _ _ h)
    · exact absurd h id
  | aastore =>
    have hlen := hlen (fun _ _ _ _ => by simp)
    subst hlen
    have hnx : nx = pc + 1 := by simpa [ximm, xlen] using him
    subst hnx
    exact h1_aastore hG ho hown hK hd h
  | new idx =>
    have hlen := hlen (fun _ _ _ _ => by simp)
    subst hlen
    have hnx : nx = pc + 3 := by simpa [ximm, xlen] using him
    subst hnx
    exact h1_new hG ho hown hK htb hd h
  | newarray ty =>
    have hlen := hlen (fun _ _ _ _ => by simp)
    subst hlen
    have hnx : nx = pc + 2 := by simpa [ximm, xlen] using him
    subst hnx
    unfold hop1 at h
    dsimp only at h
    split at h
    · obtain ⟨t, ht, rfl, hz, c1, c2, h⟩ := h
      exact gW_newa hG ht hd (gac_ok ht) hz c1 c2 (hK _ _ _ _ h)
    · exact absurd h id
  | anewarray idx =>
    have hlen := hlen (fun _ _ _ _ => by simp)
    subst hlen
    have hnx : nx = pc + 3 := by simpa [ximm, xlen] using him
    subst hnx
    exact h1_anew hG ho hown hK hd h
  | checkcast idx =>
    have hlen := hlen (fun _ _ _ _ => by simp)
    subst hlen
    have hnx : nx = pc + 3 := by simpa [ximm, xlen] using him
    subst hnx
    exact h1_cast hG ho hown hK hd h
  | instanceof idx =>
    have hlen := hlen (fun _ _ _ _ => by simp)
    subst hlen
    have hnx : nx = pc + 3 := by simpa [ximm, xlen] using him
    subst hnx
    exact h1_inst hG ho hown hK hd h
  | getstatic idx =>
    have hlen := hlen (fun _ _ _ _ => by simp)
    subst hlen
    have hnx : nx = pc + 3 := by simpa [ximm, xlen] using him
    subst hnx
    exact h1_gets hG ho hown hK hd h
  | invokestatic idx =>
    have hlen := hlen (fun _ _ _ _ => by simp)
    subst hlen
    have hnx : nx = pc + 3 := by simpa [ximm, xlen] using him
    subst hnx
    exact h1_stat hG ho hown hK hd h
  | invokespecial idx =>
    have hlen := hlen (fun _ _ _ _ => by simp)
    subst hlen
    have hnx : nx = pc + 3 := by simpa [ximm, xlen] using him
    subst hnx
    exact h1_spec hG ho hown hK hd h
  | invokevirtual idx =>
    have hlen := hlen (fun _ _ _ _ => by simp)
    subst hlen
    have hnx : nx = pc + 3 := by simpa [ximm, xlen] using him
    subst hnx
    exact h1_virt hG ho hown hK hd h
  | invokeinterface idx n =>
    have hlen := hlen (fun _ _ _ _ => by simp)
    subst hlen
    have hnx : nx = pc + 5 := by simpa [ximm, xlen] using him
    subst hnx
    exact h1_face hG ho hown hK hd h
  | ifnull off =>
    have hlen := hlen (fun _ _ _ _ => by simp)
    subst hlen
    have him : (pc : Int) + off = (tg : Int) ∧ nx = pc + 3 := by simpa [ximm] using him
    obtain ⟨ht, rfl⟩ := him
    unfold hop1 at h
    dsimp only at h
    split at h
    · exact gW_ifnull hd ht (fun q => hK _ _ _ _ (h.1 q)) (fun a q => hK _ _ _ _ (h.2 a q))
    · exact absurd h id
  | ifnonnull off =>
    have hlen := hlen (fun _ _ _ _ => by simp)
    subst hlen
    have him : (pc : Int) + off = (tg : Int) ∧ nx = pc + 3 := by simpa [ximm] using him
    obtain ⟨ht, rfl⟩ := him
    unfold hop1 at h
    dsimp only at h
    split at h
    · exact gW_ifnonnull hd ht (fun a q => hK _ _ _ _ (h.1 a q)) (fun q => hK _ _ _ _ (h.2 q))
    · exact absurd h id
  | if_acmp c off =>
    have hlen := hlen (fun _ _ _ _ => by simp)
    subst hlen
    have him : (pc : Int) + off = (tg : Int) ∧ nx = pc + 3 := by simpa [ximm] using him
    obtain ⟨ht, rfl⟩ := him
    unfold hop1 at h
    dsimp only at h
    split at h
    · cases c with
      | eq => exact gW_acmp hd ht (fun q => hK _ _ _ _ (h.1 q)) (fun q => hK _ _ _ _ (h.2 q))
      | ne => exact gW_acmp hd ht (fun q => hK _ _ _ _ (h.2 q)) (fun q => hK _ _ _ _ (h.1 q))
    · exact absurd h id
  | ireturn =>
    unfold hop1 at h
    dsimp only at h
    split at h
    · split at h
      · rename_i hr
        exact gW_ireturn htb hi (Or.inl hr) h
      · rename_i hr
        exact gW_ireturn htb hi (Or.inr ⟨hr, h.1⟩) h.2
      · exact absurd h id
    · exact absurd h id
  | return_ =>
    unfold hop1 at h
    dsimp only at h
    split at h
    · split at h
      · rename_i hr
        exact gW_return htb hi hr h
      · exact absurd h id
    · exact absurd h id
  | areturn =>
    unfold hop1 at h
    dsimp only at h
    split at h
    · split at h
      · rename_i n hr
        exact gW_areturn htb hi (Or.inl ⟨n, hr⟩) h
      · rename_i n hr
        exact gW_areturn htb hi (Or.inr ⟨n, hr⟩) h
      · exact absurd h id
    · exact absurd h id
  | athrow =>
    have hlen := hlen (fun _ _ _ _ => by simp)
    subst hlen
    unfold hop1 at h
    dsimp only at h
    split at h
    · obtain ⟨a, rfl, h⟩ := h
      exact gW_athrow hd (gxv_ok hG ho hown hK h)
    · exact absurd h id
  | _ => exact absurd h id
theorem vcg_snd {ρ τ : Type} {nul : ρ} {tb : xTb} {nL : Nat} {hop : xHop ρ τ} {J : Nat → xL ρ → List (xV ρ) → τ → Prop} (hJ : ∀ pc L st σ K, (∀ pc L st σ, K pc L st σ → J pc L st σ) → vstep nul tb nL hop pc L st σ K → J pc L st σ) {stop : Nat → Bool} {K : Nat → xL ρ → List (xV ρ) → τ → Prop} (hK : ∀ pc L st σ, K pc L st σ → J pc L st σ) : ∀ (n : Nat) (pc : Nat) (L : xL ρ) (st : List (xV ρ)) (σ : τ), vcg nul tb nL hop stop n pc L st σ K → J pc L st σ := by
  intro n
  induction n with
  | zero => intro pc L st σ h; exact hK _ _ _ _ h
  | succ n ih =>
    intro pc L st σ h
    unfold vcg at h
    cases hs : stop pc with
    | true => rw [hs] at h; exact hK _ _ _ _ h
    | false =>
      rw [hs] at h
      exact hJ pc L st σ _ (fun pc L st σ => ih pc L st σ) h
theorem vstep1 {G : gG} (hG : gGood G) {M : gM} {o : Nat} (ho : o < 21) (hown : M.1.cls = gOwn o) (htb : xTbOK M.2.1 M.2.2.2.2.2) {fr rc rs : Nat} {Q : gO → gS → Prop} (pc : Nat) (L : gL) (st : List gV) (σ : gS) (K : Nat → gL → List gV → gS → Prop) (hK : ∀ pc L st σ, K pc L st σ → gW G M fr rc rs Q pc L st σ) (h : vstep none M.2.2.2.2.2 M.2.2.1 (hop1 G M o fr Q) pc L st σ K) : gW G M fr rc rs Q pc L st σ := by
  unfold vstep at h
  split at h
  · exact absurd h id
  · rename_i i nx tg hi
    exact gW_core htb hi (xcore_mono (fun pc L st => hK pc L st σ) (fun h => hop1_ok hG ho hown hK htb hi h) h)
/-- a run of n steps at most, to the places at which it stops -/
def vc1 (G : gG) (M : gM) (o fr : Nat) (Q : gO → gS → Prop) (stop : Nat → Bool) (n pc : Nat) (L : gL) (st : List gV) (σ : gS) (K : Nat → gL → List gV → gS → Prop) : Prop := vcg none M.2.2.2.2.2 M.2.2.1 (hop1 G M o fr Q) stop n pc L st σ K
theorem vc1_ok {G : gG} (hG : gGood G) {M : gM} {o : Nat} (ho : o < 21) (hown : M.1.cls = gOwn o) (htb : xTbOK M.2.1 M.2.2.2.2.2) {fr rc rs : Nat} {Q : gO → gS → Prop} (stop : Nat → Bool) (n : Nat) {pc : Nat} {L : gL} {st : List gV} {σ : gS} (h : vc1 G M o fr Q stop n pc L st σ (fun pc L st σ => gW G M fr rc rs Q pc L st σ)) : gW G M fr rc rs Q pc L st σ :=
  vcg_snd (vstep1 hG ho hown htb) (fun _ _ _ _ h => h) n pc L st σ h
/-- the same from a place at which it stops: one step first -/
theorem vc1_go {G : gG} (hG : gGood G) {M : gM} {o : Nat} (ho : o < 21) (hown : M.1.cls = gOwn o) (htb : xTbOK M.2.1 M.2.2.2.2.2) {fr rc rs : Nat} {Q : gO → gS → Prop} (stop : Nat → Bool) (n : Nat) {pc : Nat} {L : gL} {st : List gV} {σ : gS} (h : vstep none M.2.2.2.2.2 M.2.2.1 (hop1 G M o fr Q) pc L st σ (fun pc L st σ => vc1 G M o fr Q stop n pc L st σ (fun pc L st σ => gW G M fr rc rs Q pc L st σ))) : gW G M fr rc rs Q pc L st σ :=
  vstep1 hG ho hown htb pc L st σ _ (fun _ _ _ _ h => vc1_ok hG ho hown htb stop n h) h
