/-! soundness of hopM -/
theorem fV_gcat {f : Option Nat → Option Nat} (st : List gV) : gcat (st.map (fV f)) = gcat st := by
  induction st with
  | nil => rfl
  | cons v r ih =>
    show (bif xlong (fV f v) then 2 else 1) + gcat (r.map (fV f)) = (bif xlong v then 2 else 1) + gcat r
    rw [fV_long, ih]
theorem fV_gargw {f : Option Nat → Option Nat} (st : List gV) : gargw (st.map (fV f)) = gargw st := by
  induction st with
  | nil => rfl
  | cons v r ih =>
    show (bif xlong (fV f v) then 2 else 1) + gargw (r.map (fV f)) = (bif xlong v then 2 else 1) + gargw r
    rw [fV_long, ih]
theorem fV_xpop {f : Option Nat → Option Nat} : ∀ {n : Nat} {st acc as rest : List gV}, xpop n st acc = some (as, rest) → xpop n (st.map (fV f)) (acc.map (fV f)) = some (as.map (fV f), rest.map (fV f)) := by
  intro n
  induction n with
  | zero => intro st acc as rest h; cases h; rfl
  | succ n ih =>
    intro st acc as rest h
    cases st with
    | nil => cases h
    | cons v r => exact ih (show xpop n r (v :: acc) = some (as, rest) from h)
theorem fL_gent {f : Option Nat → Option Nat} (as : List gV) : ∀ k : Nat, gent k (as.map (fV f)) = fL f (gent k as) := by
  induction as with
  | nil => intro k; rfl
  | cons v r ih =>
    intro k
    show (k, fV f v) :: gent (bif xlong (fV f v) then k + 2 else k + 1) (r.map (fV f)) = (k, fV f v) :: fL f (gent (bif xlong v then k + 2 else k + 1) r)
    rw [fV_long, ih]
theorem gF4 : ∀ e ∈ gFl 4, e.2.1 = 3 ∧ e.2.2.1 < 31 ∧ e.2.2.2 = 0 := by decide +kernel
theorem gFin4 : ∀ k : Fin 31, Nat.blt k.val 23 = false → ((g_cl.getD 3 ("", TX1, 0)).2.1 k.val).2.2.2 = false ∧ g_ty 3 k.val = (bif gbool 3 k.val then FieldType.boolean else FieldType.int) := by decide +kernel
theorem gF4b : ∀ k : Nat, mbl k = true → k < 23 := by
  intro k h
  unfold mbl at h
  rw [Bool.and_eq_true] at h
  have := Nat.le_of_ble_eq_true h.2
  omega
theorem gMl4x : (gMl 4).all (fun e => match e.2.2.2.2 with | (c, _) :: _ => Nat.beq e.2.1 0 || Nat.beq c 3 | [] => true) = true := by decide +kernel
def mJ (G : gG) (σ : gS) (hm : Nat) (M : gM) (fr rc rs : Nat) (Q : mQ) : Nat → gL → List gV → mS → Prop := fun pc L st μ => gW G M fr rc rs (mpost σ hm Q) pc (fL (msh hm) L) (st.map (fV (msh hm))) (gMset σ hm μ)
theorem gclM_ok {G : gG} {σ : gS} {hm : Nat} {M M' : gM} {fr rc rs pc nx : Nat} {L : gL} {as rest : List gV} {μ : mS} {Q : mQ} {K : Nat → gL → List gV → mS → Prop} (hK : ∀ pc L st μ, K pc L st μ → mJ G σ hm M fr rc rs Q pc L st μ)
    (h : gclM G σ hm M' fr nx L as rest μ K) : gcl G M M' 4 fr (mpost σ hm Q) pc nx (fL (msh hm) L) (as.map (fV (msh hm))) (rest.map (fV (msh hm))) (gMset σ hm μ) (fun pc L st σ' => gW G M fr rc rs (mpost σ hm Q) pc L st σ') := by
  unfold gclM at h
  unfold gcl
  rw [fV_gcat, fV_gargw]
  cases hb : (Nat.ble (gcat rest + (M'.2.2.1 + 11)) 100 && Nat.ble (gargw as) M'.2.2.1) with
  | false => rw [hb] at h; exact absurd h id
  | true =>
    rw [hb] at h
    cases fr with
    | zero => exact absurd h id
    | succ fr' =>
      refine bx_in (gOKb.mono (bx_out h) ?_)
      rintro out σ' ⟨v, μ', rfl, rfl, hq⟩
      have h9 := hK _ _ _ _ hq
      unfold mJ at h9
      cases v with
      | none => exact h9
      | some z => exact h9
theorem hopM_ok {G : gG} {σ : gS} {hm : Nat} (hb : gBase G ≤ hm) {M : gM} {fr rc rs : Nat} {Q : mQ} {pc : Nat} {i : Instr} {nx tg : Nat} {L : gL} {st : List gV} {μ : mS} {K : Nat → gL → List gV → mS → Prop} (hK : ∀ pc L st μ, K pc L st μ → mJ G σ hm M fr rc rs Q pc L st μ)
    (h : hopM G σ hm M fr Q pc i nx tg L st μ K) : hop1 G M 4 fr (mpost σ hm Q) pc i nx tg (fL (msh hm) L) (st.map (fV (msh hm))) (gMset σ hm μ) (fun pc L st σ' => gW G M fr rc rs (mpost σ hm Q) pc L st σ') := by
  cases i with
  | getfield idx =>
    unfold hopM at h
    dsimp only at h
    unfold hop1
    dsimp only
    split at h
    · rename_i ci k q hlk
      obtain ⟨e1, e2, e3⟩ := gF4 _ (glk_mem hlk)
      dsimp only at e1 e2 e3
      subst e1 e3
      rw [hlk]
      dsimp only
      split at h
      · rename_i r st9
        obtain ⟨rfl, h⟩ := h
        try dsimp only [List.map_cons, fV, msh]
        show ∃ a vs v, _
        refine ⟨hm, _, _, rfl, gMset_obj, mobj_at e2, fun hz => ?_⟩
        unfold mfv at hz ⊢
        cases hbl : Nat.blt k 23 with
        | true =>
          rw [hbl] at h
          exact hK _ _ _ _ h
        | false =>
          rw [hbl] at h hz
          exact hK _ _ _ _ (h (hz _ rfl))
      · exact absurd h id
    · exact absurd h id
  | putfield idx =>
    unfold hopM at h
    dsimp only at h
    unfold hop1
    dsimp only
    split at h
    · rename_i ci k q hlk
      obtain ⟨e1, e2, e3⟩ := gF4 _ (glk_mem hlk)
      dsimp only at e1 e2 e3
      subst e1 e3
      rw [hlk]
      dsimp only
      split at h
      · rename_i z r st9
        obtain ⟨rfl, hbl, hz, h⟩ := h
        obtain ⟨f1, f2⟩ := gFin4 ⟨k, e2⟩ hbl
        have hk0 : 23 ≤ k := by
          apply Nat.not_lt.mp
          intro q9
          rw [show Nat.blt k 23 = true from Nat.ble_eq_true_of_le q9] at hbl
          cases hbl
        try dsimp only [List.map_cons, fV, msh]
        refine ⟨hm, _, rfl, gMset_obj, hb, by simp [mobj]; omega, ?_, by omega, Or.inl f1, ?_⟩
        · rw [show g_ty 3 k = _ from f2]
          cases hg : gbool 3 k with
          | true => rw [hg] at hz; exact hz
          | false => rw [hg] at hz; exact hz
        · rw [show fV (msh hm) (Sum.inl z) = Sum.inl z from rfl, gMset_putF hk0 e2]
          exact hK _ _ _ _ h
      · exact absurd h id
    · exact absurd h id
  | iaload =>
    unfold hopM at h
    dsimp only at h
    split at h
    · rename_i z k st9
      cases hc : (mbl k || !(Nat.blt k 23)) with
      | true => rw [hc] at h; exact absurd h id
      | false =>
        rw [hc] at h
        rw [Bool.or_eq_false_iff] at hc
        have hk : k < 23 := by
          have := hc.2
          simp only [Bool.not_eq_false'] at this
          exact Nat.le_of_ble_eq_true this
        refine ⟨_, mlen k, μ k, rfl, ?_, mlen_le k, h.1, fun hz => hK _ _ _ _ (h.2 hz)⟩
        rw [gMset_arr hk]
        unfold mt
        rw [hc.1]; rfl
    · exact absurd h id
  | baload =>
    unfold hopM at h
    dsimp only at h
    split at h
    · rename_i z k st9
      cases hc : mbl k with
      | false => rw [hc] at h; exact absurd h id
      | true =>
        rw [hc] at h
        refine ⟨_, mlen k, μ k, rfl, ?_, mlen_le k, h.1, fun hz => hK _ _ _ _ (h.2 hz)⟩
        rw [gMset_arr (gF4b k hc)]
        unfold mt
        rw [hc]; rfl
    · exact absurd h id
  | iastore =>
    unfold hopM at h
    dsimp only at h
    split at h
    · rename_i x z k st9
      cases hc : (mbl k || !(Nat.blt k 23)) with
      | true => rw [hc] at h; exact absurd h id
      | false =>
        rw [hc] at h
        rw [Bool.or_eq_false_iff] at hc
        have hk : k < 23 := by
          have := hc.2
          simp only [Bool.not_eq_false'] at this
          exact Nat.le_of_ble_eq_true this
        have e0 : mt k = 0 := by unfold mt; rw [hc.1]; rfl
        refine ⟨_, mlen k, μ k, rfl, ?_, ?_, mlen_le k, h.1, h.2.1, ?_⟩
        · rw [gMset_arr hk, e0]
        · exact Nat.le_trans hb (Nat.le_add_right _ _)
        · have e1 := gMset_putA (σ := σ) (hm := hm) (μ := μ) (j := z.toNat) (x := x) hk
          rw [e0] at e1
          rw [e1]
          exact hK _ _ _ _ h.2.2
    · exact absurd h id
  | bastore =>
    unfold hopM at h
    dsimp only at h
    split at h
    · rename_i x z k st9
      cases hc : mbl k with
      | false => rw [hc] at h; exact absurd h id
      | true =>
        rw [hc] at h
        have hk := gF4b k hc
        have e0 : mt k = 1 := by unfold mt; rw [hc]; rfl
        refine ⟨_, mlen k, μ k, rfl, ?_, ?_, mlen_le k, h.1, h.2.1, ?_⟩
        · rw [gMset_arr hk, e0]
        · exact Nat.le_trans hb (Nat.le_add_right _ _)
        · have e1 := gMset_putA (σ := σ) (hm := hm) (μ := μ) (j := z.toNat) (x := x) hk
          rw [e0] at e1
          rw [e1]
          exact hK _ _ _ _ h.2.2
    · exact absurd h id
  | ireturn =>
    unfold hopM at h
    dsimp only at h
    unfold hop1
    dsimp only
    split at h
    · rename_i z
      try dsimp only [List.map_cons, List.map_nil, fV]
      split at h
      · rename_i hr
        rw [hr]
        exact ⟨some z, μ, rfl, rfl, h⟩
      · rename_i hr
        rw [hr]
        exact ⟨h.1, some z, μ, rfl, rfl, h.2⟩
      · exact absurd h id
    · exact absurd h id
  | return_ =>
    unfold hopM at h
    dsimp only at h
    unfold hop1
    dsimp only
    split at h
    · try dsimp only [List.map_nil]
      split at h
      · rename_i hr
        rw [hr]
        exact ⟨none, μ, rfl, rfl, h⟩
      · exact absurd h id
    · exact absurd h id
  | invokestatic idx =>
    unfold hopM at h
    dsimp only at h
    unfold hop1
    dsimp only
    split at h
    · rename_i kd na x c M' ts hlk
      obtain ⟨h0, h⟩ := h
      show (match glk (gMl 4) idx with
        | some (kd, na, _, (_, M') :: _) => Nat.beq kd 0 = true ∧ (match xpop na (st.map (fV (msh hm))) [] with
          | some (as, rest) => gcl G M M' 4 fr (mpost σ hm Q) pc nx (fL (msh hm) L) as rest (gMset σ hm μ) (fun pc L st σ' => gW G M fr rc rs (mpost σ hm Q) pc L st σ')
          | none => False)
        | _ => False)
      rw [hlk]
      refine ⟨h0, ?_⟩
      split at h
      · rename_i as rest hp
        have hp2 : xpop na (st.map (fV (msh hm))) [] = some (as.map (fV (msh hm)), rest.map (fV (msh hm))) := fV_xpop (f := msh hm) hp
        rw [hp2]
        exact gclM_ok hK h
      · exact absurd h id
    · exact absurd h id
  | invokevirtual idx =>
    unfold hopM at h
    dsimp only at h
    unfold hop1
    dsimp only
    split at h
    · rename_i kd na x c M' ts hlk
      obtain ⟨h0, h⟩ := h
      rw [Bool.and_eq_true] at h0
      have e3 := Nat.eq_of_beq_eq_true h0.2
      subst e3
      rw [hlk]
      dsimp only
      refine ⟨by rw [h0.1]; rfl, ?_⟩
      split at h
      · rename_i r as rest hp
        obtain ⟨rfl, h⟩ := h
        have hp2 : xpop na (st.map (fV (msh hm))) [] = some (Sum.inr (Sum.inl (some hm)) :: as.map (fV (msh hm)), rest.map (fV (msh hm))) := fV_xpop (f := msh hm) hp
        rw [hp2]
        refine ⟨hm, 3, rfl, Or.inl ⟨_, gMset_obj⟩, by omega, ?_⟩
        exact gclM_ok hK h
      · exact absurd h id
    · exact absurd h id
  | _ => exact absurd h id
theorem vstepM {G : gG} (hG : gGood G) {σ : gS} {hm : Nat} (hb : gBase G ≤ hm) {M : gM} (hown : M.1.cls = gOwn 4) (htb : xTbOK M.2.1 M.2.2.2.2.2) {fr rc rs : Nat} {Q : mQ} (pc : Nat) (L : gL) (st : List gV) (μ : mS) (K : Nat → gL → List gV → mS → Prop) (hK : ∀ pc L st μ, K pc L st μ → mJ G σ hm M fr rc rs Q pc L st μ)
    (h : vstep none M.2.2.2.2.2 M.2.2.1 (hopM G σ hm M fr Q) pc L st μ K) : mJ G σ hm M fr rc rs Q pc L st μ := by
  refine vstep1 hG (o := 4) (by decide) hown htb pc _ _ _ _ (fun _ _ _ _ h => h) ?_
  unfold vstep at h ⊢
  split at h
  · exact absurd h id
  · rename_i i nx tg hi
    exact xcore_map (f := msh hm) rfl (xcore_mono (fun pc L st h => hK pc L st μ h) (fun h => hopM_ok hb hK h) h)
def vcM (G : gG) (σ : gS) (hm : Nat) (M : gM) (fr : Nat) (Q : mQ) (stop : Nat → Bool) (n pc : Nat) (L : gL) (st : List gV) (μ : mS) (K : Nat → gL → List gV → mS → Prop) : Prop := vcg none M.2.2.2.2.2 M.2.2.1 (hopM G σ hm M fr Q) stop n pc L st μ K
/-- a body without loops -/
theorem okM {G : gG} (hG : gGood G) {σ : gS} {hm : Nat} (hb : gBase G ≤ hm) {M : gM} (hown : M.1.cls = gOwn 4) (htb : xTbOK M.2.1 M.2.2.2.2.2) {fr : Nat} {as : List gV} {μ : mS} {Q : mQ} (h : vcM G σ hm M fr Q (fun _ => false) 1000 0 (gent 0 as) [] μ (fun _ _ _ _ => False)) : bx 0 (gOKm G σ hm M fr as μ Q) := by
  refine bx_in ?_
  unfold gOKm gOKb
  rw [fL_gent]
  exact vcg_snd (J := mJ G σ hm M fr (gMset σ hm μ).2.2.1 (gMset σ hm μ).2.2.2 Q) (vstepM hG hb hown htb) (fun _ _ _ _ h => absurd h id) 1000 0 _ _ _ h
