/-! xcore under a map of references -/
section XM
variable {ρ ρ' : Type}
def fV (f : ρ → ρ') (v : xV ρ) : xV ρ' := match v with
  | .inl z => .inl z
  | .inr (.inl r) => .inr (.inl (f r))
  | .inr (.inr x) => .inr (.inr x)
def fL (f : ρ → ρ') (L : xL ρ) : xL ρ' := match L with
  | [] => []
  | q :: r => (q.1, fV f q.2) :: fL f r
theorem fV_long (f : ρ → ρ') (v : xV ρ) : xlong (fV f v) = xlong v := by
  rcases v with z | r | x <;> rfl
theorem fL_get (f : ρ → ρ') (L : xL ρ) (k : Nat) : xget (fL f L) k = (xget L k).map (fV f) := by
  induction L with
  | nil => rfl
  | cons q r ih =>
    show (bif Nat.beq q.1 k then some (fV f q.2) else xget (fL f r) k) = (bif Nat.beq q.1 k then some q.2 else xget r k).map (fV f)
    cases Nat.beq q.1 k
    · exact ih
    · rfl
theorem fL_del (f : ρ → ρ') (L : xL ρ) (k : Nat) : fL f (xdel L k) = xdel (fL f L) k := by
  induction L with
  | nil => rfl
  | cons q r ih =>
    show fL f (bif (Nat.beq q.1 k || (Nat.beq (q.1 + 1) k && xlong q.2)) then xdel r k else q :: xdel r k) = (bif (Nat.beq q.1 k || (Nat.beq (q.1 + 1) k && xlong (fV f q.2))) then xdel (fL f r) k else (q.1, fV f q.2) :: xdel (fL f r) k)
    rw [fV_long]
    cases (Nat.beq q.1 k || (Nat.beq (q.1 + 1) k && xlong q.2))
    · show (q.1, fV f q.2) :: fL f (xdel r k) = _
      rw [ih]; rfl
    · exact ih
theorem fL_ins (f : ρ → ρ') (L : xL ρ) (k : Nat) (v : xV ρ) : fL f (xins L k v) = xins (fL f L) k (fV f v) := by
  induction L with
  | nil => rfl
  | cons q r ih =>
    show fL f (bif Nat.ble q.1 k then q :: xins r k v else (k, v) :: q :: r) = (bif Nat.ble q.1 k then (q.1, fV f q.2) :: xins (fL f r) k (fV f v) else (k, fV f v) :: (q.1, fV f q.2) :: fL f r)
    cases Nat.ble q.1 k
    · rfl
    · show (q.1, fV f q.2) :: fL f (xins r k v) = _
      rw [ih]; rfl
theorem fL_set (f : ρ → ρ') (L : xL ρ) (k : Nat) (v : xV ρ) : fL f (xset L k v) = xset (fL f L) k (fV f v) := by
  show fL f (xins (xdel L k) k v) = xins (xdel (fL f L) k) k (fV f v)
  rw [fL_ins, fL_del]
theorem fL_setK {f : ρ → ρ'} {K' : Nat → xL ρ' → List (xV ρ') → Prop} {nx k : Nat} {L : xL ρ} {v : xV ρ} {s : List (xV ρ')} (h : K' nx (fL f (xset L k v)) s) : K' nx (xset (fL f L) k (fV f v)) s := by
  rw [← fL_set]; exact h
theorem xcore_map {f : ρ → ρ'} {nul : ρ} {nul' : ρ'} (hn : f nul = nul') {pc : Nat} {i : Instr} {nx tg : Nat} {L : xL ρ} {st : List (xV ρ)} {nL : Nat} {K' : Nat → xL ρ' → List (xV ρ') → Prop} {P' : Prop}
    (hx : xcore nul pc i nx tg L st nL (fun pc L st => K' pc (fL f L) (st.map (fV f))) P') : xcore nul' pc i nx tg (fL f L) (st.map (fV f)) nL K' P' := by
  subst hn
  cases i with
  | iconst n => exact hx
  | bipush n => exact hx
  | sipush n => exact hx
  | aconst_null => exact hx
  | goto o => exact hx
  | iload k =>
    simp only [xcore, fL_get] at hx ⊢
    cases hg : xget L k with
    | none => rw [hg] at hx; exact absurd hx id
    | some v =>
      rw [hg] at hx
      rcases v with z | r | x <;> first | exact hx | exact absurd hx id
  | iload_n k =>
    simp only [xcore, fL_get] at hx ⊢
    cases hg : xget L k.val with
    | none => rw [hg] at hx; exact absurd hx id
    | some v =>
      rw [hg] at hx
      rcases v with z | r | x <;> first | exact hx | exact absurd hx id
  | aload k =>
    simp only [xcore, fL_get] at hx ⊢
    cases hg : xget L k with
    | none => rw [hg] at hx; exact absurd hx id
    | some v =>
      rw [hg] at hx
      rcases v with z | r | x <;> first | exact hx | exact absurd hx id
  | aload_n k =>
    simp only [xcore, fL_get] at hx ⊢
    cases hg : xget L k.val with
    | none => rw [hg] at hx; exact absurd hx id
    | some v =>
      rw [hg] at hx
      rcases v with z | r | x <;> first | exact hx | exact absurd hx id
  | istore k =>
    rcases st with _ | ⟨z | r | x, st⟩ <;> first | exact absurd hx id | exact ⟨hx.1, fL_setK hx.2⟩
  | istore_n k =>
    rcases st with _ | ⟨z | r | x, st⟩ <;> first | exact absurd hx id | exact ⟨hx.1, fL_setK hx.2⟩
  | astore k =>
    rcases st with _ | ⟨z | r | x, st⟩ <;> first | exact absurd hx id | exact ⟨hx.1, fL_setK hx.2⟩
  | astore_n k =>
    rcases st with _ | ⟨z | r | x, st⟩ <;> first | exact absurd hx id | exact ⟨hx.1, fL_setK hx.2⟩
  | iinc k n =>
    simp only [xcore, fL_get] at hx ⊢
    cases hg : xget L k with
    | none => rw [hg] at hx; exact absurd hx id
    | some v =>
      rw [hg] at hx
      rcases v with z | r | x <;> first | exact absurd hx id | exact ⟨hx.1, fL_setK hx.2⟩
  | iadd => rcases st with _ | ⟨z | r | x, _ | ⟨z' | r' | x', st⟩⟩ <;> first | exact hx | exact absurd hx id
  | isub => rcases st with _ | ⟨z | r | x, _ | ⟨z' | r' | x', st⟩⟩ <;> first | exact hx | exact absurd hx id
  | imul => rcases st with _ | ⟨z | r | x, _ | ⟨z' | r' | x', st⟩⟩ <;> first | exact hx | exact absurd hx id
  | idiv => rcases st with _ | ⟨z | r | x, _ | ⟨z' | r' | x', st⟩⟩ <;> first | exact hx | exact absurd hx id
  | irem => rcases st with _ | ⟨z | r | x, _ | ⟨z' | r' | x', st⟩⟩ <;> first | exact hx | exact absurd hx id
  | iand => rcases st with _ | ⟨z | r | x, _ | ⟨z' | r' | x', st⟩⟩ <;> first | exact hx | exact absurd hx id
  | ior => rcases st with _ | ⟨z | r | x, _ | ⟨z' | r' | x', st⟩⟩ <;> first | exact hx | exact absurd hx id
  | ishl => rcases st with _ | ⟨z | r | x, _ | ⟨z' | r' | x', st⟩⟩ <;> first | exact hx | exact absurd hx id
  | ishr => rcases st with _ | ⟨z | r | x, _ | ⟨z' | r' | x', st⟩⟩ <;> first | exact hx | exact absurd hx id
  | iushr => rcases st with _ | ⟨z | r | x, _ | ⟨z' | r' | x', st⟩⟩ <;> first | exact hx | exact absurd hx id
  | lcmp => rcases st with _ | ⟨z | r | x, _ | ⟨z' | r' | x', st⟩⟩ <;> first | exact hx | exact absurd hx id
  | i2l => rcases st with _ | ⟨z | r | x, st⟩ <;> first | exact hx | exact absurd hx id
  | dup => rcases st with _ | ⟨z | r | x, st⟩ <;> first | exact hx | exact absurd hx id
  | pop => rcases st with _ | ⟨z | r | x, st⟩ <;> first | exact hx | exact absurd hx id
  | dup_x1 =>
    rcases st with _ | ⟨a, _ | ⟨b, st⟩⟩
    · exact absurd hx id
    · exact absurd hx id
    · exact ⟨⟨(fV_long f a).trans hx.1.1, (fV_long f b).trans hx.1.2⟩, hx.2⟩
  | dup_x2 =>
    rcases st with _ | ⟨a, _ | ⟨b, _ | ⟨c, st⟩⟩⟩
    · exact absurd hx id
    · exact absurd hx id
    · exact absurd hx id
    · exact ⟨⟨(fV_long f a).trans hx.1.1, (fV_long f b).trans hx.1.2.1, (fV_long f c).trans hx.1.2.2⟩, hx.2⟩
  | dup2 =>
    rcases st with _ | ⟨a, _ | ⟨b, st⟩⟩
    · exact absurd hx id
    · exact absurd hx id
    · exact ⟨⟨(fV_long f a).trans hx.1.1, (fV_long f b).trans hx.1.2⟩, hx.2⟩
  | ifCond c o => rcases st with _ | ⟨z | r | x, st⟩ <;> first | exact hx | exact absurd hx id
  | if_icmp c o => rcases st with _ | ⟨z | r | x, _ | ⟨z' | r' | x', st⟩⟩ <;> first | exact hx | exact absurd hx id
  | tableswitch d lo hi offs => rcases st with _ | ⟨z | r | x, st⟩ <;> first | exact hx | exact absurd hx id
  | _ => exact hx
end XM
