/-! the VC generator over any judgement: runs until it stops or needs an answer -/
theorem xsw_mono {pc : Nat} {z d : Int} {K K' : Nat → Prop} (h : ∀ t, K t → K' t) : ∀ {offs : List Int} {lo : Int}, xsw pc z lo offs d K → xsw pc z lo offs d K' := by
  intro offs
  induction offs with
  | nil => intro lo hx; exact h _ hx
  | cons o r ih => intro lo hx; exact ⟨fun hz => h _ (hx.1 hz), fun hz => ih (hx.2 hz)⟩
theorem xcore_mono {ρ : Type} {nul : ρ} {pc : Nat} {i : Instr} {nx tg : Nat} {L : xL ρ} {st : List (xV ρ)} {nL : Nat} {K K' : Nat → xL ρ → List (xV ρ) → Prop} {P P' : Prop} (h : ∀ pc L st, K pc L st → K' pc L st) (hp : P → P') (hx : xcore nul pc i nx tg L st nL K P) : xcore nul pc i nx tg L st nL K' P' := by
  cases i with
  | iconst n => exact h _ _ _ hx
  | bipush n => exact h _ _ _ hx
  | sipush n => exact h _ _ _ hx
  | aconst_null => exact h _ _ _ hx
  | goto o => exact h _ _ _ hx
  | iload k => simp only [xcore] at hx ⊢; split at hx <;> first | exact h _ _ _ hx | exact absurd hx id
  | iload_n k => simp only [xcore] at hx ⊢; split at hx <;> first | exact h _ _ _ hx | exact absurd hx id
  | aload k => simp only [xcore] at hx ⊢; split at hx <;> first | exact h _ _ _ hx | exact absurd hx id
  | aload_n k => simp only [xcore] at hx ⊢; split at hx <;> first | exact h _ _ _ hx | exact absurd hx id
  | istore k => simp only [xcore] at hx ⊢; split at hx <;> first | exact ⟨hx.1, h _ _ _ hx.2⟩ | exact absurd hx id
  | istore_n k => simp only [xcore] at hx ⊢; split at hx <;> first | exact ⟨hx.1, h _ _ _ hx.2⟩ | exact absurd hx id
  | astore k => simp only [xcore] at hx ⊢; split at hx <;> first | exact ⟨hx.1, h _ _ _ hx.2⟩ | exact absurd hx id
  | astore_n k => simp only [xcore] at hx ⊢; split at hx <;> first | exact ⟨hx.1, h _ _ _ hx.2⟩ | exact absurd hx id
  | iinc k n => simp only [xcore] at hx ⊢; split at hx <;> first | exact ⟨hx.1, h _ _ _ hx.2⟩ | exact absurd hx id
  | iadd => simp only [xcore] at hx ⊢; split at hx <;> first | exact h _ _ _ hx | exact absurd hx id
  | isub => simp only [xcore] at hx ⊢; split at hx <;> first | exact h _ _ _ hx | exact absurd hx id
  | imul => simp only [xcore] at hx ⊢; split at hx <;> first | exact h _ _ _ hx | exact absurd hx id
  | idiv => simp only [xcore] at hx ⊢; split at hx <;> first | exact ⟨hx.1, h _ _ _ hx.2⟩ | exact absurd hx id
  | irem => simp only [xcore] at hx ⊢; split at hx <;> first | exact ⟨hx.1, h _ _ _ hx.2⟩ | exact absurd hx id
  | iand => simp only [xcore] at hx ⊢; split at hx <;> first | exact h _ _ _ hx | exact absurd hx id
  | ior => simp only [xcore] at hx ⊢; split at hx <;> first | exact h _ _ _ hx | exact absurd hx id
  | ishl => simp only [xcore] at hx ⊢; split at hx <;> first | exact h _ _ _ hx | exact absurd hx id
  | ishr => simp only [xcore] at hx ⊢; split at hx <;> first | exact h _ _ _ hx | exact absurd hx id
  | iushr => simp only [xcore] at hx ⊢; split at hx <;> first | exact h _ _ _ hx | exact absurd hx id
  | i2l => simp only [xcore] at hx ⊢; split at hx <;> first | exact h _ _ _ hx | exact absurd hx id
  | lcmp => simp only [xcore] at hx ⊢; split at hx <;> first | exact h _ _ _ hx | exact absurd hx id
  | dup => simp only [xcore] at hx ⊢; split at hx <;> first | exact h _ _ _ hx | exact absurd hx id
  | pop => simp only [xcore] at hx ⊢; split at hx <;> first | exact h _ _ _ hx | exact absurd hx id
  | dup_x1 => simp only [xcore] at hx ⊢; split at hx <;> first | exact ⟨hx.1, h _ _ _ hx.2⟩ | exact absurd hx id
  | dup_x2 => simp only [xcore] at hx ⊢; split at hx <;> first | exact ⟨hx.1, h _ _ _ hx.2⟩ | exact absurd hx id
  | dup2 => simp only [xcore] at hx ⊢; split at hx <;> first | exact ⟨hx.1, h _ _ _ hx.2⟩ | exact absurd hx id
  | ifCond c o =>
    simp only [xcore] at hx ⊢
    split at hx
    · refine ⟨hx.1, ?_⟩
      have hx := hx.2
      cases c <;> exact ⟨fun q => h _ _ _ (hx.1 q), fun q => h _ _ _ (hx.2 q)⟩
    · exact absurd hx id
  | if_icmp c o =>
    simp only [xcore] at hx ⊢
    split at hx
    · refine ⟨hx.1, ?_⟩
      have hx := hx.2
      cases c <;> exact ⟨fun q => h _ _ _ (hx.1 q), fun q => h _ _ _ (hx.2 q)⟩
    · exact absurd hx id
  | tableswitch d lo hi offs =>
    simp only [xcore] at hx ⊢
    split at hx
    · exact ⟨hx.1, xsw_mono (fun t => h _ _ _) hx.2⟩
    · exact absurd hx id
  | _ => exact hp hx
section VCG
variable {ρ τ : Type}
/-- a state-changing instruction's VC -/
abbrev xHop (ρ τ : Type) : Type := Nat → Instr → Nat → Nat → xL ρ → List (xV ρ) → τ → (Nat → xL ρ → List (xV ρ) → τ → Prop) → Prop
def vstep (nul : ρ) (tb : xTb) (nL : Nat) (hop : xHop ρ τ) (pc : Nat) (L : xL ρ) (st : List (xV ρ)) (σ : τ) (K : Nat → xL ρ → List (xV ρ) → τ → Prop) : Prop := match tb pc with
  | none => False
  | some (i, nx, tg) => xcore nul pc i nx tg L st nL (fun pc' L' st' => K pc' L' st' σ) (hop pc i nx tg L st σ K)
def vcg (nul : ρ) (tb : xTb) (nL : Nat) (hop : xHop ρ τ) (stop : Nat → Bool) (n : Nat) (pc : Nat) (L : xL ρ) (st : List (xV ρ)) (σ : τ) (K : Nat → xL ρ → List (xV ρ) → τ → Prop) : Prop := match n with
  | 0 => K pc L st σ
  | n + 1 => bif stop pc then K pc L st σ else vstep nul tb nL hop pc L st σ (fun pc' L' st' σ' => vcg nul tb nL hop stop n pc' L' st' σ' K)
/-- hop is monotone in what follows -/
def xMono (hop : xHop ρ τ) : Prop := ∀ pc i nx tg L st σ K K', (∀ pc L st σ, K pc L st σ → K' pc L st σ) → hop pc i nx tg L st σ K → hop pc i nx tg L st σ K'
theorem vstep_mono {nul : ρ} {tb : xTb} {nL : Nat} {hop : xHop ρ τ} (hm : xMono hop) {pc : Nat} {L : xL ρ} {st : List (xV ρ)} {σ : τ} {K K' : Nat → xL ρ → List (xV ρ) → τ → Prop} (h : ∀ pc L st σ, K pc L st σ → K' pc L st σ) (hx : vstep nul tb nL hop pc L st σ K) : vstep nul tb nL hop pc L st σ K' := by
  unfold vstep at hx ⊢
  split at hx
  · exact absurd hx id
  · exact xcore_mono (fun pc L st => h pc L st σ) (hm _ _ _ _ _ _ _ _ _ h) hx
theorem vcg_sound {nul : ρ} {tb : xTb} {nL : Nat} {hop : xHop ρ τ} (hm : xMono hop) {J : Nat → xL ρ → List (xV ρ) → τ → Prop} (hJ : ∀ pc L st σ, vstep nul tb nL hop pc L st σ J → J pc L st σ) {stop : Nat → Bool} : ∀ (n : Nat) (pc : Nat) (L : xL ρ) (st : List (xV ρ)) (σ : τ), vcg nul tb nL hop stop n pc L st σ J → J pc L st σ := by
  intro n
  induction n with
  | zero => intro pc L st σ h; exact h
  | succ n ih =>
    intro pc L st σ h
    unfold vcg at h
    cases hs : stop pc with
    | true => rw [hs] at h; exact h
    | false =>
      rw [hs] at h
      exact hJ pc L st σ (vstep_mono hm (fun pc L st σ => ih pc L st σ) h)
/-- one step, then on: for a place at which the run stops -/
theorem vcg_go {nul : ρ} {tb : xTb} {nL : Nat} {hop : xHop ρ τ} (hm : xMono hop) {J : Nat → xL ρ → List (xV ρ) → τ → Prop} (hJ : ∀ pc L st σ, vstep nul tb nL hop pc L st σ J → J pc L st σ) (stop : Nat → Bool) (n : Nat) {pc : Nat} {L : xL ρ} {st : List (xV ρ)} {σ : τ} (h : vstep nul tb nL hop pc L st σ (fun pc' L' st' σ' => vcg nul tb nL hop stop n pc' L' st' σ' J)) : J pc L st σ :=
  hJ pc L st σ (vstep_mono hm (fun pc L st σ => vcg_sound hm hJ n pc L st σ) h)
end VCG
