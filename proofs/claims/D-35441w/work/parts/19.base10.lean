/-! BASE 10: the words of the printed functions -/
set_option maxRecDepth 100000
theorem zGd_e {c : Prop} {hc : Decidable c} {α : Type} {A : Option α} {o : α} (h : (if c then none else A) = some o) : ¬ c ∧ A = some o := by
  by_cases q : c
  · rw [if_pos q] at h; cases h
  · rw [if_neg q] at h; exact ⟨q, h⟩
def zB2 {α β ω : Type} (m : Option (α × β)) (f : α → β → Option ω) : Option ω := m.bind fun p => f p.1 p.2
theorem zB2_e {α β ω : Type} {m : Option (α × β)} {f : α → β → Option ω} {o : ω} (h : zB2 m f = some o) : ∃ a0 a1, m = some (a0, a1) ∧ f a0 a1 = some o := by
  obtain ⟨⟨a0, a1⟩, h1, h2⟩ := zob h
  exact ⟨a0, a1, h1, h2⟩
theorem zB2_s {α β ω : Type} (p : α × β) (f : α → β → Option ω) : zB2 (some p) f = f p.1 p.2 := rfl
def zB3 {α β γ ω : Type} (m : Option (α × β × γ)) (f : α → β → γ → Option ω) : Option ω := m.bind fun p => f p.1 p.2.1 p.2.2
theorem zB3_e {α β γ ω : Type} {m : Option (α × β × γ)} {f : α → β → γ → Option ω} {o : ω} (h : zB3 m f = some o) : ∃ a0 a1 a2, m = some (a0, a1, a2) ∧ f a0 a1 a2 = some o := by
  obtain ⟨⟨a0, a1, a2⟩, h1, h2⟩ := zob h
  exact ⟨a0, a1, a2, h1, h2⟩
theorem zB3_s {α β γ ω : Type} (p : α × β × γ) (f : α → β → γ → Option ω) : zB3 (some p) f = f p.1 p.2.1 p.2.2 := rfl
def zB4 {α β γ δ ω : Type} (m : Option (α × β × γ × δ)) (f : α → β → γ → δ → Option ω) : Option ω := m.bind fun p => f p.1 p.2.1 p.2.2.1 p.2.2.2
theorem zB4_e {α β γ δ ω : Type} {m : Option (α × β × γ × δ)} {f : α → β → γ → δ → Option ω} {o : ω} (h : zB4 m f = some o) : ∃ a0 a1 a2 a3, m = some (a0, a1, a2, a3) ∧ f a0 a1 a2 a3 = some o := by
  obtain ⟨⟨a0, a1, a2, a3⟩, h1, h2⟩ := zob h
  exact ⟨a0, a1, a2, a3, h1, h2⟩
theorem zB4_s {α β γ δ ω : Type} (p : α × β × γ × δ) (f : α → β → γ → δ → Option ω) : zB4 (some p) f = f p.1 p.2.1 p.2.2.1 p.2.2.2 := rfl
def zB5 {α β γ δ ε ω : Type} (m : Option (α × β × γ × δ × ε)) (f : α → β → γ → δ → ε → Option ω) : Option ω := m.bind fun p => f p.1 p.2.1 p.2.2.1 p.2.2.2.1 p.2.2.2.2
theorem zB5_e {α β γ δ ε ω : Type} {m : Option (α × β × γ × δ × ε)} {f : α → β → γ → δ → ε → Option ω} {o : ω} (h : zB5 m f = some o) : ∃ a0 a1 a2 a3 a4, m = some (a0, a1, a2, a3, a4) ∧ f a0 a1 a2 a3 a4 = some o := by
  obtain ⟨⟨a0, a1, a2, a3, a4⟩, h1, h2⟩ := zob h
  exact ⟨a0, a1, a2, a3, a4, h1, h2⟩
theorem zB5_s {α β γ δ ε ω : Type} (p : α × β × γ × δ × ε) (f : α → β → γ → δ → ε → Option ω) : zB5 (some p) f = f p.1 p.2.1 p.2.2.1 p.2.2.2.1 p.2.2.2.2 := rfl
def zB6 {α β γ δ ε ζ ω : Type} (m : Option (α × β × γ × δ × ε × ζ)) (f : α → β → γ → δ → ε → ζ → Option ω) : Option ω := m.bind fun p => f p.1 p.2.1 p.2.2.1 p.2.2.2.1 p.2.2.2.2.1 p.2.2.2.2.2
theorem zB6_e {α β γ δ ε ζ ω : Type} {m : Option (α × β × γ × δ × ε × ζ)} {f : α → β → γ → δ → ε → ζ → Option ω} {o : ω} (h : zB6 m f = some o) : ∃ a0 a1 a2 a3 a4 a5, m = some (a0, a1, a2, a3, a4, a5) ∧ f a0 a1 a2 a3 a4 a5 = some o := by
  obtain ⟨⟨a0, a1, a2, a3, a4, a5⟩, h1, h2⟩ := zob h
  exact ⟨a0, a1, a2, a3, a4, a5, h1, h2⟩
theorem zB6_s {α β γ δ ε ζ ω : Type} (p : α × β × γ × δ × ε × ζ) (f : α → β → γ → δ → ε → ζ → Option ω) : zB6 (some p) f = f p.1 p.2.1 p.2.2.1 p.2.2.2.1 p.2.2.2.2.1 p.2.2.2.2.2 := rfl
def zB7 {α β γ δ ε ζ η ω : Type} (m : Option (α × β × γ × δ × ε × ζ × η)) (f : α → β → γ → δ → ε → ζ → η → Option ω) : Option ω := m.bind fun p => f p.1 p.2.1 p.2.2.1 p.2.2.2.1 p.2.2.2.2.1 p.2.2.2.2.2.1 p.2.2.2.2.2.2
theorem zB7_e {α β γ δ ε ζ η ω : Type} {m : Option (α × β × γ × δ × ε × ζ × η)} {f : α → β → γ → δ → ε → ζ → η → Option ω} {o : ω} (h : zB7 m f = some o) : ∃ a0 a1 a2 a3 a4 a5 a6, m = some (a0, a1, a2, a3, a4, a5, a6) ∧ f a0 a1 a2 a3 a4 a5 a6 = some o := by
  obtain ⟨⟨a0, a1, a2, a3, a4, a5, a6⟩, h1, h2⟩ := zob h
  exact ⟨a0, a1, a2, a3, a4, a5, a6, h1, h2⟩
theorem zB7_s {α β γ δ ε ζ η ω : Type} (p : α × β × γ × δ × ε × ζ × η) (f : α → β → γ → δ → ε → ζ → η → Option ω) : zB7 (some p) f = f p.1 p.2.1 p.2.2.1 p.2.2.2.1 p.2.2.2.2.1 p.2.2.2.2.2.1 p.2.2.2.2.2.2 := rfl
def zB8 {α β γ δ ε ζ η θ ω : Type} (m : Option (α × β × γ × δ × ε × ζ × η × θ)) (f : α → β → γ → δ → ε → ζ → η → θ → Option ω) : Option ω := m.bind fun p => f p.1 p.2.1 p.2.2.1 p.2.2.2.1 p.2.2.2.2.1 p.2.2.2.2.2.1 p.2.2.2.2.2.2.1 p.2.2.2.2.2.2.2
theorem zB8_e {α β γ δ ε ζ η θ ω : Type} {m : Option (α × β × γ × δ × ε × ζ × η × θ)} {f : α → β → γ → δ → ε → ζ → η → θ → Option ω} {o : ω} (h : zB8 m f = some o) : ∃ a0 a1 a2 a3 a4 a5 a6 a7, m = some (a0, a1, a2, a3, a4, a5, a6, a7) ∧ f a0 a1 a2 a3 a4 a5 a6 a7 = some o := by
  obtain ⟨⟨a0, a1, a2, a3, a4, a5, a6, a7⟩, h1, h2⟩ := zob h
  exact ⟨a0, a1, a2, a3, a4, a5, a6, a7, h1, h2⟩
theorem zB8_s {α β γ δ ε ζ η θ ω : Type} (p : α × β × γ × δ × ε × ζ × η × θ) (f : α → β → γ → δ → ε → ζ → η → θ → Option ω) : zB8 (some p) f = f p.1 p.2.1 p.2.2.1 p.2.2.2.1 p.2.2.2.2.1 p.2.2.2.2.2.1 p.2.2.2.2.2.2.1 p.2.2.2.2.2.2.2 := rfl
def zB9 {α β γ δ ε ζ η θ ι ω : Type} (m : Option (α × β × γ × δ × ε × ζ × η × θ × ι)) (f : α → β → γ → δ → ε → ζ → η → θ → ι → Option ω) : Option ω := m.bind fun p => f p.1 p.2.1 p.2.2.1 p.2.2.2.1 p.2.2.2.2.1 p.2.2.2.2.2.1 p.2.2.2.2.2.2.1 p.2.2.2.2.2.2.2.1 p.2.2.2.2.2.2.2.2
theorem zB9_e {α β γ δ ε ζ η θ ι ω : Type} {m : Option (α × β × γ × δ × ε × ζ × η × θ × ι)} {f : α → β → γ → δ → ε → ζ → η → θ → ι → Option ω} {o : ω} (h : zB9 m f = some o) : ∃ a0 a1 a2 a3 a4 a5 a6 a7 a8, m = some (a0, a1, a2, a3, a4, a5, a6, a7, a8) ∧ f a0 a1 a2 a3 a4 a5 a6 a7 a8 = some o := by
  obtain ⟨⟨a0, a1, a2, a3, a4, a5, a6, a7, a8⟩, h1, h2⟩ := zob h
  exact ⟨a0, a1, a2, a3, a4, a5, a6, a7, a8, h1, h2⟩
theorem zB9_s {α β γ δ ε ζ η θ ι ω : Type} (p : α × β × γ × δ × ε × ζ × η × θ × ι) (f : α → β → γ → δ → ε → ζ → η → θ → ι → Option ω) : zB9 (some p) f = f p.1 p.2.1 p.2.2.1 p.2.2.2.1 p.2.2.2.2.1 p.2.2.2.2.2.1 p.2.2.2.2.2.2.1 p.2.2.2.2.2.2.2.1 p.2.2.2.2.2.2.2.2 := rfl
def zB10 {α β γ δ ε ζ η θ ι κ ω : Type} (m : Option (α × β × γ × δ × ε × ζ × η × θ × ι × κ)) (f : α → β → γ → δ → ε → ζ → η → θ → ι → κ → Option ω) : Option ω := m.bind fun p => f p.1 p.2.1 p.2.2.1 p.2.2.2.1 p.2.2.2.2.1 p.2.2.2.2.2.1 p.2.2.2.2.2.2.1 p.2.2.2.2.2.2.2.1 p.2.2.2.2.2.2.2.2.1 p.2.2.2.2.2.2.2.2.2
theorem zB10_e {α β γ δ ε ζ η θ ι κ ω : Type} {m : Option (α × β × γ × δ × ε × ζ × η × θ × ι × κ)} {f : α → β → γ → δ → ε → ζ → η → θ → ι → κ → Option ω} {o : ω} (h : zB10 m f = some o) : ∃ a0 a1 a2 a3 a4 a5 a6 a7 a8 a9, m = some (a0, a1, a2, a3, a4, a5, a6, a7, a8, a9) ∧ f a0 a1 a2 a3 a4 a5 a6 a7 a8 a9 = some o := by
  obtain ⟨⟨a0, a1, a2, a3, a4, a5, a6, a7, a8, a9⟩, h1, h2⟩ := zob h
  exact ⟨a0, a1, a2, a3, a4, a5, a6, a7, a8, a9, h1, h2⟩
theorem zB10_s {α β γ δ ε ζ η θ ι κ ω : Type} (p : α × β × γ × δ × ε × ζ × η × θ × ι × κ) (f : α → β → γ → δ → ε → ζ → η → θ → ι → κ → Option ω) : zB10 (some p) f = f p.1 p.2.1 p.2.2.1 p.2.2.2.1 p.2.2.2.2.1 p.2.2.2.2.2.1 p.2.2.2.2.2.2.1 p.2.2.2.2.2.2.2.1 p.2.2.2.2.2.2.2.2.1 p.2.2.2.2.2.2.2.2.2 := rfl
def zBX {α β : Type} (m : Option ((String ⊕ α) × zWd)) (f : α → zWd → Option ((String ⊕ β) × zWd)) : Option ((String ⊕ β) × zWd) := m.bind fun p => match p with
  | (.inl E, w) => some (.inl E, w)
  | (.inr x, w) => f x w
def zV {α : Type} (b : Bool) (m : Option α) : Option α := if b then m else none
theorem zV_e {α : Type} {b : Bool} {m : Option α} {o : α} (h : zV b m = some o) : b = true ∧ m = some o := by
  unfold zV at h
  cases b
  · cases h
  · exact ⟨rfl, h⟩
def zRz (x : Int32) (w : zWd) : Option (Int32 × zWd) := if x = 0 ∨ x = 1 then some (x, w) else none
theorem zRz_e {x : Int32} {w : zWd} {o : Int32 × zWd} (h : zRz x w = some o) : (x = 0 ∨ x = 1) ∧ some (x, w) = some o := by
  unfold zRz at h
  split at h
  next q => exact ⟨q, h⟩
  next => cases h
def zRzX (x : Int32) (w : zWd) : Option ((String ⊕ Int32) × zWd) := if x = 0 ∨ x = 1 then some (.inr x, w) else none
theorem zRzX_e {x : Int32} {w : zWd} {o : (String ⊕ Int32) × zWd} (h : zRzX x w = some o) : (x = 0 ∨ x = 1) ∧ some ((.inr x : String ⊕ Int32), w) = some o := by
  unfold zRzX at h
  split at h
  next q => exact ⟨q, h⟩
  next => cases h
def zThr {α : Type} (E : String) (w : zWd) : Option ((String ⊕ α) × zWd) := if 1 ≤ w.2.2.1 ∧ 6 ≤ w.2.2.2.1 then some (.inl E, w) else none
theorem zThr_e {α : Type} {E : String} {w : zWd} {o : (String ⊕ α) × zWd} (h : zThr E w = some o) : (1 ≤ w.2.2.1 ∧ 6 ≤ w.2.2.2.1) ∧ some ((.inl E : String ⊕ α), w) = some o := by
  unfold zThr at h
  split at h
  next q => exact ⟨q, h⟩
  next => cases h
abbrev zXI (r : String ⊕ Int32) (w : zWd) : zO := match r with
  | .inl E => .inl (E, w)
  | .inr x => .inr (some (vI x), w)
abbrev zXL (r : String ⊕ Int64) (w : zWd) : zO := match r with
  | .inl E => .inl (E, w)
  | .inr x => .inr (some (vL x), w)
abbrev zXA (r : String ⊕ (Option Nat)) (w : zWd) : zO := match r with
  | .inl E => .inl (E, w)
  | .inr x => .inr (some (vA x), w)
abbrev zXU (r : String ⊕ Unit) (w : zWd) : zO := match r with
  | .inl E => .inl (E, w)
  | .inr _ => .inr (none, w)
/-- some locals are forgotten -/
def zFg (lv : List (Option zLV)) : List Nat → List (Option zLV)
  | [] => lv
  | k :: ks => zFg (lv.set k none) ks
theorem zFg_le : ∀ (ks : List Nat) (lv : List (Option zLV)), zLe (zFg lv ks) lv := by
  intro ks
  induction ks with
  | nil => intro lv k v h; exact h
  | cons a t ih =>
    intro lv k v h
    have h1 := ih (lv.set a none) k v h
    rw [List.getElem?_set] at h1
    split at h1
    next => split at h1 <;> simp at h1
    next => exact h1
theorem j_fg {X : zX} {pc : Nat} {lv : List (Option zLV)} {st : List zLV} {w : zWd} (ks : List Nat) (lv' : List (Option zLV)) (e9 : zFg lv ks = lv') (k : zJ X pc lv' st w) : zJ X pc lv st w := by
  subst e9
  intro H ls locs cells slots hR hl hlo hc hs
  exact k H ls locs cells slots hR (zLe_has (zFg_le ks lv) hl) hlo hc hs
theorem zC1 {a : Nat} {P : Nat → Prop} (h : P a) : ∀ c ∈ [a], P c := by
  intro c hc
  rw [List.mem_singleton.mp hc]; exact h
theorem zC3 {a b d : Nat} {P : Nat → Prop} (h1 : P a) (h2 : P b) (h3 : P d) : ∀ c ∈ [a, b, d], P c := by
  intro c hc
  simp only [List.mem_cons, List.not_mem_nil, or_false] at hc
  rcases hc with rfl | rfl | rfl
  · exact h1
  · exact h2
  · exact h3
theorem kX1 : zCls 0 RX1 TX1 20 tyX1 := ⟨rfl, in_X1, tyX1_ok, nmX1⟩
def df_X1 : List zLV := [vA none, vI 0, vA none, vI 0, vI 0, vI 0, vA none, vA none, vA none, vA none, vA none, vA none, vA none, vA none, vA none, vA none, vA none, vI 0, vA none, vA none]
theorem df_X1_ok : ∀ j, j < 20 → defaultValue (tyX1 j) = vp_V (df_X1.map tv) j := by
  intro j hj
  match j, hj with
  | 0, _ => rfl
  | 1, _ => rfl
  | 2, _ => rfl
  | 3, _ => rfl
  | 4, _ => rfl
  | 5, _ => rfl
  | 6, _ => rfl
  | 7, _ => rfl
  | 8, _ => rfl
  | 9, _ => rfl
  | 10, _ => rfl
  | 11, _ => rfl
  | 12, _ => rfl
  | 13, _ => rfl
  | 14, _ => rfl
  | 15, _ => rfl
  | 16, _ => rfl
  | 17, _ => rfl
  | 18, _ => rfl
  | 19, _ => rfl
  | j + 20, hj => exact absurd hj (by omega)
theorem kX2 : zCls 1 RX2 TX2 2 tyX2 := ⟨rfl, in_X2, tyX2_ok, nmX2⟩
def df_X2 : List zLV := [vA none, vA none]
theorem df_X2_ok : ∀ j, j < 2 → defaultValue (tyX2 j) = vp_V (df_X2.map tv) j := by
  intro j hj
  match j, hj with
  | 0, _ => rfl
  | 1, _ => rfl
  | j + 2, hj => exact absurd hj (by omega)
theorem kX3 : zCls 2 RX3 TX3 2 tyX3 := ⟨rfl, in_X3, tyX3_ok, nmX3⟩
def df_X3 : List zLV := [vI 0, vI 0]
theorem df_X3_ok : ∀ j, j < 2 → defaultValue (tyX3 j) = vp_V (df_X3.map tv) j := by
  intro j hj
  match j, hj with
  | 0, _ => rfl
  | 1, _ => rfl
  | j + 2, hj => exact absurd hj (by omega)
theorem kX4 : zCls 3 RX4 TX4 70 tyX4 := ⟨rfl, in_X4, tyX4_ok, nmX4⟩
def df_X4 : List zLV := [vA none, vA none, vA none, vA none, vA none, vA none, vA none, vA none, vA none, vI 0, vA none, vA none, vA none, vI 0, vA none, vA none, vA none, vI 0, vI 0, vI 0, vI 0, vI 0, vA none, vA none, vA none, vA none, vI 0, vA none, vA none, vA none, vA none, vA none, vA none, vA none, vA none, vA none, vA none, vA none, vA none, vA none, vA none, vA none, vA none, vA none, vI 0, vA none, vI 0, vA none, vA none, vA none, vA none, vI 0, vA none, vA none, vA none, vA none, vA none, vA none, vA none, vA none, vA none, vA none, vA none, vA none, vA none, vA none, vA none, vI 0, vA none, vA none]
theorem df_X4_ok : ∀ j, j < 70 → defaultValue (tyX4 j) = vp_V (df_X4.map tv) j := by
  intro j hj
  match j, hj with
  | 0, _ => rfl
  | 1, _ => rfl
  | 2, _ => rfl
  | 3, _ => rfl
  | 4, _ => rfl
  | 5, _ => rfl
  | 6, _ => rfl
  | 7, _ => rfl
  | 8, _ => rfl
  | 9, _ => rfl
  | 10, _ => rfl
  | 11, _ => rfl
  | 12, _ => rfl
  | 13, _ => rfl
  | 14, _ => rfl
  | 15, _ => rfl
  | 16, _ => rfl
  | 17, _ => rfl
  | 18, _ => rfl
  | 19, _ => rfl
  | 20, _ => rfl
  | 21, _ => rfl
  | 22, _ => rfl
  | 23, _ => rfl
  | 24, _ => rfl
  | 25, _ => rfl
  | 26, _ => rfl
  | 27, _ => rfl
  | 28, _ => rfl
  | 29, _ => rfl
  | 30, _ => rfl
  | 31, _ => rfl
  | 32, _ => rfl
  | 33, _ => rfl
  | 34, _ => rfl
  | 35, _ => rfl
  | 36, _ => rfl
  | 37, _ => rfl
  | 38, _ => rfl
  | 39, _ => rfl
  | 40, _ => rfl
  | 41, _ => rfl
  | 42, _ => rfl
  | 43, _ => rfl
  | 44, _ => rfl
  | 45, _ => rfl
  | 46, _ => rfl
  | 47, _ => rfl
  | 48, _ => rfl
  | 49, _ => rfl
  | 50, _ => rfl
  | 51, _ => rfl
  | 52, _ => rfl
  | 53, _ => rfl
  | 54, _ => rfl
  | 55, _ => rfl
  | 56, _ => rfl
  | 57, _ => rfl
  | 58, _ => rfl
  | 59, _ => rfl
  | 60, _ => rfl
  | 61, _ => rfl
  | 62, _ => rfl
  | 63, _ => rfl
  | 64, _ => rfl
  | 65, _ => rfl
  | 66, _ => rfl
  | 67, _ => rfl
  | 68, _ => rfl
  | 69, _ => rfl
  | j + 70, hj => exact absurd hj (by omega)
theorem kX5 : zCls 4 RX5 TX5 10 tyX5 := ⟨rfl, in_X5, tyX5_ok, nmX5⟩
def df_X5 : List zLV := [vI 0, vI 0, vI 0, vI 0, vI 0, vI 0, vA none, vA none, vA none, vA none]
theorem df_X5_ok : ∀ j, j < 10 → defaultValue (tyX5 j) = vp_V (df_X5.map tv) j := by
  intro j hj
  match j, hj with
  | 0, _ => rfl
  | 1, _ => rfl
  | 2, _ => rfl
  | 3, _ => rfl
  | 4, _ => rfl
  | 5, _ => rfl
  | 6, _ => rfl
  | 7, _ => rfl
  | 8, _ => rfl
  | 9, _ => rfl
  | j + 10, hj => exact absurd hj (by omega)
theorem kX6 : zCls 5 RX6 TX6 2 tyX6 := ⟨rfl, in_X6, tyX6_ok, nmX6⟩
def df_X6 : List zLV := [vL 0, vL 0]
theorem df_X6_ok : ∀ j, j < 2 → defaultValue (tyX6 j) = vp_V (df_X6.map tv) j := by
  intro j hj
  match j, hj with
  | 0, _ => rfl
  | 1, _ => rfl
  | j + 2, hj => exact absurd hj (by omega)
theorem kX7 : zCls 6 RX7 TX7 4 tyX7 := ⟨rfl, in_X7, tyX7_ok, nmX7⟩
def df_X7 : List zLV := [vI 0, vI 0, vI 0, vA none]
theorem df_X7_ok : ∀ j, j < 4 → defaultValue (tyX7 j) = vp_V (df_X7.map tv) j := by
  intro j hj
  match j, hj with
  | 0, _ => rfl
  | 1, _ => rfl
  | 2, _ => rfl
  | 3, _ => rfl
  | j + 4, hj => exact absurd hj (by omega)
theorem kX8 : zCls 7 RX8 TX8 3 tyX8 := ⟨rfl, in_X8, tyX8_ok, nmX8⟩
def df_X8 : List zLV := [vA none, vI 0, vI 0]
theorem df_X8_ok : ∀ j, j < 3 → defaultValue (tyX8 j) = vp_V (df_X8.map tv) j := by
  intro j hj
  match j, hj with
  | 0, _ => rfl
  | 1, _ => rfl
  | 2, _ => rfl
  | j + 3, hj => exact absurd hj (by omega)
theorem kX9 : zCls 8 RX9 TX9 1 tyX9 := ⟨rfl, in_X9, tyX9_ok, nmX9⟩
def df_X9 : List zLV := [vI 0]
theorem df_X9_ok : ∀ j, j < 1 → defaultValue (tyX9 j) = vp_V (df_X9.map tv) j := by
  intro j hj
  match j, hj with
  | 0, _ => rfl
  | j + 1, hj => exact absurd hj (by omega)
theorem kX10 : zCls 9 RX10 TX10 1 tyX10 := ⟨rfl, in_X10, tyX10_ok, nmX10⟩
def df_X10 : List zLV := [vI 0]
theorem df_X10_ok : ∀ j, j < 1 → defaultValue (tyX10 j) = vp_V (df_X10.map tv) j := by
  intro j hj
  match j, hj with
  | 0, _ => rfl
  | j + 1, hj => exact absurd hj (by omega)
theorem kX11 : zCls 10 RX11 TX11 1 tyX11 := ⟨rfl, in_X11, tyX11_ok, nmX11⟩
def df_X11 : List zLV := [vI 0]
theorem df_X11_ok : ∀ j, j < 1 → defaultValue (tyX11 j) = vp_V (df_X11.map tv) j := by
  intro j hj
  match j, hj with
  | 0, _ => rfl
  | j + 1, hj => exact absurd hj (by omega)
theorem kX12 : zCls 11 RX12 TX12 2 tyX12 := ⟨rfl, in_X12, tyX12_ok, nmX12⟩
def df_X12 : List zLV := [vA none, vI 0]
theorem df_X12_ok : ∀ j, j < 2 → defaultValue (tyX12 j) = vp_V (df_X12.map tv) j := by
  intro j hj
  match j, hj with
  | 0, _ => rfl
  | 1, _ => rfl
  | j + 2, hj => exact absurd hj (by omega)
theorem kX13 : zCls 12 RX13 TX13 2 tyX13 := ⟨rfl, in_X13, tyX13_ok, nmX13⟩
def df_X13 : List zLV := [vI 0, vI 0]
theorem df_X13_ok : ∀ j, j < 2 → defaultValue (tyX13 j) = vp_V (df_X13.map tv) j := by
  intro j hj
  match j, hj with
  | 0, _ => rfl
  | 1, _ => rfl
  | j + 2, hj => exact absurd hj (by omega)
theorem kX14 : zCls 13 RX14 TX14 18 tyX14 := ⟨rfl, in_X14, tyX14_ok, nmX14⟩
def df_X14 : List zLV := [vI 0, vA none, vA none, vA none, vA none, vA none, vA none, vA none, vA none, vA none, vA none, vA none, vA none, vA none, vA none, vA none, vA none, vA none]
theorem df_X14_ok : ∀ j, j < 18 → defaultValue (tyX14 j) = vp_V (df_X14.map tv) j := by
  intro j hj
  match j, hj with
  | 0, _ => rfl
  | 1, _ => rfl
  | 2, _ => rfl
  | 3, _ => rfl
  | 4, _ => rfl
  | 5, _ => rfl
  | 6, _ => rfl
  | 7, _ => rfl
  | 8, _ => rfl
  | 9, _ => rfl
  | 10, _ => rfl
  | 11, _ => rfl
  | 12, _ => rfl
  | 13, _ => rfl
  | 14, _ => rfl
  | 15, _ => rfl
  | 16, _ => rfl
  | 17, _ => rfl
  | j + 18, hj => exact absurd hj (by omega)
theorem kX15 : zCls 14 RX15 TX15 7 tyX15 := ⟨rfl, in_X15, tyX15_ok, nmX15⟩
def df_X15 : List zLV := [vI 0, vI 0, vI 0, vI 0, vI 0, vI 0, vI 0]
theorem df_X15_ok : ∀ j, j < 7 → defaultValue (tyX15 j) = vp_V (df_X15.map tv) j := by
  intro j hj
  match j, hj with
  | 0, _ => rfl
  | 1, _ => rfl
  | 2, _ => rfl
  | 3, _ => rfl
  | 4, _ => rfl
  | 5, _ => rfl
  | 6, _ => rfl
  | j + 7, hj => exact absurd hj (by omega)
theorem kX16 : zCls 15 RX16 zT16 0 (fun _ => .int) := ⟨rfl, (fun w h => absurd h (by simp [u_ws])), fun k hk => absurd hk (Nat.not_lt_zero _), fun a ha => absurd ha (Nat.not_lt_zero _)⟩
def df_X16 : List zLV := []
theorem df_X16_ok : ∀ j, j < 0 → defaultValue ((fun _ : Nat => FieldType.int) j) = vp_V (df_X16.map tv) j := fun j hj => absurd hj (Nat.not_lt_zero _)
theorem kX17 : zCls 16 RX17 TX17 3 tyX17 := ⟨rfl, in_X17, tyX17_ok, nmX17⟩
def df_X17 : List zLV := [vI 0, vI 0, vI 0]
theorem df_X17_ok : ∀ j, j < 3 → defaultValue (tyX17 j) = vp_V (df_X17.map tv) j := by
  intro j hj
  match j, hj with
  | 0, _ => rfl
  | 1, _ => rfl
  | 2, _ => rfl
  | j + 3, hj => exact absurd hj (by omega)
theorem kX18 : zCls 17 RX18 TX18 4 tyX18 := ⟨rfl, in_X18, tyX18_ok, nmX18⟩
def df_X18 : List zLV := [vI 0, vI 0, vL 0, vI 0]
theorem df_X18_ok : ∀ j, j < 4 → defaultValue (tyX18 j) = vp_V (df_X18.map tv) j := by
  intro j hj
  match j, hj with
  | 0, _ => rfl
  | 1, _ => rfl
  | 2, _ => rfl
  | 3, _ => rfl
  | j + 4, hj => exact absurd hj (by omega)
theorem kJ2 : zCls 18 RJ2 TJ2 3 tyJ2 := ⟨rfl, in_J2, tyJ2_ok, nmJ2⟩
def df_J2 : List zLV := [vI 0, vA none, vI 0]
theorem df_J2_ok : ∀ j, j < 3 → defaultValue (tyJ2 j) = vp_V (df_J2.map tv) j := by
  intro j hj
  match j, hj with
  | 0, _ => rfl
  | 1, _ => rfl
  | 2, _ => rfl
  | j + 3, hj => exact absurd hj (by omega)
theorem kJ5 : zCls 19 RJ5 TJ5 9 tyJ5 := ⟨rfl, in_J5, tyJ5_ok, nmJ5⟩
def df_J5 : List zLV := [vA none, vA none, vA none, vA none, vI 0, vI 0, vA none, vA none, vA none]
theorem df_J5_ok : ∀ j, j < 9 → defaultValue (tyJ5 j) = vp_V (df_J5.map tv) j := by
  intro j hj
  match j, hj with
  | 0, _ => rfl
  | 1, _ => rfl
  | 2, _ => rfl
  | 3, _ => rfl
  | 4, _ => rfl
  | 5, _ => rfl
  | 6, _ => rfl
  | 7, _ => rfl
  | 8, _ => rfl
  | j + 9, hj => exact absurd hj (by omega)
theorem kJ10 : zCls 20 RJ10 TJ10 1 tyJ10 := ⟨rfl, in_J10, tyJ10_ok, nmJ10⟩
def df_J10 : List zLV := [vI 0]
theorem df_J10_ok : ∀ j, j < 1 → defaultValue (tyJ10 j) = vp_V (df_J10.map tv) j := by
  intro j hj
  match j, hj with
  | 0, _ => rfl
  | j + 1, hj => exact absurd hj (by omega)
theorem kJ24 : zCls 21 RJ24 TJ24 6 tyJ24 := ⟨rfl, in_J24, tyJ24_ok, nmJ24⟩
def df_J24 : List zLV := [vA none, vA none, vA none, vA none, vA none, vI 0]
theorem df_J24_ok : ∀ j, j < 6 → defaultValue (tyJ24 j) = vp_V (df_J24.map tv) j := by
  intro j hj
  match j, hj with
  | 0, _ => rfl
  | 1, _ => rfl
  | 2, _ => rfl
  | 3, _ => rfl
  | 4, _ => rfl
  | 5, _ => rfl
  | j + 6, hj => exact absurd hj (by omega)
theorem kJ26 : zCls 22 RJ26 TJ26 4 tyJ26 := ⟨rfl, in_J26, tyJ26_ok, nmJ26⟩
def df_J26 : List zLV := [vI 0, vI 0, vI 0, vA none]
theorem df_J26_ok : ∀ j, j < 4 → defaultValue (tyJ26 j) = vp_V (df_J26.map tv) j := by
  intro j hj
  match j, hj with
  | 0, _ => rfl
  | 1, _ => rfl
  | 2, _ => rfl
  | 3, _ => rfl
  | j + 4, hj => exact absurd hj (by omega)
theorem kJ28 : zCls 23 RJ28 TJ28 4 tyJ28 := ⟨rfl, in_J28, tyJ28_ok, nmJ28⟩
def df_J28 : List zLV := [vA none, vI 0, vA none, vI 0]
theorem df_J28_ok : ∀ j, j < 4 → defaultValue (tyJ28 j) = vp_V (df_J28.map tv) j := by
  intro j hj
  match j, hj with
  | 0, _ => rfl
  | 1, _ => rfl
  | 2, _ => rfl
  | 3, _ => rfl
  | j + 4, hj => exact absurd hj (by omega)
theorem kJ16 : zCls 24 RJ16 TJ16 4 tyJ16 := ⟨rfl, in_J16, tyJ16_ok, nmJ16⟩
def df_J16 : List zLV := [vA none, vI 0, vI 0, vI 0]
theorem df_J16_ok : ∀ j, j < 4 → defaultValue (tyJ16 j) = vp_V (df_J16.map tv) j := by
  intro j hj
  match j, hj with
  | 0, _ => rfl
  | 1, _ => rfl
  | 2, _ => rfl
  | 3, _ => rfl
  | j + 4, hj => exact absurd hj (by omega)
theorem zth_238_1 : ∀ w ∈ vx_atS "Taxmaze" 238 "java/lang/IndexOutOfBoundsException" ["java/lang/RuntimeException", "java/lang/Exception"], w ∈ lw_tbl := by decide +kernel
theorem zth_238_2 : (vx_atS "Taxmaze" 238 "java/lang/IndexOutOfBoundsException" ["java/lang/RuntimeException", "java/lang/Exception"]).all (fun w => goodWord w || zMv w) = true := by decide +kernel
theorem zth_238_3 : ∀ w ∈ Cond.classLink "Taxmaze" 234 "java/lang/IndexOutOfBoundsException" :: Cond.initialized "java/lang/IndexOutOfBoundsException" :: vx_atS "Taxmaze" 238 "java/lang/IndexOutOfBoundsException" ["java/lang/RuntimeException", "java/lang/Exception"], vx_ot w = true := by decide +kernel
theorem zth_245_1 : ∀ w ∈ vx_atS "Taxmaze" 245 "java/lang/IllegalArgumentException" ["java/lang/RuntimeException", "java/lang/Exception"], w ∈ lw_tbl := by decide +kernel
theorem zth_245_2 : (vx_atS "Taxmaze" 245 "java/lang/IllegalArgumentException" ["java/lang/RuntimeException", "java/lang/Exception"]).all (fun w => goodWord w || zMv w) = true := by decide +kernel
theorem zth_245_3 : ∀ w ∈ Cond.classLink "Taxmaze" 241 "java/lang/IllegalArgumentException" :: Cond.initialized "java/lang/IllegalArgumentException" :: vx_atS "Taxmaze" 245 "java/lang/IllegalArgumentException" ["java/lang/RuntimeException", "java/lang/Exception"], vx_ot w = true := by decide +kernel
theorem zth_250_1 : ∀ w ∈ vx_atS "Taxmaze" 250 "java/lang/IllegalStateException" ["java/lang/RuntimeException", "java/lang/Exception"], w ∈ lw_tbl := by decide +kernel
theorem zth_250_2 : (vx_atS "Taxmaze" 250 "java/lang/IllegalStateException" ["java/lang/RuntimeException", "java/lang/Exception"]).all (fun w => goodWord w || zMv w) = true := by decide +kernel
theorem zth_250_3 : ∀ w ∈ Cond.classLink "Taxmaze" 246 "java/lang/IllegalStateException" :: Cond.initialized "java/lang/IllegalStateException" :: vx_atS "Taxmaze" 250 "java/lang/IllegalStateException" ["java/lang/RuntimeException", "java/lang/Exception"], vx_ot w = true := by decide +kernel
