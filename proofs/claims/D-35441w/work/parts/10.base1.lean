/-! BASE 1: worlds as functions; the judgement zJ; rows on locals, stack, numbers, branches -/
set_option maxRecDepth 100000
abbrev zLV : Type := Int32 ⊕ (Int64 ⊕ Option Nat)
abbrev zAC : Type := (Nat → Int32) ⊕ ((Nat → Int64) ⊕ (Nat → Option Nat))
abbrev zLC : Type := (Nat × Nat × zAC) ⊕ (Nat × List zLV)
/-- the cells (writable?, what), the next address, cells left, slots left, what the statics hold -/
abbrev zWd : Type := (Nat → Option (Bool × zLC)) × Nat × Nat × Nat × (Nat → zLV)
abbrev vI (x : Int32) : zLV := .inl x
abbrev vL (x : Int64) : zLV := .inr (.inl x)
abbrev vA (r : Option Nat) : zLV := .inr (.inr r)
def tv : zLV → Value
  | .inl x => .int x
  | .inr (.inl x) => .long x
  | .inr (.inr r) => va_rf r
theorem tv_cat (v : zLV) : (tv v).category = match v with | .inr (.inl _) => 2 | _ => 1 := by
  rcases v with x | x | r
  · rfl
  · rfl
  · cases r <;> rfl
/-- the listed locals as pairs -/
def zPr : Nat → List (Option zLV) → List (Nat × Value)
  | _, [] => []
  | i, none :: t => zPr (i + 1) t
  | i, some v :: t => (i, tv v) :: zPr (i + 1) t
theorem zPr_mem : ∀ (lv : List (Option zLV)) (b i : Nat) (u : Value), (i, u) ∈ zPr b lv ↔ ∃ k v, lv[k]? = some (some v) ∧ i = b + k ∧ u = tv v := by
  intro lv
  induction lv with
  | nil => intro b i u; simp [zPr]
  | cons a t ih =>
    intro b i u
    cases a with
    | none =>
      simp only [zPr, ih]
      constructor
      · rintro ⟨k, v, h1, h2, h3⟩
        exact ⟨k + 1, v, by simpa using h1, by omega, h3⟩
      · rintro ⟨k, v, h1, h2, h3⟩
        cases k with
        | zero => simp at h1
        | succ k => exact ⟨k, v, by simpa using h1, by omega, h3⟩
    | some w =>
      simp only [zPr, List.mem_cons, ih]
      constructor
      · rintro (h | ⟨k, v, h1, h2, h3⟩)
        · cases h
          exact ⟨0, w, rfl, rfl, rfl⟩
        · exact ⟨k + 1, v, by simpa using h1, by omega, h3⟩
      · rintro ⟨k, v, h1, h2, h3⟩
        cases k with
        | zero =>
          simp at h1
          subst h1
          exact Or.inl (by rw [h2, h3]; rfl)
        | succ k => exact Or.inr ⟨k, v, by simpa using h1, by omega, h3⟩
/-- the locals behind a store of one word, of two words -/
def zWide : Option (Option zLV) → Bool
  | some (some (.inr (.inl _))) => true
  | _ => false
def zClr (lv : List (Option zLV)) (i : Nat) : List (Option zLV) := match i with
  | 0 => lv
  | j + 1 => if zWide lv[j]? then lv.set j none else lv
def zS1 (lv : List (Option zLV)) (i : Nat) (v : zLV) : List (Option zLV) := (zClr lv i).set i (some v)
def zS2 (lv : List (Option zLV)) (i : Nat) (v : zLV) : List (Option zLV) := ((zClr lv i).set i (some v)).set (i + 1) none
theorem zClr_mem {lv : List (Option zLV)} {i k : Nat} {v : zLV} (h : (zClr lv i)[k]? = some (some v)) : lv[k]? = some (some v) ∧ ¬ (k + 1 = i ∧ (tv v).category = 2) := by
  cases i with
  | zero => exact ⟨h, fun q => by omega⟩
  | succ j =>
    simp only [zClr] at h
    split at h
    next hw =>
      rw [List.getElem?_set] at h
      split at h
      next hj => split at h <;> simp at h
      next hj => exact ⟨h, fun q => hj (by omega)⟩
    next hw =>
      refine ⟨h, fun q => hw ?_⟩
      obtain ⟨q1, q2⟩ := q
      have : k = j := by omega
      subst this
      rw [h]
      rw [tv_cat] at q2
      rcases v with x | x | r
      · cases q2
      · rfl
      · cases q2
theorem zS1_has {ls : Array Slot} {n : Nat} {lv : List (Option zLV)} {i : Nat} {v : zLV} (h : lv_has ls n ((i, tv v) :: (zPr 0 lv).filter (fun q => !(q.1 == i) && !(q.1 + 1 == i && q.2.category == 2)))) : lv_has ls n (zPr 0 (zS1 lv i v)) := by
  refine ⟨h.1, h.2.1, fun q hq => ?_⟩
  obtain ⟨a, u⟩ := q
  obtain ⟨k, w, h1, h2, h3⟩ := (zPr_mem _ _ _ _).mp hq
  unfold zS1 at h1
  rw [List.getElem?_set] at h1
  split at h1
  next hk =>
    split at h1
    next hl =>
      simp only [Option.some.injEq] at h1
      subst h1
      refine h.2.2 (a, u) ?_
      rw [List.mem_cons]
      exact Or.inl (by rw [h3, h2, Nat.zero_add, hk])
    next => cases h1
  next hk =>
    obtain ⟨g1, g2⟩ := zClr_mem h1
    refine h.2.2 (a, u) (List.mem_cons_of_mem _ (List.mem_filter.mpr ⟨(zPr_mem _ _ _ _).mpr ⟨k, w, g1, h2, h3⟩, ?_⟩))
    subst h3
    have e1 : ¬ a = i := fun e => hk (by omega)
    simp only [Bool.and_eq_true, Bool.not_eq_true', beq_eq_false_iff_ne, ne_eq, Bool.and_eq_false_iff]
    refine ⟨e1, ?_⟩
    by_cases e2 : a + 1 = i
    · exact Or.inr fun e3 => g2 ⟨by omega, e3⟩
    · exact Or.inl e2
theorem zS2_has {ls : Array Slot} {n : Nat} {lv : List (Option zLV)} {i : Nat} {v : zLV} (h : lv_has ls n ((i, tv v) :: (zPr 0 lv).filter (fun q => !(q.1 == i) && (!(q.1 == i + 1) && !(q.1 + 1 == i && q.2.category == 2))))) : lv_has ls n (zPr 0 (zS2 lv i v)) := by
  refine ⟨h.1, h.2.1, fun q hq => ?_⟩
  obtain ⟨a, u⟩ := q
  obtain ⟨k, w, h1, h2, h3⟩ := (zPr_mem _ _ _ _).mp hq
  unfold zS2 at h1
  rw [List.getElem?_set] at h1
  split at h1
  next hk => split at h1 <;> cases h1
  next hk9 =>
  rw [List.getElem?_set] at h1
  split at h1
  next hk =>
    split at h1
    next hl =>
      simp only [Option.some.injEq] at h1
      subst h1
      refine h.2.2 (a, u) ?_
      rw [List.mem_cons]
      exact Or.inl (by rw [h3, h2, Nat.zero_add, hk])
    next => cases h1
  next hk =>
    obtain ⟨g1, g2⟩ := zClr_mem h1
    refine h.2.2 (a, u) (List.mem_cons_of_mem _ (List.mem_filter.mpr ⟨(zPr_mem _ _ _ _).mpr ⟨k, w, g1, h2, h3⟩, ?_⟩))
    subst h3
    have e1 : ¬ a = i := fun e => hk (by omega)
    have e4 : ¬ a = i + 1 := fun e => hk9 (by omega)
    simp only [Bool.and_eq_true, Bool.not_eq_true', beq_eq_false_iff_ne, ne_eq, Bool.and_eq_false_iff]
    refine ⟨e1, e4, ?_⟩
    by_cases e2 : a + 1 = i
    · exact Or.inr fun e3 => g2 ⟨by omega, e3⟩
    · exact Or.inl e2
theorem zLv_at {ls : Array Slot} {n : Nat} {lv : List (Option zLV)} {k : Nat} {v : zLV} (h : lv_has ls n (zPr 0 lv)) (hk : lv[k]? = some (some v)) : ls[k]? = some (.val (tv v)) :=
  h.2.2 (k, tv v) ((zPr_mem _ _ _ _).mpr ⟨k, v, hk, (Nat.zero_add k).symm, rfl⟩)
/-- fewer locals are known -/
def zLe (a b : List (Option zLV)) : Prop := ∀ (k : Nat) (v : zLV), a[k]? = some (some v) → b[k]? = some (some v)
theorem zLe_has {ls : Array Slot} {n : Nat} {a b : List (Option zLV)} (h : zLe a b) (hb : lv_has ls n (zPr 0 b)) : lv_has ls n (zPr 0 a) := by
  refine ⟨hb.1, hb.2.1, fun q hq => ?_⟩
  obtain ⟨i, u⟩ := q
  obtain ⟨k, v, h1, h2, h3⟩ := (zPr_mem _ _ _ _).mp hq
  exact hb.2.2 _ ((zPr_mem _ _ _ _).mpr ⟨k, v, h k v h1, h2, h3⟩)
