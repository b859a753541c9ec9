/-! BASE 5: stores into fields by type; arrays; new cells -/
set_option maxRecDepth 100000
section R5
variable {X : zX} {own : String} {cc : ByteArray} {nL : Nat} {ret : Option FieldType} {h : Nat} {pc : Nat} {lv : List (Option zLV)} {st : List zLV} {w : zWd}
variable {ci : Nat} {C : String} {T : u_T} {N : Nat} {ty0 : Nat → FieldType} {k index : Nat} {ref : String} {r : Option Nat}
theorem j_putI (hX : zGd X own cc nL ret h) (hC : zCls ci C T N ty0) (hk : k < N) (q : Cond.fieldLink own index ref (T k).2.1 (T k).2.2.1 ∈ lw_all) (hsm : ref = (T k).1 ∨ Cond.sameField ref (T k).1 (T k).2.1 (T k).2.2.1 ∈ lw_all) (hfin : (T k).2.2.2 = false) (ht : ty0 k = .int) (d : decode cc pc = .ok (.putfield index, 3))
    {α : Type} {x : Int32} {f : zWd → Option α} {o : α} (hf : (pI w ci k r x).bind f = some o) (kk : ∀ w', f w' = some o → zJ X (pc + 3) lv st w') : zJ X pc lv (vI x :: vA r :: st) w := by
  obtain ⟨w', e1, e2⟩ := zob hf
  exact j_putV hX hC hk q hsm hfin d (by rw [ht]; rfl) (by rw [ht]; rfl) e1 (kk w' e2)
theorem j_putZ (hX : zGd X own cc nL ret h) (hC : zCls ci C T N ty0) (hk : k < N) (q : Cond.fieldLink own index ref (T k).2.1 (T k).2.2.1 ∈ lw_all) (hsm : ref = (T k).1 ∨ Cond.sameField ref (T k).1 (T k).2.1 (T k).2.2.1 ∈ lw_all) (hfin : (T k).2.2.2 = false) (ht : ty0 k = .boolean) (d : decode cc pc = .ok (.putfield index, 3))
    {α : Type} {x : Int32} {f : zWd → Option α} {o : α} (hf : (pZ w ci k r x).bind f = some o) (kk : ∀ w', f w' = some o → zJ X (pc + 3) lv st w') : zJ X pc lv (vI x :: vA r :: st) w := by
  obtain ⟨w', e1, e2⟩ := zob hf
  unfold pZ at e1
  split at e1
  next hx =>
    exact j_putV hX hC hk q hsm hfin d (by rw [ht]; exact (zNz hx).1) (by rw [ht]; exact (zNz hx).2) e1 (kk w' e2)
  next => cases e1
theorem j_putL (hX : zGd X own cc nL ret h) (hC : zCls ci C T N ty0) (hk : k < N) (q : Cond.fieldLink own index ref (T k).2.1 (T k).2.2.1 ∈ lw_all) (hsm : ref = (T k).1 ∨ Cond.sameField ref (T k).1 (T k).2.1 (T k).2.2.1 ∈ lw_all) (hfin : (T k).2.2.2 = false) (ht : ty0 k = .long) (d : decode cc pc = .ok (.putfield index, 3))
    {α : Type} {x : Int64} {f : zWd → Option α} {o : α} (hf : (pL w ci k r x).bind f = some o) (kk : ∀ w', f w' = some o → zJ X (pc + 3) lv st w') : zJ X pc lv (vL x :: vA r :: st) w := by
  obtain ⟨w', e1, e2⟩ := zob hf
  exact j_putV hX hC hk q hsm hfin d (by rw [ht]; rfl) (by rw [ht]; rfl) e1 (kk w' e2)
theorem j_putA (hX : zGd X own cc nL ret h) (hC : zCls ci C T N ty0) (hk : k < N) (q : Cond.fieldLink own index ref (T k).2.1 (T k).2.2.1 ∈ lw_all) (hsm : ref = (T k).1 ∨ Cond.sameField ref (T k).1 (T k).2.1 (T k).2.2.1 ∈ lw_all) (hfin : (T k).2.2.2 = false) (ht : (ty0 k).isReference = true) (d : decode cc pc = .ok (.putfield index, 3))
    {α : Type} {x : Option Nat} {f : zWd → Option α} {o : α} (hf : (pA w ci k r x).bind f = some o) (kk : ∀ w', f w' = some o → zJ X (pc + 3) lv st w') : zJ X pc lv (vA x :: vA r :: st) w := by
  obtain ⟨w', e1, e2⟩ := zob hf
  exact j_putV hX hC hk q hsm hfin d (zNa ht x).1 (zNa ht x).2 e1 (kk w' e2)
theorem j_putIN (hX : zGd X own cc nL ret h) (hC : zCls ci C T N ty0) (hk : k < N) {host : String} (q : Cond.fieldLinkNest own index ref (T k).2.1 (T k).2.2.1 host ∈ lw_tbl) (hsm : ref = (T k).1) (hfin : (T k).2.2.2 = false) (ht : ty0 k = .int) (d : decode cc pc = .ok (.putfield index, 3))
    {α : Type} {x : Int32} {f : zWd → Option α} {o : α} (hf : (pI w ci k r x).bind f = some o) (kk : ∀ w', f w' = some o → zJ X (pc + 3) lv st w') : zJ X pc lv (vI x :: vA r :: st) w := by
  obtain ⟨w', e1, e2⟩ := zob hf
  exact j_putVN hX hC hk q hsm hfin d (by rw [ht]; rfl) (by rw [ht]; rfl) e1 (kk w' e2)
theorem j_putZN (hX : zGd X own cc nL ret h) (hC : zCls ci C T N ty0) (hk : k < N) {host : String} (q : Cond.fieldLinkNest own index ref (T k).2.1 (T k).2.2.1 host ∈ lw_tbl) (hsm : ref = (T k).1) (hfin : (T k).2.2.2 = false) (ht : ty0 k = .boolean) (d : decode cc pc = .ok (.putfield index, 3))
    {α : Type} {x : Int32} {f : zWd → Option α} {o : α} (hf : (pZ w ci k r x).bind f = some o) (kk : ∀ w', f w' = some o → zJ X (pc + 3) lv st w') : zJ X pc lv (vI x :: vA r :: st) w := by
  obtain ⟨w', e1, e2⟩ := zob hf
  unfold pZ at e1
  split at e1
  next hx =>
    exact j_putVN hX hC hk q hsm hfin d (by rw [ht]; exact (zNz hx).1) (by rw [ht]; exact (zNz hx).2) e1 (kk w' e2)
  next => cases e1
theorem j_putLN (hX : zGd X own cc nL ret h) (hC : zCls ci C T N ty0) (hk : k < N) {host : String} (q : Cond.fieldLinkNest own index ref (T k).2.1 (T k).2.2.1 host ∈ lw_tbl) (hsm : ref = (T k).1) (hfin : (T k).2.2.2 = false) (ht : ty0 k = .long) (d : decode cc pc = .ok (.putfield index, 3))
    {α : Type} {x : Int64} {f : zWd → Option α} {o : α} (hf : (pL w ci k r x).bind f = some o) (kk : ∀ w', f w' = some o → zJ X (pc + 3) lv st w') : zJ X pc lv (vL x :: vA r :: st) w := by
  obtain ⟨w', e1, e2⟩ := zob hf
  exact j_putVN hX hC hk q hsm hfin d (by rw [ht]; rfl) (by rw [ht]; rfl) e1 (kk w' e2)
theorem j_putAN (hX : zGd X own cc nL ret h) (hC : zCls ci C T N ty0) (hk : k < N) {host : String} (q : Cond.fieldLinkNest own index ref (T k).2.1 (T k).2.2.1 host ∈ lw_tbl) (hsm : ref = (T k).1) (hfin : (T k).2.2.2 = false) (ht : (ty0 k).isReference = true) (d : decode cc pc = .ok (.putfield index, 3))
    {α : Type} {x : Option Nat} {f : zWd → Option α} {o : α} (hf : (pA w ci k r x).bind f = some o) (kk : ∀ w', f w' = some o → zJ X (pc + 3) lv st w') : zJ X pc lv (vA x :: vA r :: st) w := by
  obtain ⟨w', e1, e2⟩ := zob hf
  exact j_putVN hX hC hk q hsm hfin d (zNa ht x).1 (zNa ht x).2 e1 (kk w' e2)
theorem j_putIF (hX : zGd X own cc nL ret h) (hI : zIn X) (hC : zCls ci C T N ty0) (hk : k < N) (q : Cond.fieldLink own index ref (T k).2.1 (T k).2.2.1 ∈ lw_all) (hsm : ref = (T k).1) (hfin : (T k).2.2.2 = true) (hdecl : (T k).1 = own) (ht : ty0 k = .int) (d : decode cc pc = .ok (.putfield index, 3))
    {α : Type} {x : Int32} {f : zWd → Option α} {o : α} (hf : (pI w ci k r x).bind f = some o) (kk : ∀ w', f w' = some o → zJ X (pc + 3) lv st w') : zJ X pc lv (vI x :: vA r :: st) w := by
  obtain ⟨w', e1, e2⟩ := zob hf
  exact j_putVF hX hI hC hk q hsm hfin hdecl d (by rw [ht]; rfl) (by rw [ht]; rfl) e1 (kk w' e2)
theorem j_putZF (hX : zGd X own cc nL ret h) (hI : zIn X) (hC : zCls ci C T N ty0) (hk : k < N) (q : Cond.fieldLink own index ref (T k).2.1 (T k).2.2.1 ∈ lw_all) (hsm : ref = (T k).1) (hfin : (T k).2.2.2 = true) (hdecl : (T k).1 = own) (ht : ty0 k = .boolean) (d : decode cc pc = .ok (.putfield index, 3))
    {α : Type} {x : Int32} {f : zWd → Option α} {o : α} (hf : (pZ w ci k r x).bind f = some o) (kk : ∀ w', f w' = some o → zJ X (pc + 3) lv st w') : zJ X pc lv (vI x :: vA r :: st) w := by
  obtain ⟨w', e1, e2⟩ := zob hf
  unfold pZ at e1
  split at e1
  next hx =>
    exact j_putVF hX hI hC hk q hsm hfin hdecl d (by rw [ht]; exact (zNz hx).1) (by rw [ht]; exact (zNz hx).2) e1 (kk w' e2)
  next => cases e1
theorem j_putLF (hX : zGd X own cc nL ret h) (hI : zIn X) (hC : zCls ci C T N ty0) (hk : k < N) (q : Cond.fieldLink own index ref (T k).2.1 (T k).2.2.1 ∈ lw_all) (hsm : ref = (T k).1) (hfin : (T k).2.2.2 = true) (hdecl : (T k).1 = own) (ht : ty0 k = .long) (d : decode cc pc = .ok (.putfield index, 3))
    {α : Type} {x : Int64} {f : zWd → Option α} {o : α} (hf : (pL w ci k r x).bind f = some o) (kk : ∀ w', f w' = some o → zJ X (pc + 3) lv st w') : zJ X pc lv (vL x :: vA r :: st) w := by
  obtain ⟨w', e1, e2⟩ := zob hf
  exact j_putVF hX hI hC hk q hsm hfin hdecl d (by rw [ht]; rfl) (by rw [ht]; rfl) e1 (kk w' e2)
theorem j_putAF (hX : zGd X own cc nL ret h) (hI : zIn X) (hC : zCls ci C T N ty0) (hk : k < N) (q : Cond.fieldLink own index ref (T k).2.1 (T k).2.2.1 ∈ lw_all) (hsm : ref = (T k).1) (hfin : (T k).2.2.2 = true) (hdecl : (T k).1 = own) (ht : (ty0 k).isReference = true) (d : decode cc pc = .ok (.putfield index, 3))
    {α : Type} {x : Option Nat} {f : zWd → Option α} {o : α} (hf : (pA w ci k r x).bind f = some o) (kk : ∀ w', f w' = some o → zJ X (pc + 3) lv st w') : zJ X pc lv (vA x :: vA r :: st) w := by
  obtain ⟨w', e1, e2⟩ := zob hf
  exact j_putVF hX hI hC hk q hsm hfin hdecl d (zNa ht x).1 (zNa ht x).2 e1 (kk w' e2)
theorem zin {i : Int32} {n : Nat} (hin : ¬ (i < 0 ∨ n ≤ i.toNatClampNeg)) : i.toNatClampNeg < n := Nat.not_le.mp fun q => hin (Or.inr q)
theorem j_iaload (hX : zGd X own cc nL ret h) {i : Int32} (d : decode cc pc = .ok (.iaload, 1))
    {α : Type} {f : Int32 → Option α} {o : α} (hf : (aI w r i).bind f = some o) (kk : ∀ x, aI w r i = some x → f x = some o → zJ X (pc + 1) lv (vI x :: st) w) : zJ X pc lv (vI i :: vA r :: st) w := by
  obtain ⟨x, e1, e2⟩ := zob hf
  have e0 := e1
  cases r with
  | none => cases e1
  | some a =>
    simp only [aI] at e1
    split at e1
    next fl n g hc =>
      split at e1
      · cases e1
      next hin =>
        cases e1
        intro H ls locs cells slots hR hl hlo hc9 hs
        obtain ⟨-, -, h3⟩ := (hR.2.1 a _ _ hc).1
        exact W.iald (v := .int (g i.toNatClampNeg)) hX.1.1 hX.1.2.1 h3 ((hX.2.1.2.1.2.1 0 (by decide)).1 n (fun j => .int (g j))) (fun q => by cases q) (by show ¬ (i < 0 ∨ (arrV _ _ _).slots.size ≤ _); rw [arrV_size]; exact hin) (by show (arrV _ _ _).slots[_]? = _; rw [arrV_read _ _ (zin hin)]) rfl rfl d (kk _ e0 e2 H ls locs cells slots hR hl hlo hc9 hs)
    next => cases e1
theorem j_baload (hX : zGd X own cc nL ret h) {i : Int32} (d : decode cc pc = .ok (.baload, 1))
    {α : Type} {f : Int32 → Option α} {o : α} (hf : (aB w r i).bind f = some o) (kk : ∀ x, aB w r i = some x → f x = some o → zJ X (pc + 1) lv (vI x :: st) w) : zJ X pc lv (vI i :: vA r :: st) w := by
  obtain ⟨x, e1, e2⟩ := zob hf
  have e0 := e1
  cases r with
  | none => cases e1
  | some a =>
    simp only [aB] at e1
    split at e1
    next fl n g hc =>
      split at e1
      · cases e1
      next hin =>
        cases e1
        intro H ls locs cells slots hR hl hlo hc9 hs
        obtain ⟨-, -, h3⟩ := (hR.2.1 a _ _ hc).1
        exact W.bald (v := .int (g i.toNatClampNeg)) hX.1.1 hX.1.2.1 h3 ((hX.2.1.2.1.2.1 3 (by decide)).1 n (fun j => .int (g j))) (fun q => by cases q) (by show ¬ (i < 0 ∨ (arrV _ _ _).slots.size ≤ _); rw [arrV_size]; exact hin) (by show (arrV _ _ _).slots[_]? = _; rw [arrV_read _ _ (zin hin)]) rfl rfl d (kk _ e0 e2 H ls locs cells slots hR hl hlo hc9 hs)
    next => cases e1
theorem j_laload (hX : zGd X own cc nL ret h) {i : Int32} (d : decode cc pc = .ok (.laload, 1))
    {α : Type} {f : Int64 → Option α} {o : α} (hf : (aL w r i).bind f = some o) (kk : ∀ x, aL w r i = some x → f x = some o → zJ X (pc + 1) lv (vL x :: st) w) : zJ X pc lv (vI i :: vA r :: st) w := by
  obtain ⟨x, e1, e2⟩ := zob hf
  have e0 := e1
  cases r with
  | none => cases e1
  | some a =>
    simp only [aL] at e1
    split at e1
    next fl n g hc =>
      split at e1
      · cases e1
      next hin =>
        cases e1
        intro H ls locs cells slots hR hl hlo hc9 hs
        obtain ⟨-, -, h3⟩ := (hR.2.1 a _ _ hc).1
        exact W.lald (v := .long (g i.toNatClampNeg)) hX.1.1 hX.1.2.1 h3 ((hX.2.1.2.1.2.1 1 (by decide)).1 n (fun j => .long (g j))) (fun q => by cases q) (by show ¬ (i < 0 ∨ (arrV _ _ _).slots.size ≤ _); rw [arrV_size]; exact hin) (by show (arrV _ _ _).slots[_]? = _; rw [arrV_read _ _ (zin hin)]) rfl rfl d (kk _ e0 e2 H ls locs cells slots hR hl hlo hc9 hs)
    next => cases e1
theorem j_aaload (hX : zGd X own cc nL ret h) {i : Int32} (d : decode cc pc = .ok (.aaload, 1))
    {α : Type} {f : Option Nat → Option α} {o : α} (hf : (aA w r i).bind f = some o) (kk : ∀ x, aA w r i = some x → f x = some o → zJ X (pc + 1) lv (vA x :: st) w) : zJ X pc lv (vI i :: vA r :: st) w := by
  obtain ⟨x, e1, e2⟩ := zob hf
  have e0 := e1
  cases r with
  | none => cases e1
  | some a =>
    simp only [aA] at e1
    split at e1
    next fl kk9 n g hc =>
      split at e1
      · cases e1
      next hin =>
        cases e1
        intro H ls locs cells slots hR hl hlo hc9 hs
        obtain ⟨hk9, hrf, h3⟩ := (hR.2.1 a _ _ hc).1
        exact W.aald (v := va_rf (g i.toNatClampNeg)) (ty := zAt kk9) hX.1.1 hX.1.2.1 h3 ((hX.2.1.2.1.2.1 kk9 hk9).1 n (fun j => va_rf (g j))) hrf (fun q => by cases q) (by show ¬ (i < 0 ∨ (arrV _ _ _).slots.size ≤ _); rw [arrV_size]; exact hin) (by show (arrV _ _ _).slots[_]? = _; rw [arrV_read _ _ (zin hin)]) rfl rfl d (kk _ e0 e2 H ls locs cells slots hR hl hlo hc9 hs)
    next => cases e1
theorem zSz (cA : ClassId) (n : Nat) (x : zAC) : (vp_cell cA (n, zAc x)).slots.size = n := by
  rcases x with f | f | f
  · show (arrV _ _ _).slots.size = n; rw [arrV_size]
  · show (arrV _ _ _).slots.size = n; rw [arrV_size]
  · show (arrV _ _ _).slots.size = n; rw [arrV_size]
theorem zArrOf {K : zK} {s : State} (hA : zArr K.2.1 s) {k n : Nat} (hk : k ≤ 8) (x : zAC) : s.isArrayOf (vp_cell (K.2.1 k) (n, zAc x)) (zAt k) := by
  rcases x with f | f | f
  · exact (hA k hk).1 n _
  · exact (hA k hk).1 n _
  · exact (hA k hk).1 n _
theorem j_alen (hX : zGd X own cc nL ret h) (d : decode cc pc = .ok (.arraylength, 1))
    {α : Type} {f : Int32 → Option α} {o : α} (hf : (aN w r).bind f = some o) (kk : ∀ x, aN w r = some x → f x = some o → zJ X (pc + 1) lv (vI x :: st) w) : zJ X pc lv (vA r :: st) w := by
  obtain ⟨x, e1, e2⟩ := zob hf
  have e0 := e1
  cases r with
  | none => cases e1
  | some a =>
    simp only [aN] at e1
    split at e1
    next fl kk9 n g hc =>
      cases e1
      intro H ls locs cells slots hR hl hlo hc9 hs
      obtain ⟨hk9, hrf, h3⟩ := (hR.2.1 a _ _ hc).1
      exact W.alen (n := Int32.ofNat n) hX.1.1 hX.1.2.1 h3 (zArrOf hX.2.1.2.1.2.1 hk9 g) (by rw [zSz]) rfl rfl d (kk _ e0 e2 H ls locs cells slots hR hl hlo hc9 hs)
    next => cases e1
theorem zUpd {α : Type} (F : α → Value) (f : Nat → α) (k : Nat) (x : α) : updV (fun j => F (f j)) k (F x) = fun j => F (va_up f k x j) := by
  funext q
  by_cases hq : q = k
  · subst hq; simp [updV, va_up]
  · simp [updV, va_up, hq]
theorem zSto {α : Type} (F : α → Value) (cA : ClassId) (n : Nat) (g : Nat → α) (k : Nat) (x : α) : (arrV cA n (fun j => F (g j))).setSlot k (F x) = arrV cA n (fun j => F (va_up g k x j)) := by
  rw [arrV_store, zUpd]
theorem j_iastore (hX : zGd X own cc nL ret h) {i : Int32} {x : Int32} (d : decode cc pc = .ok (.iastore, 1))
    {α : Type} {f : zWd → Option α} {o : α} (hf : (sI w r i x).bind f = some o) (kk : ∀ w', f w' = some o → zJ X (pc + 1) lv st w') : zJ X pc lv (vI x :: vI i :: vA r :: st) w := by
  obtain ⟨w', e1, e2⟩ := zob hf
  cases r with
  | none => cases e1
  | some a =>
    simp only [sI] at e1
    split at e1
    next n g hc =>
      split at e1
      · cases e1
      next hin =>
        cases e1
        intro H ls locs cells slots hR hl hlo hc9 hs
        obtain ⟨⟨-, -, h3⟩, hw⟩ := hR.2.1 a _ _ hc
        refine W.iast hX.1.1 hX.1.2.1 h3 ((hX.2.1.2.1.2.1 0 (by decide)).1 n (fun j => .int (g j))) (fun q => by cases q) (by show ¬ (i < 0 ∨ (arrV _ _ _).slots.size ≤ _); rw [arrV_size]; exact hin) rfl rfl d fun H' e1 z oq => ?_
        refine kk _ e2 H' ls _ cells slots (zRp_up hR (hw rfl) z oq ⟨by decide, trivial, ?_⟩) hl (zFr_app hlo (hw rfl)) hc9 hs
        exact e1.trans (congrArg some (zSto Value.int _ n g _ x))
    next => cases e1
theorem j_lastore (hX : zGd X own cc nL ret h) {i : Int32} {x : Int64} (d : decode cc pc = .ok (.lastore, 1))
    {α : Type} {f : zWd → Option α} {o : α} (hf : (sL w r i x).bind f = some o) (kk : ∀ w', f w' = some o → zJ X (pc + 1) lv st w') : zJ X pc lv (vL x :: vI i :: vA r :: st) w := by
  obtain ⟨w', e1, e2⟩ := zob hf
  cases r with
  | none => cases e1
  | some a =>
    simp only [sL] at e1
    split at e1
    next n g hc =>
      split at e1
      · cases e1
      next hin =>
        cases e1
        intro H ls locs cells slots hR hl hlo hc9 hs
        obtain ⟨⟨-, -, h3⟩, hw⟩ := hR.2.1 a _ _ hc
        refine W.last hX.1.1 hX.1.2.1 h3 ((hX.2.1.2.1.2.1 1 (by decide)).1 n (fun j => .long (g j))) (fun q => by cases q) (by show ¬ (i < 0 ∨ (arrV _ _ _).slots.size ≤ _); rw [arrV_size]; exact hin) rfl rfl d fun H' e1 z oq => ?_
        refine kk _ e2 H' ls _ cells slots (zRp_up hR (hw rfl) z oq ⟨by decide, trivial, ?_⟩) hl (zFr_app hlo (hw rfl)) hc9 hs
        exact e1.trans (congrArg some (zSto Value.long _ n g _ x))
    next => cases e1
theorem j_aastore (hX : zGd X own cc nL ret h) {i : Int32} {x : Option Nat} (d : decode cc pc = .ok (.aastore, 1))
    {α : Type} {f : zWd → Option α} {o : α} (hf : (sA w r i x).bind f = some o) (kk : ∀ w', f w' = some o → zJ X (pc + 1) lv st w') : zJ X pc lv (vA x :: vI i :: vA r :: st) w := by
  obtain ⟨w', e1, e2⟩ := zob hf
  cases r with
  | none => cases e1
  | some a =>
    simp only [sA] at e1
    split at e1
    next kk9 n g hc =>
      split at e1
      · cases e1
      next hin9 =>
        have hin : ¬ (i < 0 ∨ n ≤ i.toNatClampNeg) := fun q => hin9 (q.elim Or.inl (fun q => Or.inr (Or.inl q)))
        have hmay : zMay w kk9 x = true := by
          cases hm : zMay w kk9 x
          · exact absurd (Or.inr (Or.inr hm)) hin9
          · rfl
        cases e1
        intro H ls locs cells slots hR hl hlo hc9 hs
        obtain ⟨⟨hk9, hrf, h3⟩, hw⟩ := hR.2.1 a _ _ hc
        have fin : ∀ H' : Heap, H'[a]? = some ((vp_cell (X.2.2.2.2.2.1 kk9) (n, zAc (.inr (.inr g)))).setSlot i.toNatClampNeg (va_rf x)) → H'.size = H.size → (∀ q : Nat, q ≠ a → H'[q]? = H[q]?) → W X.1.1 X.1.2.1 X.1.2.2.1 X.1.2.2.2.1 X.1.2.2.2.2 X.2.1.1 X.2.1.2.1 X.2.1.2.2.1 X.2.1.2.2.2.1 X.2.1.2.2.2.2 H' (locs ++ [⟨a, i.toNatClampNeg⟩]) cells slots X.2.2.2.1 (F0 X.2.1.1 (pc + 1) ls (st.map tv)) := by
          intro H' e1 z oq
          refine kk _ e2 H' ls _ cells slots (zRp_up hR (hw rfl) z oq ⟨hk9, hrf, ?_⟩) hl (zFr_app hlo (hw rfl)) hc9 hs
          exact e1.trans (congrArg some (zSto va_rf _ n g _ x))
        cases x with
        | none =>
          have hk2 : kk9 = 2 := by simpa [zMay] using hmay
          subst hk2
          exact va_WaastN (C := "java/lang/Object") hX.1.1 hX.1.2.1 h3 ((hX.2.1.2.1.2.1 2 (by decide)).1 n (fun j => va_rf (g j))) (fun q => by cases q) (by show ¬ (i < 0 ∨ (arrV _ _ _).slots.size ≤ _); rw [arrV_size]; exact hin) rfl rfl d fin
        | some v =>
          simp only [zMay] at hmay
          have go : ∀ cv : Cell, H[v]? = some cv → (∀ q, cv.vm ≠ .statics q) → zAs X.2.2.2.2.2.1 kk9 cv.cls X.1.2.2.2.2 → W X.1.1 X.1.2.1 X.1.2.2.1 X.1.2.2.2.1 X.1.2.2.2.2 X.2.1.1 X.2.1.2.1 X.2.1.2.2.1 X.2.1.2.2.2.1 X.2.1.2.2.2.2 H locs cells slots X.2.2.2.1 (F0 X.2.1.1 pc ls (List.map tv (vA (some v) :: vI i :: vA (some a) :: st))) := by
            intro cv hcv hvs ⟨kA, comp, kcomp, kv, g1, g2, g3, g4, g5⟩
            exact W.aast hX.1.1 hX.1.2.1 h3 (fun q h => by cases h) (fun h => by cases h) g1 g2 hrf g3 ⟨fun q => hin (Or.inl q), by show _ < (arrV _ _ _).slots.size; rw [arrV_size]; exact zin hin⟩ hcv hvs g4 g5 rfl rfl d fin
          split at hmay
          next fl9 p9 hv =>
            have hk2 : kk9 = 2 := by simpa using hmay
            subst hk2
            obtain ⟨rr, g1, cell, q1, q2, q3, -⟩ := (hR.2.1 v _ _ hv).1
            exact go cell q1 (fun q h => by rw [q3] at h; cases h) (by rw [q2]; exact hX.2.1.2.1.2.2.2.1.1 _ _ g1)
          next fl9 j n9 x9 hv =>
            obtain ⟨-, -, q1⟩ := (hR.2.1 v _ _ hv).1
            have hvm : ∀ q, (vp_cell (X.2.2.2.2.2.1 j) (n9, zAc x9)).vm ≠ .statics q := by
              intro q h
              rcases x9 with f | f | f <;> cases h
            have hcl : (vp_cell (X.2.2.2.2.2.1 j) (n9, zAc x9)).cls = X.2.2.2.2.2.1 j := by
              rcases x9 with f | f | f <;> rfl
            simp only [Bool.or_eq_true, Bool.and_eq_true, beq_iff_eq] at hmay
            rcases hmay with ⟨rfl, rfl⟩ | ⟨rfl, rfl⟩
            · exact go _ q1 hvm (by rw [hcl]; exact hX.2.1.2.1.2.2.2.1.2.1)
            · exact go _ q1 hvm (by rw [hcl]; exact hX.2.1.2.1.2.2.2.1.2.2.2.1)
          next => cases hmay
    next => cases e1
theorem j_newarrI (hX : zGd X own cc nL ret h) {n : Int32} (q : Jvm.Cond.arrayClass .int ∈ lw_all) (d : decode cc pc = .ok (.newarray .int, 2))
    {α : Type} {f : Option Nat × zWd → Option α} {o : α} (hf : (nI_ w n).bind f = some o) (kk : ∀ x w', f (x, w') = some o → zJ X (pc + 2) lv (vA x :: st) w') : zJ X pc lv (vI n :: st) w := by
  obtain ⟨⟨x, w'⟩, e1, e2⟩ := zob hf
  unfold nI_ at e1
  split at e1
  · cases e1
  next hb =>
    have hb0 : ¬ n < 0 := fun q => hb (Or.inl q)
    have hb1 : n.toNatClampNeg ≤ 100000 := Nat.not_lt.mp fun q => hb (Or.inr q)
    obtain ⟨hr1, hr2⟩ := zNew_room e1
    intro H ls locs cells slots hR hl hlo hc9 hs
    refine va_newaK (atype := .int) (N := n.toNatClampNeg) hX.1.1 hX.1.2.1 (hX.2.1.1 _ q) rfl d rfl hb0 rfl (Nat.le_trans (Nat.mul_le_mul hb1 (show componentBytes .int ≤ 8 by decide)) (Nat.le_of_ble_eq_true rfl)) (by omega) (by omega) rfl fun H' cA a1 z oq _ hnm => ?_
    have hcA : cA = X.2.2.2.2.2.1 0 := Option.some.inj (hnm.symm.trans (hX.2.1.2.1.2.1 0 (by decide)).2)
    subst hcA
    obtain ⟨rfl, g2, g3, g4⟩ := zRp_new hR e1 z oq ⟨by decide, trivial, a1⟩
    exact kk _ _ e2 H' ls locs _ _ g2 hl hlo (by omega) (by omega)
theorem j_newarrL (hX : zGd X own cc nL ret h) {n : Int32} (q : Jvm.Cond.arrayClass .long ∈ lw_all) (d : decode cc pc = .ok (.newarray .long, 2))
    {α : Type} {f : Option Nat × zWd → Option α} {o : α} (hf : (nL_ w n).bind f = some o) (kk : ∀ x w', f (x, w') = some o → zJ X (pc + 2) lv (vA x :: st) w') : zJ X pc lv (vI n :: st) w := by
  obtain ⟨⟨x, w'⟩, e1, e2⟩ := zob hf
  unfold nL_ at e1
  split at e1
  · cases e1
  next hb =>
    have hb0 : ¬ n < 0 := fun q => hb (Or.inl q)
    have hb1 : n.toNatClampNeg ≤ 100000 := Nat.not_lt.mp fun q => hb (Or.inr q)
    obtain ⟨hr1, hr2⟩ := zNew_room e1
    intro H ls locs cells slots hR hl hlo hc9 hs
    refine va_newaK (atype := .long) (N := n.toNatClampNeg) hX.1.1 hX.1.2.1 (hX.2.1.1 _ q) rfl d rfl hb0 rfl (Nat.le_trans (Nat.mul_le_mul hb1 (show componentBytes .long ≤ 8 by decide)) (Nat.le_of_ble_eq_true rfl)) (by omega) (by omega) rfl fun H' cA a1 z oq _ hnm => ?_
    have hcA : cA = X.2.2.2.2.2.1 1 := Option.some.inj (hnm.symm.trans (hX.2.1.2.1.2.1 1 (by decide)).2)
    subst hcA
    obtain ⟨rfl, g2, g3, g4⟩ := zRp_new hR e1 z oq ⟨by decide, trivial, a1⟩
    exact kk _ _ e2 H' ls locs _ _ g2 hl hlo (by omega) (by omega)
theorem j_new (hX : zGd X own cc nL ret h) (hC : zCls ci C T N ty0) (q1 : Cond.classLink own index C ∈ lw_all) (q2 : Cond.instantiable C N ∈ lw_all) (q3 : Cond.initialized C ∈ lw_all) (fs : List zLV) (hfs : ∀ j, j < N → defaultValue (ty0 j) = vp_V (fs.map tv) j) (d : decode cc pc = .ok (.new index, 3))
    {α : Type} {f : Option Nat × zWd → Option α} {o : α} (hf : (zNew w N (.inr (ci, fs))).bind f = some o) (kk : ∀ x w', f (x, w') = some o → zJ X (pc + 3) lv (vA x :: st) w') : zJ X pc lv st w := by
  obtain ⟨⟨x, w'⟩, e1, e2⟩ := zob hf
  obtain ⟨hr1, hr2⟩ := zNew_room e1
  intro H ls locs cells slots hR hl hlo hc9 hs
  have hKn := hX.2.1.2.1.1.1 ci _ hC.1
  refine W.newcK (n := N) hX.1.1 hX.1.2.1 hX.1.2.2.2.2.2.2 (hX.2.1.1 _ q1) (hX.2.1.1 _ q2) (hX.2.1.1 _ q3) rfl d (by omega) (by omega) hKn.2.1 rfl fun H1 kC hkC a1 z1 o1 => ?_
  obtain ⟨rfl, g2, g3, g4⟩ := zRp_new hR e1 z1 o1 ⟨_, hC.1, (u_born ty0 hX.2.1.1 hC.2.1 hKn hkC a1 hC.2.2.1).to hfs⟩
  exact kk _ _ e2 H1 ls locs _ _ g2 hl hlo (by omega) (by omega)
theorem j_objInit (hX : zGd X own cc nL ret h) (hh : 1 ≤ h) {a : Option Nat} (q1 : Cond.methodLink own index Lib.objectInit ∈ lw_all) (q2 : Cond.instanceMethod Lib.objectInit ∈ lw_all) (q3 : Cond.code Lib.objectInit ⟨#[0xb1]⟩ 1 none ∈ lw_all) (hst : ((st.map tv).map fun v => v.category).sum ≤ 20) (d : decode cc pc = .ok (.invokespecial index, 3))
    (ha : a ≠ none) (kk : zJ X (pc + 3) lv st w) : zJ X pc lv (vA a :: st) w := by
  cases a with
  | none => exact absurd rfl ha
  | some a =>
    intro H ls locs cells slots hR hl hlo hc9 hs
    refine W.objInit hX.1.1 hX.1.2.1 hX.1.2.2.2.2.2.2 (hX.2.1.1 _ q1) (hX.2.1.1 _ q2) (hX.2.1.1 _ q3) rfl (by rw [hX.1.2.2.2.2.1, ← hX.1.2.2.2.2.2.1]; exact hl.1) rfl d (Nat.le_trans hh hX.2.2.2.1) ?_ (kk H ls locs cells slots hR hl hlo hc9 hs)
    have h64 := hX.2.2.2.2
    show 0 + ((st.map tv).map fun v => v.category).sum + 12 ≤ _
    omega
end R5
