/-! BASE 6: contracts of a method (zCt), its ends, calls -/
set_option maxRecDepth 100000
abbrev zO : Type := (String × zWd) ⊕ (Option zLV × zWd)
def zRm (h : Nat) (w : zWd) : Room := { frames := h, cells := w.2.2.1, slots := w.2.2.2.1, locals := 64 * h }
def zPc (K : zK) (As : List zLV) (w : zWd) : Array Value → State → Prop := fun a U => a = (As.map tv).toArray ∧ zKs K U ∧ zOld K U.heap ∧ zRp K w U.heap
/-- behind a throw: one cell more -/
def zTh (w w' : zWd) : Prop := w'.1 = w.1 ∧ w.2.1 ≤ w'.2.1 ∧ w'.2.2.1 + 1 = w.2.2.1 ∧ w'.2.2.2.1 + 6 = w.2.2.2.1 ∧ w'.2.2.2.2 = w.2.2.2.2
def zQc (K : zK) (w : zWd) (o : zO) : Array Value → State → Outcome → State → Prop := fun _ st oc t => match o with
  | .inr (v, w') => oc = .returned (v.map tv) ∧ zRp K w' t.heap ∧ ∃ (L : List Loc) (k n : Nat), FrameEnd st oc t L k n ∧ (∀ q ∈ L, zFr K q.base) ∧ k + w'.2.2.1 = w.2.2.1 ∧ n + w'.2.2.2.1 = w.2.2.2.1
  | .inl (E, w') => ∃ (q : Addr) (ce : Cell) (L : List Loc) (k n : Nat) (w'' : zWd), oc = .threw q ∧ zTh w' w'' ∧ zRp K w'' t.heap ∧ t.heap[q]? = some ce ∧ ce.vm = .none ∧ st.vm.findClass E = some ce.cls ∧ st.WarmedH t.vm ∧ st.sameButNew ({ t with vm := st.vm } : State) L k n ∧ (∀ z ∈ L, zFr K z.base) ∧ k + w''.2.2.1 = w.2.2.1 ∧ n + w''.2.2.2.1 = w.2.2.2.1
def zCt (l : Launch) (y : MethodName) (bytes : ByteArray) (maxL : Nat) (ret : Option FieldType) (h : Nat) (As : List zLV) (w : zWd) (o : zO) : Prop :=
  l.stackTraces = false → ∀ K : zK, MetFree l y (headSpec (ws_ y bytes maxL ret) (zRm h w)) (zPc K As w) (fun _ _ _ _ _ => True) (zQc K w o)
def zFin (X : zX) (w0 : zWd) (o : zO) : Prop := X.2.2.2.1 = (fun t => ∃ oc, t.status = .running ∧ Ended t X.2.1.2.2.1 oc ∧ zQc X.2.2.2.2 w0 o X.2.1.2.1 X.1.2.2.2.2 oc t) ∧ X.1.2.2.2.1.cells = w0.2.2.1 ∧ X.1.2.2.2.1.slots = w0.2.2.2.1
def zNh (X : zX) : Prop := ∀ x ∈ X.2.1.2.2.2.2.exceptionTable.toList, False
/-- the locals at a method's entry -/
def zLv0 : List zLV → List (Option zLV)
  | [] => []
  | .inr (.inl x) :: t => some (.inr (.inl x)) :: none :: zLv0 t
  | v :: t => some v :: zLv0 t
theorem zLv0_args : ∀ (As : List zLV) (b : Nat), zPr b (zLv0 As) = lv_args b (As.map tv) := by
  intro As
  induction As with
  | nil => intro b; rfl
  | cons v t ih =>
    intro b
    rcases v with x | x | r
    · show (b, _) :: zPr (b + 1) (zLv0 t) = (b, _) :: lv_args (if (Value.int x).category = 2 then b + 2 else b + 1) (t.map tv)
      rw [ih]; rfl
    · show (b, _) :: zPr (b + 1 + 1) (zLv0 t) = (b, _) :: lv_args (if (Value.long x).category = 2 then b + 2 else b + 1) (t.map tv)
      rw [ih]; rfl
    · cases r with
      | none =>
        show (b, _) :: zPr (b + 1) (zLv0 t) = (b, _) :: lv_args (if Value.null.category = 2 then b + 2 else b + 1) (t.map tv)
        rw [ih]; rfl
      | some r =>
        show (b, _) :: zPr (b + 1) (zLv0 t) = (b, _) :: lv_args (if (Value.ref r).category = 2 then b + 2 else b + 1) (t.map tv)
        rw [ih]; rfl
theorem zPr_app (a : List (Option zLV)) (n : Nat) : ∀ b, zPr b (a ++ List.replicate n none) = zPr b a := by
  induction a with
  | nil =>
    induction n with
    | zero => intro b; rfl
    | succ n ih => intro b; exact ih (b + 1)
  | cons v t ih =>
    intro b
    cases v with
    | none => exact ih (b + 1)
    | some v => exact congrArg (fun z => (b, tv v) :: z) (ih (b + 1))
theorem zLv0_len : ∀ As : List zLV, (lg_sl (As.map tv)).length = (zLv0 As).length := by
  intro As
  induction As with
  | nil => rfl
  | cons v t ih =>
    have e : ∀ u : Value, (lg_sl (u :: t.map tv)).length = (lg_sl [u]).length + (lg_sl (t.map tv)).length := by
      intro u
      simp [lg_sl]
    rcases v with x | x | r
    · show (lg_sl (Value.int x :: _)).length = (zLv0 t).length + 1
      rw [e, ih]; show 1 + _ = _; omega
    · show (lg_sl (Value.long x :: _)).length = (zLv0 t).length + 1 + 1
      rw [e, ih]; show 2 + _ = _; omega
    · cases r with
      | none =>
        show (lg_sl (Value.null :: _)).length = (zLv0 t).length + 1
        rw [e, ih]; show 1 + _ = _; omega
      | some r =>
        show (lg_sl (Value.ref r :: _)).length = (zLv0 t).length + 1
        rw [e, ih]; show 1 + _ = _; omega
/-- A CONTRACT OUT OF A WALK -/
theorem zCt_of {l : Launch} {y : MethodName} {bytes : ByteArray} {maxL : Nat} {ret : Option FieldType} {h : Nat} {As : List zLV} {w : zWd} {o : zO} {lv : List (Option zLV)} (hy : plainFor y = true) (pad : Nat) (hlv : zLv0 As ++ List.replicate pad none = lv) (hlen : lv.length = maxL)
    (body : ∀ X : zX, zGd X y.cls bytes maxL ret h → X.2.1.2.2.2.1.name = y.name → zNh X → zFin X w o → zJ X 0 lv [] w) : zCt l y bytes maxL ret h As w o := by
  intro hl9 K
  refine MetFree.of_bodySF (code := bytes) (maxLocals := maxL) (ret := ret) hy ?_ ?_
  · intro args s m h hn
    obtain ⟨meth, c, h1, h2, h3, h4, h5, h6, -, -⟩ := Cond.code_spec hn (atoms_spec (ws := ws_ y bytes maxL ret) h _ List.mem_cons_self)
    exact ⟨meth, c, h1, h2, h3, h4, h5, h6⟩
  · intro p e s m args below meth c s₁ B hml hP _
    have hh0 : s₁.heap = s.heap := by rw [B.state]; rfl
    have ht : ∀ x ∈ c.exceptionTable.toList, False := by
      obtain ⟨meth9, c9, h1, h2, -, -, -, -, h7, -⟩ := Cond.code_spec B.named (atoms_spec (ws := ws_ y bytes maxL ret) B.pre _ List.mem_cons_self)
      cases Option.some.inj (h1.symm.trans B.method)
      cases Option.some.inj (h2.symm.trans (Stand.of_body B).code)
      intro x hx
      rw [Array.isEmpty_iff.mp h7] at hx
      cases hx
    obtain ⟨ha, hks, hold, hrp⟩ := hP
    have hts := atoms_spec (ws := ws_ y bytes maxL ret) B.pre
    obtain ⟨X, hX⟩ : ∃ X : zX, X = ((p, l, e, zRm h w, s), (m, args, below, meth, c), (maxL, (fun t => ∃ oc, t.status = .running ∧ Ended t below oc ∧ zQc K w o args s oc t), K)) := ⟨_, rfl⟩
    have gd : zGd X y.cls bytes maxL ret h := by
      subst hX
      exact ⟨⟨B.exec, B.bytes, B.returns, B.notSynchronized, hml, rfl, findClass_of_methodNamed B.named⟩, ⟨fun w h => hts w (List.mem_cons_of_mem _ h), hks, hold⟩, hl9, Nat.le_refl _, Nat.le_refl _⟩
    have hj := body X gd (by subst hX; exact (name_of_methodNamed B.named B.method).1) (by subst hX; exact ht) (by subst hX; exact ⟨rfl, rfl, rfl⟩)
    subst hX
    have hlv2 : (lg_sl (As.map tv)).length ≤ maxL := by
      rw [zLv0_len, ← hlen, ← hlv, List.length_append]
      omega
    have hl := lv_entry (As.map tv) (n := maxL) hlv2
    have hent : entryFrame m args maxL = F0 m 0 ((lg_sl (As.map tv) ++ List.replicate (maxL - (lg_sl (As.map tv)).length) Slot.unset).toArray) [] := by
      rw [ha, lg_entry_eq]
    obtain ⟨t, a1, oc, b1, b2, b3⟩ := hj s.heap _ [] 0 0 hrp (by rw [← hlv, zPr_app, zLv0_args]; exact hl) (fun q hq => nomatch hq) (Nat.zero_add _) (Nat.zero_add _) s₁ hh0 (Stand.of_body B)
    refine ⟨t, oc, ?_, b1, b2, b3⟩
    rw [hent]
    exact a1
theorem zW_mono {p : Program} {l : Launch} {e : Env} {R : Room} {s : State} {m : MethodId} {args : Array Value} {below : List Frame} {meth : Method} {c : Code} {H : Heap} {locs : List Loc} {cells slots : Nat} {Q Q' : State → Prop} {g : JFrame} (h : ∀ t, Q t → Q' t) (k : W p l e R s m args below meth c H locs cells slots Q g) : W p l e R s m args below meth c H locs cells slots Q' g := by
  intro T hT X
  obtain ⟨t, a, b⟩ := k T hT X
  exact ⟨t, a, h t b⟩
section R6
variable {X : zX} {own : String} {cc : ByteArray} {nL : Nat} {ret : Option FieldType} {h : Nat} {pc : Nat} {lv : List (Option zLV)} {st : List zLV} {w w0 : zWd} {o : zO}
theorem zEndOf {v : Option zLV} (hQ : zFin X w0 o) (ho : o = .inr (v, w)) {H : Heap} {cells slots : Nat} (hR : zRp X.2.2.2.2 w H) (hc : cells + w.2.2.1 = X.1.2.2.2.1.cells) (hs : slots + w.2.2.2.1 = X.1.2.2.2.1.slots) :
    ∀ t, MQ X.2.1.2.2.1 (fun _ _ oc t => oc = .returned (v.map tv) ∧ t.heap = H) X.2.1.2.1 X.1.2.2.2.2 cells slots (zFr X.2.2.2.2) t → X.2.2.2.1 t := by
  rintro t ⟨oc, h1, h2, ⟨h3, h4⟩, L, h5, h6⟩
  rw [hQ.1]
  subst ho
  refine ⟨oc, h1, h2, h3, by rw [h4]; exact hR, L, cells, slots, h5, h6, by rw [hc, hQ.2.1], by rw [hs, hQ.2.2]⟩
theorem j_ireturn (hX : zGd X own cc nL (some .int) h) (hQ : zFin X w0 o) {x : Int32} (ho : o = .inr (some (vI x), w)) (d : decode cc pc = .ok (.ireturn, 1)) : zJ X pc lv [vI x] w := by
  intro H ls locs cells slots hR hl hlo hc hs
  exact zW_mono (zEndOf hQ ho hR hc hs) (W.iret hX.1.1 hX.1.2.1 hX.1.2.2.1 (fun t ht _ => ⟨rfl, ht⟩) hlo d hX.1.2.2.2.1)
theorem j_zreturn (hX : zGd X own cc nL (some .boolean) h) (hQ : zFin X w0 o) {x : Int32} (hx : x = 0 ∨ x = 1) (ho : o = .inr (some (vI x), w)) (d : decode cc pc = .ok (.ireturn, 1)) : zJ X pc lv [vI x] w := by
  intro H ls locs cells slots hR hl hlo hc hs
  exact zW_mono (zEndOf hQ ho hR hc hs) (W.zret hX.1.1 hX.1.2.1 hX.1.2.2.1 (zNz hx).1 (fun t ht _ => ⟨rfl, ht⟩) hlo d hX.1.2.2.2.1)
theorem j_lreturn (hX : zGd X own cc nL (some .long) h) (hQ : zFin X w0 o) {x : Int64} (ho : o = .inr (some (vL x), w)) (d : decode cc pc = .ok (.lreturn, 1)) : zJ X pc lv [vL x] w := by
  intro H ls locs cells slots hR hl hlo hc hs
  exact zW_mono (zEndOf hQ ho hR hc hs) (W.lret hX.1.1 hX.1.2.1 hX.1.2.2.1 (fun t ht _ => ⟨rfl, ht⟩) hlo d hX.1.2.2.2.1)
theorem j_areturn {rt : FieldType} (hX : zGd X own cc nL (some rt) h) (hrt : rt.isReference = true) (hQ : zFin X w0 o) {x : Option Nat} (ho : o = .inr (some (vA x), w)) (d : decode cc pc = .ok (.areturn, 1)) : zJ X pc lv [vA x] w := by
  intro H ls locs cells slots hR hl hlo hc hs
  exact zW_mono (zEndOf hQ ho hR hc hs) (W.aret hX.1.1 hX.1.2.1 hX.1.2.2.1 (by cases rt <;> first | exact absurd hrt (by decide) | exact Or.inl ⟨_, rfl⟩ | exact Or.inr ⟨_, rfl⟩) (by cases x <;> first | exact Or.inl rfl | exact Or.inr ⟨_, rfl⟩) (fun t ht _ => ⟨rfl, ht⟩) hlo d hX.1.2.2.2.1)
theorem j_return (hX : zGd X own cc nL none h) (hQ : zFin X w0 o) (ho : o = .inr (none, w)) (d : decode cc pc = .ok (.return_, 1)) : zJ X pc lv [] w := by
  intro H ls locs cells slots hR hl hlo hc hs
  exact zW_mono (zEndOf hQ ho hR hc hs) (W.vret hX.1.1 hX.1.2.1 hX.1.2.2.1 (fun t ht _ => ⟨rfl, ht⟩) hlo d hX.1.2.2.2.1)
end R6
