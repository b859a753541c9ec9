/-! BASE 4: rows on objects and arrays -/
set_option maxRecDepth 100000
def zCls (ci : Nat) (C : String) (T : u_T) (N : Nat) (ty0 : Nat → FieldType) : Prop := zCL[ci]? = some (C, T, N) ∧ (∀ w ∈ u_ws C T N, w ∈ lw_all) ∧ (∀ k, k < N → parseFieldDescriptor (T k).2.2.1 = some (ty0 k)) ∧ (∀ a, a < N → ∀ b, b < N → a ≠ b → (T a).2.1 ≠ (T b).2.1)
def zIn (X : zX) : Prop := X.2.1.2.2.2.1.name = "<init>"
theorem gI_spec {w : zWd} {ci k : Nat} {r : Option Nat} {x : Int32} (h : gI w ci k r = some x) : ∃ fs, gObj w ci r = some fs ∧ fs[k]? = some (vI x) := by
  obtain ⟨fs, h1, h2⟩ := zob h
  refine ⟨fs, h1, ?_⟩
  split at h2
  next y hy => cases h2; exact hy
  next => cases h2
theorem gL_spec {w : zWd} {ci k : Nat} {r : Option Nat} {x : Int64} (h : gL w ci k r = some x) : ∃ fs, gObj w ci r = some fs ∧ fs[k]? = some (vL x) := by
  obtain ⟨fs, h1, h2⟩ := zob h
  refine ⟨fs, h1, ?_⟩
  split at h2
  next y hy => cases h2; exact hy
  next => cases h2
theorem gA_spec {w : zWd} {ci k : Nat} {r x : Option Nat} (h : gA w ci k r = some x) : ∃ fs, gObj w ci r = some fs ∧ fs[k]? = some (vA x) := by
  obtain ⟨fs, h1, h2⟩ := zob h
  refine ⟨fs, h1, ?_⟩
  split at h2
  next y hy => cases h2; exact hy
  next => cases h2
theorem zSame {s : State} {args : Array Value} {ref owner name desc : String} (hts : ∀ w ∈ lw_all, w.before args s = true) (h : ref = owner ∨ Cond.sameField ref owner name desc ∈ lw_all) : ∀ x, s.fieldFound? owner name desc = some x → s.fieldFound? ref name desc = some x := by
  rcases h with h | h
  · subst h; exact fun _ h => h
  · exact u_same (hts _ h)
section R4
variable {X : zX} {own : String} {cc : ByteArray} {nL : Nat} {ret : Option FieldType} {h : Nat} {pc : Nat} {lv : List (Option zLV)} {st : List zLV} {w : zWd}
variable {ci : Nat} {C : String} {T : u_T} {N : Nat} {ty0 : Nat → FieldType} {k index : Nat} {ref : String} {r : Option Nat}
theorem j_getV (hX : zGd X own cc nL ret h) (hC : zCls ci C T N ty0) (hk : k < N) (q : Cond.fieldLink own index ref (T k).2.1 (T k).2.2.1 ∈ lw_all) (hsm : ref = (T k).1 ∨ Cond.sameField ref (T k).1 (T k).2.1 (T k).2.2.1 ∈ lw_all) (d : decode cc pc = .ok (.getfield index, 3))
    {fs : List zLV} {v : zLV} (h1 : gObj w ci r = some fs) (h2 : fs[k]? = some v) (kk : zJ X (pc + 3) lv (v :: st) w) : zJ X pc lv (vA r :: st) w := by
  intro H ls locs cells slots hR hl hlo hc hs
  obtain ⟨a, fl, rfl, ha⟩ := gObj_spec h1
  exact va_get (D := X.2.2.2.2.1) hX.1.1 hX.1.2.1 hX.2.1.1 hC.2.1 hX.1.2.2.2.2.2.2 hX.2.1.2.1.1 (zP1 (hR.2.1 a fl _ ha).1) 0 rfl hC.1 k hk (hX.2.1.1 _ q) (zSame hX.2.1.1 hsm) (by rw [List.getElem?_map, h2]; rfl) d (kk H ls locs cells slots hR hl hlo hc hs)
theorem j_getVN (hX : zGd X own cc nL ret h) (hC : zCls ci C T N ty0) (hk : k < N) {host : String} (q : Cond.fieldLinkNest own index ref (T k).2.1 (T k).2.2.1 host ∈ lw_tbl) (hsm : ref = (T k).1) (d : decode cc pc = .ok (.getfield index, 3))
    {fs : List zLV} {v : zLV} (h1 : gObj w ci r = some fs) (h2 : fs[k]? = some v) (kk : zJ X (pc + 3) lv (v :: st) w) : zJ X pc lv (vA r :: st) w := by
  intro H ls locs cells slots hR hl hlo hc hs
  obtain ⟨a, fl, rfl, ha⟩ := gObj_spec h1
  exact va_getN (D := X.2.2.2.2.1) hX.1.1 hX.1.2.1 hX.2.1.1 hC.2.1 hX.1.2.2.2.2.2.2 hX.2.1.2.1.1 (zP1 (hR.2.1 a fl _ ha).1) 0 rfl hC.1 k hk (va_Nw.use rfl (hX.2.1.2.1.2.2.1 _ q rfl)) (zSame hX.2.1.1 (Or.inl hsm)) (by rw [List.getElem?_map, h2]; rfl) d (kk H ls locs cells slots hR hl hlo hc hs)
theorem j_getI (hX : zGd X own cc nL ret h) (hC : zCls ci C T N ty0) (hk : k < N) (q : Cond.fieldLink own index ref (T k).2.1 (T k).2.2.1 ∈ lw_all) (hsm : ref = (T k).1 ∨ Cond.sameField ref (T k).1 (T k).2.1 (T k).2.2.1 ∈ lw_all) (d : decode cc pc = .ok (.getfield index, 3))
    {α : Type} {f : Int32 → Option α} {o : α} (hf : (gI w ci k r).bind f = some o) (kk : ∀ x, gI w ci k r = some x → f x = some o → zJ X (pc + 3) lv (vI x :: st) w) : zJ X pc lv (vA r :: st) w := by
  obtain ⟨x, e1, e2⟩ := zob hf
  obtain ⟨fs, h1, h2⟩ := gI_spec e1
  exact j_getV hX hC hk q hsm d h1 h2 (kk x e1 e2)
theorem j_getL (hX : zGd X own cc nL ret h) (hC : zCls ci C T N ty0) (hk : k < N) (q : Cond.fieldLink own index ref (T k).2.1 (T k).2.2.1 ∈ lw_all) (hsm : ref = (T k).1 ∨ Cond.sameField ref (T k).1 (T k).2.1 (T k).2.2.1 ∈ lw_all) (d : decode cc pc = .ok (.getfield index, 3))
    {α : Type} {f : Int64 → Option α} {o : α} (hf : (gL w ci k r).bind f = some o) (kk : ∀ x, gL w ci k r = some x → f x = some o → zJ X (pc + 3) lv (vL x :: st) w) : zJ X pc lv (vA r :: st) w := by
  obtain ⟨x, e1, e2⟩ := zob hf
  obtain ⟨fs, h1, h2⟩ := gL_spec e1
  exact j_getV hX hC hk q hsm d h1 h2 (kk x e1 e2)
theorem j_getA (hX : zGd X own cc nL ret h) (hC : zCls ci C T N ty0) (hk : k < N) (q : Cond.fieldLink own index ref (T k).2.1 (T k).2.2.1 ∈ lw_all) (hsm : ref = (T k).1 ∨ Cond.sameField ref (T k).1 (T k).2.1 (T k).2.2.1 ∈ lw_all) (d : decode cc pc = .ok (.getfield index, 3))
    {α : Type} {f : Option Nat → Option α} {o : α} (hf : (gA w ci k r).bind f = some o) (kk : ∀ x, gA w ci k r = some x → f x = some o → zJ X (pc + 3) lv (vA x :: st) w) : zJ X pc lv (vA r :: st) w := by
  obtain ⟨x, e1, e2⟩ := zob hf
  obtain ⟨fs, h1, h2⟩ := gA_spec e1
  exact j_getV hX hC hk q hsm d h1 h2 (kk x e1 e2)
theorem j_getIN (hX : zGd X own cc nL ret h) (hC : zCls ci C T N ty0) (hk : k < N) {host : String} (q : Cond.fieldLinkNest own index ref (T k).2.1 (T k).2.2.1 host ∈ lw_tbl) (hsm : ref = (T k).1) (d : decode cc pc = .ok (.getfield index, 3))
    {α : Type} {f : Int32 → Option α} {o : α} (hf : (gI w ci k r).bind f = some o) (kk : ∀ x, gI w ci k r = some x → f x = some o → zJ X (pc + 3) lv (vI x :: st) w) : zJ X pc lv (vA r :: st) w := by
  obtain ⟨x, e1, e2⟩ := zob hf
  obtain ⟨fs, h1, h2⟩ := gI_spec e1
  exact j_getVN hX hC hk q hsm d h1 h2 (kk x e1 e2)
theorem j_getLN (hX : zGd X own cc nL ret h) (hC : zCls ci C T N ty0) (hk : k < N) {host : String} (q : Cond.fieldLinkNest own index ref (T k).2.1 (T k).2.2.1 host ∈ lw_tbl) (hsm : ref = (T k).1) (d : decode cc pc = .ok (.getfield index, 3))
    {α : Type} {f : Int64 → Option α} {o : α} (hf : (gL w ci k r).bind f = some o) (kk : ∀ x, gL w ci k r = some x → f x = some o → zJ X (pc + 3) lv (vL x :: st) w) : zJ X pc lv (vA r :: st) w := by
  obtain ⟨x, e1, e2⟩ := zob hf
  obtain ⟨fs, h1, h2⟩ := gL_spec e1
  exact j_getVN hX hC hk q hsm d h1 h2 (kk x e1 e2)
theorem j_getAN (hX : zGd X own cc nL ret h) (hC : zCls ci C T N ty0) (hk : k < N) {host : String} (q : Cond.fieldLinkNest own index ref (T k).2.1 (T k).2.2.1 host ∈ lw_tbl) (hsm : ref = (T k).1) (d : decode cc pc = .ok (.getfield index, 3))
    {α : Type} {f : Option Nat → Option α} {o : α} (hf : (gA w ci k r).bind f = some o) (kk : ∀ x, gA w ci k r = some x → f x = some o → zJ X (pc + 3) lv (vA x :: st) w) : zJ X pc lv (vA r :: st) w := by
  obtain ⟨x, e1, e2⟩ := zob hf
  obtain ⟨fs, h1, h2⟩ := gA_spec e1
  exact j_getVN hX hC hk q hsm d h1 h2 (kk x e1 e2)
/-- the heap behind a field's store holds the new object -/
theorem zObj_set {K : zK} {s : State} {args : Array Value} {a : Nat} {fs : List zLV} {v : zLV} {H' : Heap} {cell : Cell} {C : String} {T : u_T} {N : Nat} {ty0 : Nat → FieldType} (hts : ∀ w ∈ lw_all, w.before args s = true) (hK : va_K K.1 zCL [] s) (hC : zCls ci C T N ty0) (hk : k < N) (hl : k < fs.length)
    (q2 : cell.cls = K.1.1 ci) (q3 : cell.vm = .none) (q4 : ∀ j, j < N → cell.slots[K.1.2 ci j]? = some (vp_V (fs.map tv) j)) (e1 : H'[a]? = some (cell.setSlot (K.1.2 ci k) (tv v))) : zCell K a (.inr (ci, fs.set k v)) H' := by
  have hap := va_apart (own := "") hts hC.2.1 ty0 hC.2.2.1 hC.2.2.2 hK hC.1
  refine ⟨_, hC.1, ?_⟩
  rw [List.map_set]
  exact t_OB.to (V := updV (vp_V (fs.map tv)) k (tv v)) ⟨_, e1, q2, q3, t_set q4 hap hk (tv v)⟩ (fun j _ => vp_updV_set (by rw [List.length_map]; exact hl) (tv v) j)
theorem zFr_app {K : zK} {locs : List Loc} {a i : Nat} (hlo : ∀ q ∈ locs, zFr K q.base) (ha : K.2.2.1.size ≤ a) : ∀ q ∈ locs ++ [(⟨a, i⟩ : Loc)], zFr K q.base := by
  intro q hq
  rcases List.mem_append.mp hq with h | h
  · exact hlo q h
  · rw [List.mem_singleton.mp h]; exact ha
theorem j_putV (hX : zGd X own cc nL ret h) (hC : zCls ci C T N ty0) (hk : k < N) (q : Cond.fieldLink own index ref (T k).2.1 (T k).2.2.1 ∈ lw_all) (hsm : ref = (T k).1 ∨ Cond.sameField ref (T k).1 (T k).2.1 (T k).2.2.1 ∈ lw_all) (hfin : (T k).2.2.2 = false) (d : decode cc pc = .ok (.putfield index, 3))
    {v : zLV} {w' : zWd} (hn : narrow (ty0 k) (tv v) = tv v) (hfit : fits (ty0 k) (tv v) = true) (h1 : pV w ci k v r = some w') (kk : zJ X (pc + 3) lv st w') : zJ X pc lv (v :: vA r :: st) w := by
  intro H ls locs cells slots hR hl hlo hc hs
  obtain ⟨a, fs, rfl, ha, hl9, rfl⟩ := pV_spec h1
  obtain ⟨hcell, hw⟩ := hR.2.1 a _ _ ha
  obtain ⟨rr, g1, cell, q1, q2, q3, q4⟩ := hcell
  have hr : rr = (C, T, N) := Option.some.inj (g1.symm.trans hC.1)
  subst hr
  obtain ⟨hS, hfc, kC, hkC, hkind⟩ := hX.2.1.2.1.1.1 ci _ hC.1
  obtain ⟨cf, kf, fi, f, hi, hsl⟩ := hS k hk
  have hlay := hX.2.1.1 _ (hC.2.1 _ (u_in_lay hk))
  unfold u_lay at hlay
  rw [if_neg (by rw [hfin]; decide)] at hlay
  have hst := (u_facts hfc hkC (u_lays hX.2.1.1 hC.2.1 hk) hi).1
  have h6 := u_store hfc hkC hkind hlay hi (hC.2.2.1 k hk) hn hfit
  refine W.putK hX.1.1 hX.1.2.1 (f := f) ⟨hX.1.2.2.2.2.2.2, hX.2.1.1 _ q, ⟨_, _, _, zSame hX.2.1.1 hsm _ hi⟩, hst⟩ (by rw [q2]; exact h6) q1 q3 (by rw [hsl]; exact k2_hasslot (q4 k hk)) rfl rfl d fun H' e1 e2 e3 => ?_
  rw [hsl] at e1 ⊢
  exact kk H' ls _ cells slots (zRp_up hR (hw rfl) e2 e3 (zObj_set hX.2.1.1 hX.2.1.2.1.1 hC hk hl9 q2 q3 q4 e1)) hl (zFr_app hlo (hw rfl)) hc hs
theorem j_putVN (hX : zGd X own cc nL ret h) (hC : zCls ci C T N ty0) (hk : k < N) {host : String} (q : Cond.fieldLinkNest own index ref (T k).2.1 (T k).2.2.1 host ∈ lw_tbl) (hsm : ref = (T k).1) (hfin : (T k).2.2.2 = false) (d : decode cc pc = .ok (.putfield index, 3))
    {v : zLV} {w' : zWd} (hn : narrow (ty0 k) (tv v) = tv v) (hfit : fits (ty0 k) (tv v) = true) (h1 : pV w ci k v r = some w') (kk : zJ X (pc + 3) lv st w') : zJ X pc lv (v :: vA r :: st) w := by
  intro H ls locs cells slots hR hl hlo hc hs
  obtain ⟨a, fs, rfl, ha, hl9, rfl⟩ := pV_spec h1
  obtain ⟨hcell, hw⟩ := hR.2.1 a _ _ ha
  obtain ⟨rr, g1, cell, q1, q2, q3, q4⟩ := hcell
  have hr : rr = (C, T, N) := Option.some.inj (g1.symm.trans hC.1)
  subst hr
  obtain ⟨hS, hfc, kC, hkC, hkind⟩ := hX.2.1.2.1.1.1 ci _ hC.1
  obtain ⟨cf, kf, fi, f, hi, hsl⟩ := hS k hk
  have hlay := hX.2.1.1 _ (hC.2.1 _ (u_in_lay hk))
  unfold u_lay at hlay
  rw [if_neg (by rw [hfin]; decide)] at hlay
  have hst := (u_facts hfc hkC (u_lays hX.2.1.1 hC.2.1 hk) hi).1
  have h6 := u_store hfc hkC hkind hlay hi (hC.2.2.1 k hk) hn hfit
  refine va_WputK hX.1.1 hX.1.2.1 (f := f) hX.1.2.2.2.2.2.2 (va_Nw.use rfl (hX.2.1.2.1.2.2.1 _ q rfl)) (zSame hX.2.1.1 (Or.inl hsm) _ hi) hst (by rw [q2]; exact h6) q1 q3 (by rw [hsl]; exact k2_hasslot (q4 k hk)) rfl rfl d fun H' e1 e2 e3 => ?_
  rw [hsl] at e1 ⊢
  exact kk H' ls _ cells slots (zRp_up hR (hw rfl) e2 e3 (zObj_set hX.2.1.1 hX.2.1.2.1.1 hC hk hl9 q2 q3 q4 e1)) hl (zFr_app hlo (hw rfl)) hc hs
theorem j_putVF (hX : zGd X own cc nL ret h) (hI : zIn X) (hC : zCls ci C T N ty0) (hk : k < N) (q : Cond.fieldLink own index ref (T k).2.1 (T k).2.2.1 ∈ lw_all) (hsm : ref = (T k).1) (hfin : (T k).2.2.2 = true) (hdecl : (T k).1 = own) (d : decode cc pc = .ok (.putfield index, 3))
    {v : zLV} {w' : zWd} (hn : narrow (ty0 k) (tv v) = tv v) (hfit : fits (ty0 k) (tv v) = true) (h1 : pV w ci k v r = some w') (kk : zJ X (pc + 3) lv st w') : zJ X pc lv (v :: vA r :: st) w := by
  intro H ls locs cells slots hR hl hlo hc hs
  obtain ⟨a, fs, rfl, ha, hl9, rfl⟩ := pV_spec h1
  obtain ⟨hcell, hw⟩ := hR.2.1 a _ _ ha
  obtain ⟨rr, g1, cell, q1, q2, q3, q4⟩ := hcell
  have hr : rr = (C, T, N) := Option.some.inj (g1.symm.trans hC.1)
  subst hr
  obtain ⟨hS, hfc, kC, hkC, hkind⟩ := hX.2.1.2.1.1.1 ci _ hC.1
  obtain ⟨cf, kf, fi, f, hi, hsl⟩ := hS k hk
  have hlay := hX.2.1.1 _ (hC.2.1 _ (u_in_lay hk))
  unfold u_lay at hlay
  rw [if_pos hfin] at hlay
  have hst := (u_facts hfc hkC (u_lays hX.2.1.1 hC.2.1 hk) hi).1
  have hcf : X.2.1.1.cls = cf := by
    obtain ⟨_, _, c', _, _, _, -, -, hf', -, -, -, hown2, -⟩ := Cond.laysFinal_spec hlay
    have e1 : c' = cf := by have := hi.symm.trans hf'; simp at this; exact this.1.symm
    rw [hdecl] at hown2
    rw [← e1]; exact Option.some.inj (hX.1.2.2.2.2.2.2.symm.trans hown2)
  have h6 := u_fits hfc hkC hkind (Or.inr hlay) hi (hC.2.2.1 k hk) hn hfit
  refine W.putFinK hX.1.1 hX.1.2.1 hX.1.2.2.2.2.2.2 (hX.2.1.1 _ q) (zSame hX.2.1.1 (Or.inl hsm) _ hi) hst hcf hI (by rw [q2]; exact h6) q1 q3 (by rw [hsl]; exact k2_hasslot (q4 k hk)) rfl rfl d fun H' e1 e2 e3 => ?_
  rw [hsl] at e1 ⊢
  exact kk H' ls _ cells slots (zRp_up hR (hw rfl) e2 e3 (zObj_set hX.2.1.1 hX.2.1.2.1.1 hC hk hl9 q2 q3 q4 e1)) hl (zFr_app hlo (hw rfl)) hc hs
end R4
theorem zNa {t : FieldType} (ht : t.isReference = true) (x : Option Nat) : narrow t (tv (vA x)) = tv (vA x) ∧ fits t (tv (vA x)) = true := by
  cases t <;> first
    | exact absurd ht (by decide)
    | (cases x <;> exact ⟨rfl, rfl⟩)
theorem zNz {x : Int32} (hx : x = 0 ∨ x = 1) : narrow .boolean (tv (vI x)) = tv (vI x) ∧ fits .boolean (tv (vI x)) = true := by
  rcases hx with rfl | rfl <;> exact ⟨by decide +kernel, by decide +kernel⟩
