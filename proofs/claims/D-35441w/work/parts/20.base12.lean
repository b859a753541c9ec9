/-! BASE 12: calls of inherited methods; class objects; copies of arrays -/
set_option maxRecDepth 100000
section R8
variable {X : zX} {own : String} {cc : ByteArray} {nL : Nat} {ret : Option FieldType} {h : Nat} {pc : Nat} {lv : List (Option zLV)} {st : List zLV} {w w' w0 : zWd}
variable {y : MethodName} {bytes : ByteArray} {maxL n index hc : Nat} {rt : Option FieldType} {v' : Option zLV} {E : String} {r : Option Nat}
theorem j_callVU (hX : zGd X own cc nL ret h) {ci : Nat} {C owner : String} {x : MethodName} (m : zMt y bytes maxL rt n) (q1 : Cond.methodLink own index x ∈ lw_all) (q2 : Cond.instanceMethod y ∈ lw_all) (q3 : Cond.selects C x y ∈ lw_all) (q5 : Cond.sameMethod x.cls owner x.name x.desc ∈ lw_all) (q6 : (Cond.instanceMethod ⟨owner, x.name, x.desc⟩ ∈ lw_all ∧ ∃ b0 m0 r0, Cond.code ⟨owner, x.name, x.desc⟩ b0 m0 r0 ∈ lw_all) ∨ Cond.declares ⟨owner, x.name, x.desc⟩ ∈ lw_tbl) (how : owner ≠ "java/lang/invoke/MethodHandle" ∧ owner ≠ "java/lang/invoke/VarHandle") (hxy : x.desc = y.desc) (hci : isC w ci r = true) (hC : ∃ q, zCL[ci]? = some q ∧ q.1 = C) (As : List zLV) (hn : As.length = n) {stk : List zLV} (hst : stk = As.reverse ++ vA r :: st) (hcs : zCs st ≤ 20) (hh : hc + 1 ≤ h) (d : decode cc pc = .ok (.invokevirtual index, 3)) 
    (hct : zCt X.1.2.1 y bytes maxL rt hc (vA r :: As) w (.inr (v', w'))) (kk : zJ X (pc + 3) lv (v'.toList ++ st) w') : zJ X pc lv stk w := by
  intro H ls locs cells slots hR hl hlo hc9 hs T hT XS
  subst hst
  subst hn
  obtain ⟨qC, g1, g2⟩ := hC
  subst g2
  cases r with
  | none => cases hci
  | some a =>
    simp only [isC] at hci
    split at hci
    next fl9 c9 fs9 hca =>
      have hcc : c9 = ci := by simpa using hci
      subst hcc
      obtain ⟨rr, a1, cell, b1, b2, b3, -⟩ := (hR.2.1 a _ _ hca).1
      cases g1.symm.trans a1
      have hcls : X.1.2.2.2.2.vm.findClass qC.1 = some cell.cls := by rw [b2]; exact (hX.2.1.2.1.1.1 _ _ g1).2.1
      have hobj : cell.vm.isStatics = false := by rw [b3]; rfl
      have hB : vx_Back X.1.2.1 X.1.2.2.2.1 X.1.1 X.1.2.2.1 X.2.1.2.2.1 X.1.2.2.2.2 X.2.1.2.1 y 3 20 (zPre X.2.2.2.2 (vA (some a) :: As) w X.1.2.2.2.1) (zPoN X.2.2.2.2 w (.inr (v', w'))) (zPoX X.2.2.2.2 w (.inr (v', w'))) := zBack hX.2.2.1 hct (Nat.le_trans hh hX.2.2.2.1) (by have := hX.2.2.2.2; have := m.2.2.2.2; omega) hX.2.1.1 m.1 m.2.1
      have hpre : ∀ vm₁, X.1.2.2.2.2.WarmedH vm₁ → zPre X.2.2.2.2 (vA (some a) :: As) w X.1.2.2.2.1 ⟨T.setVm vm₁, locs, cells, slots⟩ (Value.ref a :: As.map tv).toArray := fun vm₁ hW => ⟨Nat.le_of_eq hc9, Nat.le_of_eq hs, rfl, zKs_moved (U := T.setVm vm₁) hW hX.2.1.2.1, by show zOld _ T.heap; rw [hT]; exact hR.2.2.1, by show zRp _ _ T.heap; rw [hT]; exact hR⟩
      have hsk : (As.reverse ++ vA (some a) :: st).map tv = (As.map tv).reverse ++ Value.ref a :: st.map tv := by simp [List.map_reverse, tv, va_rf]
      have hD := vx_callVU XS hX.1.1 (C := qC.1) (owner := owner) (x := x) (hown := hX.1.2.2.2.2.2.2) (hlink := hX.2.1.1 _ q1) (hinst := hX.2.1.1 _ q2) (hsel := hX.2.1.1 _ q3) (hcode := hX.2.1.1 _ m.1) (hsame := hX.2.1.1 _ q5) (howner := how) (hd0 := by
        rcases q6 with ⟨b1, b0, m0, r0, b2⟩ | b1
        · exact va_Decl.of (hX.2.1.1 _ b1) (hX.2.1.1 _ b2)
        · exact va_Decl.abs (hX.2.1.2.1.2.2.1 _ b1 rfl)) (hcell := by rw [hT]; exact b1) (hobj := hobj) (hcls := hcls) (g := F0 X.2.1.1 pc ls ((As.reverse ++ vA (some a) :: st).map tv)) (hg := rfl) (hsize := by rw [hX.1.2.2.2.2.1, ← hX.1.2.2.2.2.2.1]; exact hl.1) (argsL := As.map tv) (rest := st.map tv) (hlen := fun sig hsig => by rw [List.length_map]; exact zMt_len m (hxy ▸ hsig)) (hstack := hsk) (hW := by show 0 + _ ≤ 20; rw [zCs_eq, Nat.zero_add]; exact hcs) (hdg := by rw [hX.1.2.1]; exact d) (hpre := hpre) (hK := hB)
      exact zAfter hX hl hlo hc9 hs rfl hD kk
    next => cases hci

theorem j_ldcM (hX : zGd X own cc nL ret h) (q : Cond.classLink own index "[Ljava/lang/Object;" ∈ lw_all) (d : decode cc pc = .ok (.ldc index, 2)) {α : Type} {f : Option Nat → Option α} {o : α} (hf : (stA w 4).bind f = some o) (kk : ∀ x, stA w 4 = some x → f x = some o → zJ X (pc + 2) lv (vA x :: st) w) : zJ X pc lv st w := by
  obtain ⟨x, e1, e2⟩ := zob hf
  obtain ⟨mi, a1, a2⟩ := hX.2.1.2.1.2.2.2.2.2.2.2.2.2.1
  intro H ls locs cells slots hR hl hlo hc hs
  have e3 : x = some mi := by
    unfold stA at e1
    rw [hR.2.2.2, a1] at e1
    exact (Option.some.inj e1).symm
  have k9 := kk x e1 e2 H ls locs cells slots hR hl hlo hc hs
  subst e3
  exact va_ldcM hX.1.1 hX.1.2.1 hX.1.2.2.2.2.2.2 (hX.2.1.1 _ q) a2 d k9
/-- the class object of an array of objects -/
def gCA (w : zWd) : Option Nat → Option (Option Nat)
  | none => none
  | some a => match w.1 a with
    | some (_, .inl (2, _, _)) => stA w 4
    | _ => none
def zgN : MethodName := ⟨"java/lang/Object", "getClass", "()Ljava/lang/Class;"⟩
theorem j_getCA (hX : zGd X own cc nL ret h) (q1 : Cond.methodLink own index zgN ∈ lw_all) (q2 : Cond.declares zgN ∈ lw_tbl) (q3 : Cond.selects "[Ljava/lang/Object;" zgN zgN ∈ lw_all) (q4 : Cond.instanceMethod zgN ∈ lw_all) (q5 : Cond.native zgN ∈ lw_all) (hh : 1 ≤ h) (hcs : zCs st ≤ 20) (d : decode cc pc = .ok (.invokevirtual index, 3))
    {α : Type} {f : Option Nat → Option α} {o : α} (hf : (gCA w r).bind f = some o) (kk : ∀ x, gCA w r = some x → f x = some o → zJ X (pc + 3) lv (vA x :: st) w) : zJ X pc lv (vA r :: st) w := by
  obtain ⟨x, e1, e2⟩ := zob hf
  have e0 := e1
  obtain ⟨mi, a1, a2⟩ := hX.2.1.2.1.2.2.2.2.2.2.2.2.2.1
  cases r with
  | none => cases e1
  | some a =>
    simp only [gCA] at e1
    split at e1
    next fl n x9 hca =>
      intro H ls locs cells slots hR hl hlo hc hs
      have e3 : x = some mi := by
        unfold stA at e1
        rw [hR.2.2.2, a1] at e1
        exact (Option.some.inj e1).symm
      have k9 := kk x e0 e2 H ls locs cells slots hR hl hlo hc hs
      subst e3
      obtain ⟨-, -, g3⟩ := (hR.2.1 a _ _ hca).1
      have hfn : X.1.2.2.2.2.vm.findClass "[Ljava/lang/Object;" = some (X.2.2.2.2.2.1 2) := (hX.2.1.2.1.2.1 2 (by decide)).2
      have hhl := hX.2.2.2.2
      exact va_getC (C := "[Ljava/lang/Object;") hX.1.1 hX.1.2.1 (by rw [hX.1.2.2.2.2.1, ← hX.1.2.2.2.2.2.1]; exact hl.1.symm) hX.1.2.2.2.2.2.2 (hX.2.1.1 _ q1) (va_any rfl (hX.2.1.2.1.2.2.1 _ q2 rfl)) (hX.2.1.1 _ q3) (hX.2.1.1 _ q4) (hX.2.1.1 _ q5) a2
        ⟨_, g3, by rcases x9 with u | u | u <;> rfl, by rw [hfn]; rcases x9 with u | u | u <;> rfl⟩ (Nat.le_trans hh hX.2.2.2.1) (by rw [zCs_eq]; omega) d k9
    next => cases e1
/-- a stretch of an array of objects copied -/
def zCopy (w : zWd) (r0 : Option Nat) (sp : Int32) (r1 : Option Nat) (dp n : Int32) : Option zWd := match r0, r1 with
  | some a0, some a1 => match w.1 a0, w.1 a1 with
    | some (_, .inl (2, n0, .inr (.inr f))), some (true, .inl (2, n1, .inr (.inr g))) =>
      if sp < 0 ∨ dp < 0 ∨ n < 0 ∨ n0 < sp.toNatClampNeg + n.toNatClampNeg ∨ n1 < dp.toNatClampNeg + n.toNatClampNeg ∨ ((List.range n.toNatClampNeg).all fun i => zMay w 2 (f (sp.toNatClampNeg + i))) = false then none
      else some (zUp w a1 (.inl (2, n1, .inr (.inr (va_cpy f g sp.toNatClampNeg dp.toNatClampNeg n.toNatClampNeg)))))
    | _, _ => none
  | _, _ => none
theorem zAny (hX : zGd X own cc nL ret h) {H : Heap} (hR : zRp X.2.2.2.2 w H) {v : Nat} (hm : zMay w 2 (some v) = true) : ∃ cellV : Cell, H[v]? = some cellV ∧ (∀ q, cellV.vm ≠ .statics q) ∧ zAs X.2.2.2.2.2.1 2 cellV.cls X.1.2.2.2.2 := by
  simp only [zMay] at hm
  split at hm
  next fl9 p9 hv =>
    obtain ⟨rr, g1, cell, q1, q2, q3, -⟩ := (hR.2.1 v _ _ hv).1
    exact ⟨cell, q1, (fun q h => by rw [q3] at h; cases h), by rw [q2]; exact hX.2.1.2.1.2.2.2.1.1 _ _ g1⟩
  next => simp at hm
  next => cases hm
theorem j_copy (hX : zGd X own cc nL ret h) (q1 : Cond.methodLink own index arraycopyName ∈ lw_all) (q2 : Cond.native arraycopyName ∈ lw_all) (q3 : Cond.static arraycopyName ∈ lw_all) (q4 : Cond.initialized "java/lang/System" ∈ lw_all) (hh : 1 ≤ h) (hcs : zCs st ≤ 20) {r0 r1 : Option Nat} {sp dp n : Int32} (d : decode cc pc = .ok (.invokestatic index, 3))
    {α : Type} {fk : zWd → Option α} {o : α} (hf : (zCopy w r0 sp r1 dp n).bind fk = some o) (kk : ∀ w', fk w' = some o → zJ X (pc + 3) lv st w') : zJ X pc lv (vI n :: vI dp :: vA r1 :: vI sp :: vA r0 :: st) w := by
  obtain ⟨w', e1, e2⟩ := zob hf
  unfold zCopy at e1
  split at e1
  next a0 a =>
    split at e1
    next fl0 n0 f n1 g hc0 hc1 =>
      split at e1
      · cases e1
      next hb =>
        simp only [not_or] at hb
        obtain ⟨h1, h2, h3, h4, h5, h6⟩ := hb
        cases e1
        have hel : ∀ i, i < n.toNatClampNeg → zMay w 2 (f (sp.toNatClampNeg + i)) = true := by
          intro i hi
          have h7 := (Bool.not_eq_false _).mp h6
          exact (List.all_eq_true.mp h7) i (List.mem_range.mpr hi)
        have nn : ∀ z : Int32, ¬ z < 0 → z.toInt = (z.toNatClampNeg : Int) := by
          intro z hz
          have hz0 : (0 : Int) ≤ z.toInt := by
            have := Int32.not_lt.mp hz
            simpa using Int32.le_iff_toInt_le.mp this
          show z.toInt = ((z.toInt.toNat : Nat) : Int)
          omega
        intro H ls locs cells slots hR hl hlo hc9 hs T hT XS
        subst hT
        obtain ⟨-, hrf, g0⟩ := (hR.2.1 a0 _ _ hc0).1
        obtain ⟨⟨-, -, g1⟩, hw⟩ := hR.2.1 a _ _ hc1
        obtain ⟨kA, comp, k1, k2⟩ := zLeaf hX 2 (by decide)
        have hhl := hX.2.2.2.2
        obtain ⟨vm', X', step⟩ := XS.arraycopy hX.1.1 hX.1.2.2.2.2.2.2 (hX.2.1.1 _ q1) (hX.2.1.1 _ q2) (hX.2.1.1 _ q3) (hX.2.1.1 _ q4) (src := a0) (dst := a) (cs := vp_cell (X.2.2.2.2.2.1 2) (n0, zAc (.inr (.inr f)))) (cd := vp_cell (X.2.2.2.2.2.1 2) (n1, zAc (.inr (.inr g)))) (srcPos := sp) (destPos := dp) (n := n) g0 g1
          (fun _ h => by cases h) (fun _ h => by cases h) (fun h => by cases h) (fun h => by cases h) k1 k1 k2 k2 (by decide) h1 h2 h3
          (by rw [nn sp h1, nn n h3]; show ¬ _ > ((arrV _ n0 (fun j => va_rf (f j))).slots.size : Int); rw [arrV_size]; omega)
          (by rw [nn dp h2, nn n h3]; show ¬ _ > ((arrV _ n1 (fun j => va_rf (g j))).slots.size : Int); rw [arrV_size]; omega)
          (fun vm₁ hal i hi => by
            have e : (vp_cell (X.2.2.2.2.2.1 2) (n0, zAc (.inr (.inr f)))).slots.getD (sp.toNatClampNeg + i) .null = va_rf (f (sp.toNatClampNeg + i)) := by
              show (arrV _ n0 (fun j => va_rf (f j))).slots.getD _ _ = _
              rw [Array.getD_eq_getD_getElem?, arrV_read _ _ (by omega)]
              rfl
            rw [e]
            have hy9 := hel i hi
            cases hy : f (sp.toNatClampNeg + i) with
            | none => exact ⟨rfl, trivial⟩
            | some y =>
              rw [hy] at hy9
              obtain ⟨cellV, v1, v2, kA2, comp2, kE, kC, r1, r2, r3, r4, r5⟩ := zAny hX hR hy9
              cases k1.symm.trans r1
              cases k2.symm.trans r2
              obtain ⟨kC', hkC', -⟩ := hal.2.2 _ _ r4
              obtain ⟨kE', hkE', -⟩ := hal.2.2 _ _ r3
              refine ⟨rfl, cellV, v1, v2, ⟨kC', hkC'⟩, ?_, ?_⟩
              · exact ⟨kE', hkE'⟩
              · show vm₁.assignable _ _ = true
                rw [hal.assignable]
                exact r5)
          (g := F0 X.2.1.1 pc ls (.int n :: .int dp :: .ref a :: .int sp :: .ref a0 :: st.map tv)) rfl (by rw [hX.1.2.2.2.2.1, ← hX.1.2.2.2.2.2.1]; exact hl.1) (rest := st.map tv) rfl (by rw [hX.1.2.1]; exact d) (Nat.le_trans hh hX.2.2.2.1) (by show 2 * 0 + _ + _ ≤ _; rw [zCs_eq]; have hw9 : nativeFrameWords "java/lang/System" "arraycopy" 5 ≤ 20 := (by decide); omega)
        have ec : copied (vp_cell (X.2.2.2.2.2.1 2) (n0, zAc (.inr (.inr f)))) (vp_cell (X.2.2.2.2.2.1 2) (n1, zAc (.inr (.inr g)))) sp dp n = vp_cell (X.2.2.2.2.2.1 2) (n1, zAc (.inr (.inr (va_cpy f g sp.toNatClampNeg dp.toNatClampNeg n.toNatClampNeg)))) :=
          va_copied (fun z => va_rf z) _ _ f g (by omega)
        rw [ec] at X' step
        have hl9 : a < T.heap.size := (Array.getElem?_eq_some_iff.mp g1).1
        obtain ⟨t, a1, b1⟩ := kk _ e2 _ ls _ cells slots (zRp_up (H1 := T.heap.setIfInBounds a (vp_cell (X.2.2.2.2.2.1 2) (n1, zAc (.inr (.inr (va_cpy f g sp.toNatClampNeg dp.toNatClampNeg n.toNatClampNeg)))))) hR (hw rfl) (by simp) (fun q hq => by simp [Array.getElem?_setIfInBounds, Ne.symm hq]) ⟨by decide, hrf, by rw [Array.getElem?_setIfInBounds, if_pos rfl, if_pos hl9]⟩) hl (fun q hq => by
          rcases List.mem_append.mp hq with h | h
          · exact hlo q h
          · obtain ⟨z, -, hz⟩ := List.mem_map.mp h
            rw [← hz]
            exact hw rfl) hc9 hs _ rfl X'
        exact ⟨t, step t a1, b1⟩
    next => cases e1
  next => cases e1
end R8
