/-! BASE 8: the rows of calls -/
set_option maxRecDepth 100000
def zCs (st : List zLV) : Nat := (st.map fun v => match v with | .inr (.inl _) => 2 | _ => 1).sum
theorem zCs_eq (st : List zLV) : ((st.map tv).map fun v => v.category).sum = zCs st := by
  unfold zCs
  rw [List.map_map]
  congr 1
  exact List.map_congr_left fun v _ => tv_cat v
/-- a method of n parameters, as the tables have it -/
def zMt (y : MethodName) (bytes : ByteArray) (maxL : Nat) (rt : Option FieldType) (n : Nat) : Prop := Cond.code y bytes maxL rt ∈ lw_all ∧ Cond.initialized y.cls ∈ lw_all ∧ (y.cls ≠ "java/lang/invoke/MethodHandle" ∧ y.cls ≠ "java/lang/invoke/VarHandle") ∧ (parseMethodDescriptor y.desc).map (fun d => d.parameters.length) = some n ∧ maxL ≤ 33
theorem zMt_len {y : MethodName} {bytes : ByteArray} {maxL : Nat} {rt : Option FieldType} {n : Nat} (h : zMt y bytes maxL rt n) {sig : MethodDescriptor} (hs : parseMethodDescriptor y.desc = some sig) : n = sig.parameters.length := by
  have h2 := h.2.2.2.1
  rw [hs] at h2
  exact (Option.some.inj h2).symm
section R8
variable {X : zX} {own : String} {cc : ByteArray} {nL : Nat} {ret : Option FieldType} {h : Nat} {pc : Nat} {lv : List (Option zLV)} {st : List zLV} {w w' w0 : zWd}
variable {y : MethodName} {bytes : ByteArray} {maxL n index hc : Nat} {rt : Option FieldType} {v' : Option zLV} {E : String} {r : Option Nat}
theorem zOut (hX : zGd X own cc nL ret h) (hN : zNh X) (hQ : zFin X w0 (.inl (E, w'))) {T : State} {ls : Array Slot} {locs : List Loc} {cells slots : Nat} {g : JFrame} {a : Array Value} {o : zO} {len : Nat} {rest : List Value}
    (hlo : ∀ q ∈ locs, zFr X.2.2.2.2 q.base) (hc : cells + w.2.2.1 = X.1.2.2.2.1.cells) (hs : slots + w.2.2.2.1 = X.1.2.2.2.1.slots) (ho : o = .inl (E, w')) (hg : { g with stack := rest } = F0 X.2.1.1 pc ls rest)
    (hD : (∃ (v : Option Value) (vm₁ : Vm) (B : Pt), X.1.2.2.2.2.WarmedH vm₁ ∧ Stand X.1.1 X.1.2.1 X.1.2.2.1 X.1.2.2.2.1 X.1.2.2.2.2 X.2.1.1 X.2.1.2.1 X.2.1.2.2.1 X.2.1.2.2.2.1 X.2.1.2.2.2.2 B.U B.locs B.cells B.slots ∧ zPoN X.2.2.2.2 w o ⟨T.setVm vm₁, locs, cells, slots⟩ a v B ∧
        ∀ target, Steps X.1.1.tables X.1.2.2.1 X.2.1.2.2.1 (B.U.setTop { g with pc := g.pc + len, stack := v.toList ++ rest }) target → Steps X.1.1.tables X.1.2.2.1 X.2.1.2.2.1 (T.setTop g) target) ∨
      (∃ (q : Addr) (vm₁ : Vm) (B : Pt), X.1.2.2.2.2.WarmedH vm₁ ∧ Stand X.1.1 X.1.2.1 X.1.2.2.1 X.1.2.2.2.1 X.1.2.2.2.2 X.2.1.1 X.2.1.2.1 X.2.1.2.2.1 X.2.1.2.2.2.1 X.2.1.2.2.2.2 B.U B.locs B.cells B.slots ∧ zPoX X.2.2.2.2 w o ⟨T.setVm vm₁, locs, cells, slots⟩ a q B ∧
        Steps X.1.1.tables X.1.2.2.1 X.2.1.2.2.1 (T.setTop g) ((B.U.setTop { g with stack := rest }).pushFrame (.throwing q)))) : ∃ t, Steps X.1.1.tables X.1.2.2.1 X.2.1.2.2.1 (T.setTop g) t ∧ X.2.2.2.1 t := by
  subst ho
  rcases hD with ⟨v, vm₁, B, -, X', ⟨v9, w9, ho, -⟩, st9⟩ | ⟨q, vm₁, ⟨U', l2, c2, s2⟩, hW1, X', ⟨E9, w9, w'', ce, ho, hth, hce, hcv, hcl, hrp, L, h1, hL, h2, h3⟩, st9⟩
  · cases ho
  · cases ho
    dsimp only [Pt.U, Pt.locs, Pt.cells, Pt.slots] at X' hrp h1 h2 h3 st9 hce hcl
    subst h1
    have hcl' : X.1.2.2.2.2.vm.findClass E = some ce.cls := vx_cls hW1 hcl
    obtain ⟨st1, hrun, hend, hW, hsm⟩ := X'.leaveThrown q (g := F0 X.2.1.1 pc ls rest) rfl rfl rfl (fun x hx => (hN x hx).elim) hX.1.2.2.2.1
    have hcell9 : (U'.setFrames (.throwing q :: X.2.1.2.2.1)).heap[q]? = some ce := hce
    refine ⟨_, st9.trans (by rw [hg]; exact st1), ?_⟩
    rw [hQ.1]
    refine ⟨.threw q, hrun, hend, q, ce, locs ++ L, c2, s2, w'', rfl, hth, hrp, hcell9, hcv, hcl', hW, hsm, fun q hq => (List.mem_append.mp hq).elim (hlo q) (hL q), ?_, ?_⟩
    · rw [h2, hc, hQ.2.1]
    · rw [h3, hs, hQ.2.2]
theorem j_callV (hX : zGd X own cc nL ret h) {ci : Nat} {C : String} (m : zMt y bytes maxL rt n) (q1 : Cond.methodLink own index y ∈ lw_all) (q2 : Cond.instanceMethod y ∈ lw_all) (q3 : Cond.selects C y y ∈ lw_all) (hci : isC w ci r = true) (hC : ∃ q, zCL[ci]? = some q ∧ q.1 = C) (As : List zLV) (hn : As.length = n) {stk : List zLV} (hst : stk = As.reverse ++ vA r :: st) (hcs : zCs st ≤ 20) (hh : hc + 1 ≤ h) (d : decode cc pc = .ok (.invokevirtual index, 3)) 
    (hct : zCt X.1.2.1 y bytes maxL rt hc (vA r :: As) w (.inr (v', w'))) (kk : zJ X (pc + 3) lv (v'.toList ++ st) w') : zJ X pc lv stk w := by
  intro H ls locs cells slots hR hl hlo hc9 hs T hT XS
  subst hst
  subst hn
  obtain ⟨qC, g1, g2⟩ := hC
  subst g2
  cases r with
  | none => cases hci
  | some a =>
    simp only [isC] at hci
    split at hci
    next fl9 c9 fs9 hca =>
      have hcc : c9 = ci := by simpa using hci
      subst hcc
      obtain ⟨rr, a1, cell, b1, b2, b3, -⟩ := (hR.2.1 a _ _ hca).1
      cases g1.symm.trans a1
      have hcls : X.1.2.2.2.2.vm.findClass qC.1 = some cell.cls := by rw [b2]; exact (hX.2.1.2.1.1.1 _ _ g1).2.1
      have hobj : cell.vm.isStatics = false := by rw [b3]; rfl
      have hB : vx_Back X.1.2.1 X.1.2.2.2.1 X.1.1 X.1.2.2.1 X.2.1.2.2.1 X.1.2.2.2.2 X.2.1.2.1 y 3 20 (zPre X.2.2.2.2 (vA (some a) :: As) w X.1.2.2.2.1) (zPoN X.2.2.2.2 w (.inr (v', w'))) (zPoX X.2.2.2.2 w (.inr (v', w'))) := zBack hX.2.2.1 hct (Nat.le_trans hh hX.2.2.2.1) (by have := hX.2.2.2.2; have := m.2.2.2.2; omega) hX.2.1.1 m.1 m.2.1
      have hpre : ∀ vm₁, X.1.2.2.2.2.WarmedH vm₁ → zPre X.2.2.2.2 (vA (some a) :: As) w X.1.2.2.2.1 ⟨T.setVm vm₁, locs, cells, slots⟩ (Value.ref a :: As.map tv).toArray := fun vm₁ hW => ⟨Nat.le_of_eq hc9, Nat.le_of_eq hs, rfl, zKs_moved (U := T.setVm vm₁) hW hX.2.1.2.1, by show zOld _ T.heap; rw [hT]; exact hR.2.2.1, by show zRp _ _ T.heap; rw [hT]; exact hR⟩
      have hsk : (As.reverse ++ vA (some a) :: st).map tv = (As.map tv).reverse ++ Value.ref a :: st.map tv := by simp [List.map_reverse, tv, va_rf]
      have hD := vx_callV XS hX.1.1 (C := qC.1) (hown := hX.1.2.2.2.2.2.2) (hlink := hX.2.1.1 _ q1) (hinst := hX.2.1.1 _ q2) (hsel := hX.2.1.1 _ q3) (hcode := hX.2.1.1 _ m.1) (hy := m.2.2.1) (hcell := by rw [hT]; exact b1) (hobj := hobj) (hcls := hcls) (g := F0 X.2.1.1 pc ls ((As.reverse ++ vA (some a) :: st).map tv)) (hg := rfl) (hsize := by rw [hX.1.2.2.2.2.1, ← hX.1.2.2.2.2.2.1]; exact hl.1) (argsL := As.map tv) (rest := st.map tv) (hlen := fun sig hsig => by rw [List.length_map]; exact zMt_len m hsig) (hstack := hsk) (hW := by show 0 + _ ≤ 20; rw [zCs_eq, Nat.zero_add]; exact hcs) (hdg := by rw [hX.1.2.1]; exact d) (hpre := hpre) (hK := hB)
      exact zAfter hX hl hlo hc9 hs rfl hD kk
    next => cases hci
theorem j_callVX (hX : zGd X own cc nL ret h) {ci : Nat} {C : String} (m : zMt y bytes maxL rt n) (q1 : Cond.methodLink own index y ∈ lw_all) (q2 : Cond.instanceMethod y ∈ lw_all) (q3 : Cond.selects C y y ∈ lw_all) (hci : isC w ci r = true) (hC : ∃ q, zCL[ci]? = some q ∧ q.1 = C) (As : List zLV) (hn : As.length = n) {stk : List zLV} (hst : stk = As.reverse ++ vA r :: st) (hcs : zCs st ≤ 20) (hh : hc + 1 ≤ h) (d : decode cc pc = .ok (.invokevirtual index, 3)) (hN : zNh X) (hQ : zFin X w0 (.inl (E, w')))
    (hct : zCt X.1.2.1 y bytes maxL rt hc (vA r :: As) w (.inl (E, w'))) : zJ X pc lv stk w := by
  intro H ls locs cells slots hR hl hlo hc9 hs T hT XS
  subst hst
  subst hn
  obtain ⟨qC, g1, g2⟩ := hC
  subst g2
  cases r with
  | none => cases hci
  | some a =>
    simp only [isC] at hci
    split at hci
    next fl9 c9 fs9 hca =>
      have hcc : c9 = ci := by simpa using hci
      subst hcc
      obtain ⟨rr, a1, cell, b1, b2, b3, -⟩ := (hR.2.1 a _ _ hca).1
      cases g1.symm.trans a1
      have hcls : X.1.2.2.2.2.vm.findClass qC.1 = some cell.cls := by rw [b2]; exact (hX.2.1.2.1.1.1 _ _ g1).2.1
      have hobj : cell.vm.isStatics = false := by rw [b3]; rfl
      have hB : vx_Back X.1.2.1 X.1.2.2.2.1 X.1.1 X.1.2.2.1 X.2.1.2.2.1 X.1.2.2.2.2 X.2.1.2.1 y 3 20 (zPre X.2.2.2.2 (vA (some a) :: As) w X.1.2.2.2.1) (zPoN X.2.2.2.2 w (.inl (E, w'))) (zPoX X.2.2.2.2 w (.inl (E, w'))) := zBack hX.2.2.1 hct (Nat.le_trans hh hX.2.2.2.1) (by have := hX.2.2.2.2; have := m.2.2.2.2; omega) hX.2.1.1 m.1 m.2.1
      have hpre : ∀ vm₁, X.1.2.2.2.2.WarmedH vm₁ → zPre X.2.2.2.2 (vA (some a) :: As) w X.1.2.2.2.1 ⟨T.setVm vm₁, locs, cells, slots⟩ (Value.ref a :: As.map tv).toArray := fun vm₁ hW => ⟨Nat.le_of_eq hc9, Nat.le_of_eq hs, rfl, zKs_moved (U := T.setVm vm₁) hW hX.2.1.2.1, by show zOld _ T.heap; rw [hT]; exact hR.2.2.1, by show zRp _ _ T.heap; rw [hT]; exact hR⟩
      have hsk : (As.reverse ++ vA (some a) :: st).map tv = (As.map tv).reverse ++ Value.ref a :: st.map tv := by simp [List.map_reverse, tv, va_rf]
      have hD := vx_callV XS hX.1.1 (C := qC.1) (hown := hX.1.2.2.2.2.2.2) (hlink := hX.2.1.1 _ q1) (hinst := hX.2.1.1 _ q2) (hsel := hX.2.1.1 _ q3) (hcode := hX.2.1.1 _ m.1) (hy := m.2.2.1) (hcell := by rw [hT]; exact b1) (hobj := hobj) (hcls := hcls) (g := F0 X.2.1.1 pc ls ((As.reverse ++ vA (some a) :: st).map tv)) (hg := rfl) (hsize := by rw [hX.1.2.2.2.2.1, ← hX.1.2.2.2.2.2.1]; exact hl.1) (argsL := As.map tv) (rest := st.map tv) (hlen := fun sig hsig => by rw [List.length_map]; exact zMt_len m hsig) (hstack := hsk) (hW := by show 0 + _ ≤ 20; rw [zCs_eq, Nat.zero_add]; exact hcs) (hdg := by rw [hX.1.2.1]; exact d) (hpre := hpre) (hK := hB)
      exact zOut hX hN hQ hlo hc9 hs rfl rfl hD
    next => cases hci
theorem j_callVN (hX : zGd X own cc nL ret h) {ci : Nat} {C : String} (m : zMt y bytes maxL rt n) {host : String} (q1 : Cond.methodLinkNest own index y host ∈ lw_tbl) (q2 : Cond.instanceMethod y ∈ lw_all) (q3 : Cond.selects C y y ∈ lw_all) (hci : isC w ci r = true) (hC : ∃ q, zCL[ci]? = some q ∧ q.1 = C) (As : List zLV) (hn : As.length = n) {stk : List zLV} (hst : stk = As.reverse ++ vA r :: st) (hcs : zCs st ≤ 20) (hh : hc + 1 ≤ h) (d : decode cc pc = .ok (.invokevirtual index, 3)) 
    (hct : zCt X.1.2.1 y bytes maxL rt hc (vA r :: As) w (.inr (v', w'))) (kk : zJ X (pc + 3) lv (v'.toList ++ st) w') : zJ X pc lv stk w := by
  intro H ls locs cells slots hR hl hlo hc9 hs T hT XS
  subst hst
  subst hn
  obtain ⟨qC, g1, g2⟩ := hC
  subst g2
  cases r with
  | none => cases hci
  | some a =>
    simp only [isC] at hci
    split at hci
    next fl9 c9 fs9 hca =>
      have hcc : c9 = ci := by simpa using hci
      subst hcc
      obtain ⟨rr, a1, cell, b1, b2, b3, -⟩ := (hR.2.1 a _ _ hca).1
      cases g1.symm.trans a1
      have hcls : X.1.2.2.2.2.vm.findClass qC.1 = some cell.cls := by rw [b2]; exact (hX.2.1.2.1.1.1 _ _ g1).2.1
      have hobj : cell.vm.isStatics = false := by rw [b3]; rfl
      have hB : vx_Back X.1.2.1 X.1.2.2.2.1 X.1.1 X.1.2.2.1 X.2.1.2.2.1 X.1.2.2.2.2 X.2.1.2.1 y 3 20 (zPre X.2.2.2.2 (vA (some a) :: As) w X.1.2.2.2.1) (zPoN X.2.2.2.2 w (.inr (v', w'))) (zPoX X.2.2.2.2 w (.inr (v', w'))) := zBack hX.2.2.1 hct (Nat.le_trans hh hX.2.2.2.1) (by have := hX.2.2.2.2; have := m.2.2.2.2; omega) hX.2.1.1 m.1 m.2.1
      have hpre : ∀ vm₁, X.1.2.2.2.2.WarmedH vm₁ → zPre X.2.2.2.2 (vA (some a) :: As) w X.1.2.2.2.1 ⟨T.setVm vm₁, locs, cells, slots⟩ (Value.ref a :: As.map tv).toArray := fun vm₁ hW => ⟨Nat.le_of_eq hc9, Nat.le_of_eq hs, rfl, zKs_moved (U := T.setVm vm₁) hW hX.2.1.2.1, by show zOld _ T.heap; rw [hT]; exact hR.2.2.1, by show zRp _ _ T.heap; rw [hT]; exact hR⟩
      have hsk : (As.reverse ++ vA (some a) :: st).map tv = (As.map tv).reverse ++ Value.ref a :: st.map tv := by simp [List.map_reverse, tv, va_rf]
      have hD := vx_callVN XS hX.1.1 (C := qC.1) (hown := hX.1.2.2.2.2.2.2) (hlink := va_Nw.use rfl (hX.2.1.2.1.2.2.1 _ q1 rfl)) (hinst := hX.2.1.1 _ q2) (hsel := hX.2.1.1 _ q3) (hcode := hX.2.1.1 _ m.1) (hy := m.2.2.1) (hcell := by rw [hT]; exact b1) (hobj := hobj) (hcls := hcls) (g := F0 X.2.1.1 pc ls ((As.reverse ++ vA (some a) :: st).map tv)) (hg := rfl) (hsize := by rw [hX.1.2.2.2.2.1, ← hX.1.2.2.2.2.2.1]; exact hl.1) (argsL := As.map tv) (rest := st.map tv) (hlen := fun sig hsig => by rw [List.length_map]; exact zMt_len m hsig) (hstack := hsk) (hW := by show 0 + _ ≤ 20; rw [zCs_eq, Nat.zero_add]; exact hcs) (hdg := by rw [hX.1.2.1]; exact d) (hpre := hpre) (hK := hB)
      exact zAfter hX hl hlo hc9 hs rfl hD kk
    next => cases hci
theorem j_callVNX (hX : zGd X own cc nL ret h) {ci : Nat} {C : String} (m : zMt y bytes maxL rt n) {host : String} (q1 : Cond.methodLinkNest own index y host ∈ lw_tbl) (q2 : Cond.instanceMethod y ∈ lw_all) (q3 : Cond.selects C y y ∈ lw_all) (hci : isC w ci r = true) (hC : ∃ q, zCL[ci]? = some q ∧ q.1 = C) (As : List zLV) (hn : As.length = n) {stk : List zLV} (hst : stk = As.reverse ++ vA r :: st) (hcs : zCs st ≤ 20) (hh : hc + 1 ≤ h) (d : decode cc pc = .ok (.invokevirtual index, 3)) (hN : zNh X) (hQ : zFin X w0 (.inl (E, w')))
    (hct : zCt X.1.2.1 y bytes maxL rt hc (vA r :: As) w (.inl (E, w'))) : zJ X pc lv stk w := by
  intro H ls locs cells slots hR hl hlo hc9 hs T hT XS
  subst hst
  subst hn
  obtain ⟨qC, g1, g2⟩ := hC
  subst g2
  cases r with
  | none => cases hci
  | some a =>
    simp only [isC] at hci
    split at hci
    next fl9 c9 fs9 hca =>
      have hcc : c9 = ci := by simpa using hci
      subst hcc
      obtain ⟨rr, a1, cell, b1, b2, b3, -⟩ := (hR.2.1 a _ _ hca).1
      cases g1.symm.trans a1
      have hcls : X.1.2.2.2.2.vm.findClass qC.1 = some cell.cls := by rw [b2]; exact (hX.2.1.2.1.1.1 _ _ g1).2.1
      have hobj : cell.vm.isStatics = false := by rw [b3]; rfl
      have hB : vx_Back X.1.2.1 X.1.2.2.2.1 X.1.1 X.1.2.2.1 X.2.1.2.2.1 X.1.2.2.2.2 X.2.1.2.1 y 3 20 (zPre X.2.2.2.2 (vA (some a) :: As) w X.1.2.2.2.1) (zPoN X.2.2.2.2 w (.inl (E, w'))) (zPoX X.2.2.2.2 w (.inl (E, w'))) := zBack hX.2.2.1 hct (Nat.le_trans hh hX.2.2.2.1) (by have := hX.2.2.2.2; have := m.2.2.2.2; omega) hX.2.1.1 m.1 m.2.1
      have hpre : ∀ vm₁, X.1.2.2.2.2.WarmedH vm₁ → zPre X.2.2.2.2 (vA (some a) :: As) w X.1.2.2.2.1 ⟨T.setVm vm₁, locs, cells, slots⟩ (Value.ref a :: As.map tv).toArray := fun vm₁ hW => ⟨Nat.le_of_eq hc9, Nat.le_of_eq hs, rfl, zKs_moved (U := T.setVm vm₁) hW hX.2.1.2.1, by show zOld _ T.heap; rw [hT]; exact hR.2.2.1, by show zRp _ _ T.heap; rw [hT]; exact hR⟩
      have hsk : (As.reverse ++ vA (some a) :: st).map tv = (As.map tv).reverse ++ Value.ref a :: st.map tv := by simp [List.map_reverse, tv, va_rf]
      have hD := vx_callVN XS hX.1.1 (C := qC.1) (hown := hX.1.2.2.2.2.2.2) (hlink := va_Nw.use rfl (hX.2.1.2.1.2.2.1 _ q1 rfl)) (hinst := hX.2.1.1 _ q2) (hsel := hX.2.1.1 _ q3) (hcode := hX.2.1.1 _ m.1) (hy := m.2.2.1) (hcell := by rw [hT]; exact b1) (hobj := hobj) (hcls := hcls) (g := F0 X.2.1.1 pc ls ((As.reverse ++ vA (some a) :: st).map tv)) (hg := rfl) (hsize := by rw [hX.1.2.2.2.2.1, ← hX.1.2.2.2.2.2.1]; exact hl.1) (argsL := As.map tv) (rest := st.map tv) (hlen := fun sig hsig => by rw [List.length_map]; exact zMt_len m hsig) (hstack := hsk) (hW := by show 0 + _ ≤ 20; rw [zCs_eq, Nat.zero_add]; exact hcs) (hdg := by rw [hX.1.2.1]; exact d) (hpre := hpre) (hK := hB)
      exact zOut hX hN hQ hlo hc9 hs rfl rfl hD
    next => cases hci
theorem j_callS (hX : zGd X own cc nL ret h) (m : zMt y bytes maxL rt n) (q1 : Cond.methodLink own index y ∈ lw_all) (q2 : Cond.static y ∈ lw_all) (As : List zLV) (hn : As.length = n) {stk : List zLV} (hst : stk = As.reverse ++ st) (hcs : zCs st ≤ 20) (hh : hc + 1 ≤ h) (d : decode cc pc = .ok (.invokestatic index, 3)) 
    (hct : zCt X.1.2.1 y bytes maxL rt hc (As) w (.inr (v', w'))) (kk : zJ X (pc + 3) lv (v'.toList ++ st) w') : zJ X pc lv stk w := by
  intro H ls locs cells slots hR hl hlo hc9 hs T hT XS
  subst hst
  subst hn
  have hB : vx_Back X.1.2.1 X.1.2.2.2.1 X.1.1 X.1.2.2.1 X.2.1.2.2.1 X.1.2.2.2.2 X.2.1.2.1 y 3 20 (zPre X.2.2.2.2 As w X.1.2.2.2.1) (zPoN X.2.2.2.2 w (.inr (v', w'))) (zPoX X.2.2.2.2 w (.inr (v', w'))) := zBack hX.2.2.1 hct (Nat.le_trans hh hX.2.2.2.1) (by have := hX.2.2.2.2; have := m.2.2.2.2; omega) hX.2.1.1 m.1 m.2.1
  have hpre : ∀ vm₁, X.1.2.2.2.2.WarmedH vm₁ → zPre X.2.2.2.2 As w X.1.2.2.2.1 ⟨T.setVm vm₁, locs, cells, slots⟩ (As.map tv).toArray := fun vm₁ hW => ⟨Nat.le_of_eq hc9, Nat.le_of_eq hs, rfl, zKs_moved (U := T.setVm vm₁) hW hX.2.1.2.1, by show zOld _ T.heap; rw [hT]; exact hR.2.2.1, by show zRp _ _ T.heap; rw [hT]; exact hR⟩
  have hsk : (As.reverse ++ st).map tv = (As.map tv).reverse ++ st.map tv := by simp [List.map_reverse, tv, va_rf]
  have hD := vx_callS XS hX.1.1 (hown := hX.1.2.2.2.2.2.2) (hlink := hX.2.1.1 _ q1) (hstat := hX.2.1.1 _ q2) (hinit := hX.2.1.1 _ m.2.1) (hcode := hX.2.1.1 _ m.1) (hy := m.2.2.1) (g := F0 X.2.1.1 pc ls ((As.reverse ++ st).map tv)) (hg := rfl) (hsize := by rw [hX.1.2.2.2.2.1, ← hX.1.2.2.2.2.2.1]; exact hl.1) (argsL := As.map tv) (rest := st.map tv) (hlen := fun sig hsig => by rw [List.length_map]; exact zMt_len m hsig) (hstack := hsk) (hW := by show 0 + _ ≤ 20; rw [zCs_eq, Nat.zero_add]; exact hcs) (hdg := by rw [hX.1.2.1]; exact d) (hpre := hpre) (hK := hB)
  exact zAfter hX hl hlo hc9 hs rfl hD kk
theorem j_callSX (hX : zGd X own cc nL ret h) (m : zMt y bytes maxL rt n) (q1 : Cond.methodLink own index y ∈ lw_all) (q2 : Cond.static y ∈ lw_all) (As : List zLV) (hn : As.length = n) {stk : List zLV} (hst : stk = As.reverse ++ st) (hcs : zCs st ≤ 20) (hh : hc + 1 ≤ h) (d : decode cc pc = .ok (.invokestatic index, 3)) (hN : zNh X) (hQ : zFin X w0 (.inl (E, w')))
    (hct : zCt X.1.2.1 y bytes maxL rt hc (As) w (.inl (E, w'))) : zJ X pc lv stk w := by
  intro H ls locs cells slots hR hl hlo hc9 hs T hT XS
  subst hst
  subst hn
  have hB : vx_Back X.1.2.1 X.1.2.2.2.1 X.1.1 X.1.2.2.1 X.2.1.2.2.1 X.1.2.2.2.2 X.2.1.2.1 y 3 20 (zPre X.2.2.2.2 As w X.1.2.2.2.1) (zPoN X.2.2.2.2 w (.inl (E, w'))) (zPoX X.2.2.2.2 w (.inl (E, w'))) := zBack hX.2.2.1 hct (Nat.le_trans hh hX.2.2.2.1) (by have := hX.2.2.2.2; have := m.2.2.2.2; omega) hX.2.1.1 m.1 m.2.1
  have hpre : ∀ vm₁, X.1.2.2.2.2.WarmedH vm₁ → zPre X.2.2.2.2 As w X.1.2.2.2.1 ⟨T.setVm vm₁, locs, cells, slots⟩ (As.map tv).toArray := fun vm₁ hW => ⟨Nat.le_of_eq hc9, Nat.le_of_eq hs, rfl, zKs_moved (U := T.setVm vm₁) hW hX.2.1.2.1, by show zOld _ T.heap; rw [hT]; exact hR.2.2.1, by show zRp _ _ T.heap; rw [hT]; exact hR⟩
  have hsk : (As.reverse ++ st).map tv = (As.map tv).reverse ++ st.map tv := by simp [List.map_reverse, tv, va_rf]
  have hD := vx_callS XS hX.1.1 (hown := hX.1.2.2.2.2.2.2) (hlink := hX.2.1.1 _ q1) (hstat := hX.2.1.1 _ q2) (hinit := hX.2.1.1 _ m.2.1) (hcode := hX.2.1.1 _ m.1) (hy := m.2.2.1) (g := F0 X.2.1.1 pc ls ((As.reverse ++ st).map tv)) (hg := rfl) (hsize := by rw [hX.1.2.2.2.2.1, ← hX.1.2.2.2.2.2.1]; exact hl.1) (argsL := As.map tv) (rest := st.map tv) (hlen := fun sig hsig => by rw [List.length_map]; exact zMt_len m hsig) (hstack := hsk) (hW := by show 0 + _ ≤ 20; rw [zCs_eq, Nat.zero_add]; exact hcs) (hdg := by rw [hX.1.2.1]; exact d) (hpre := hpre) (hK := hB)
  exact zOut hX hN hQ hlo hc9 hs rfl rfl hD
theorem j_callSN (hX : zGd X own cc nL ret h) (m : zMt y bytes maxL rt n) {host : String} (q1 : Cond.methodLinkNest own index y host ∈ lw_tbl) (q2 : Cond.static y ∈ lw_all) (As : List zLV) (hn : As.length = n) {stk : List zLV} (hst : stk = As.reverse ++ st) (hcs : zCs st ≤ 20) (hh : hc + 1 ≤ h) (d : decode cc pc = .ok (.invokestatic index, 3)) 
    (hct : zCt X.1.2.1 y bytes maxL rt hc (As) w (.inr (v', w'))) (kk : zJ X (pc + 3) lv (v'.toList ++ st) w') : zJ X pc lv stk w := by
  intro H ls locs cells slots hR hl hlo hc9 hs T hT XS
  subst hst
  subst hn
  have hB : vx_Back X.1.2.1 X.1.2.2.2.1 X.1.1 X.1.2.2.1 X.2.1.2.2.1 X.1.2.2.2.2 X.2.1.2.1 y 3 20 (zPre X.2.2.2.2 As w X.1.2.2.2.1) (zPoN X.2.2.2.2 w (.inr (v', w'))) (zPoX X.2.2.2.2 w (.inr (v', w'))) := zBack hX.2.2.1 hct (Nat.le_trans hh hX.2.2.2.1) (by have := hX.2.2.2.2; have := m.2.2.2.2; omega) hX.2.1.1 m.1 m.2.1
  have hpre : ∀ vm₁, X.1.2.2.2.2.WarmedH vm₁ → zPre X.2.2.2.2 As w X.1.2.2.2.1 ⟨T.setVm vm₁, locs, cells, slots⟩ (As.map tv).toArray := fun vm₁ hW => ⟨Nat.le_of_eq hc9, Nat.le_of_eq hs, rfl, zKs_moved (U := T.setVm vm₁) hW hX.2.1.2.1, by show zOld _ T.heap; rw [hT]; exact hR.2.2.1, by show zRp _ _ T.heap; rw [hT]; exact hR⟩
  have hsk : (As.reverse ++ st).map tv = (As.map tv).reverse ++ st.map tv := by simp [List.map_reverse, tv, va_rf]
  have hD := vx_callSN XS hX.1.1 (hown := hX.1.2.2.2.2.2.2) (hlink := va_Nw.use rfl (hX.2.1.2.1.2.2.1 _ q1 rfl)) (hstat := hX.2.1.1 _ q2) (hinit := hX.2.1.1 _ m.2.1) (hcode := hX.2.1.1 _ m.1) (hy := m.2.2.1) (g := F0 X.2.1.1 pc ls ((As.reverse ++ st).map tv)) (hg := rfl) (hsize := by rw [hX.1.2.2.2.2.1, ← hX.1.2.2.2.2.2.1]; exact hl.1) (argsL := As.map tv) (rest := st.map tv) (hlen := fun sig hsig => by rw [List.length_map]; exact zMt_len m hsig) (hstack := hsk) (hW := by show 0 + _ ≤ 20; rw [zCs_eq, Nat.zero_add]; exact hcs) (hdg := by rw [hX.1.2.1]; exact d) (hpre := hpre) (hK := hB)
  exact zAfter hX hl hlo hc9 hs rfl hD kk
theorem j_callSNX (hX : zGd X own cc nL ret h) (m : zMt y bytes maxL rt n) {host : String} (q1 : Cond.methodLinkNest own index y host ∈ lw_tbl) (q2 : Cond.static y ∈ lw_all) (As : List zLV) (hn : As.length = n) {stk : List zLV} (hst : stk = As.reverse ++ st) (hcs : zCs st ≤ 20) (hh : hc + 1 ≤ h) (d : decode cc pc = .ok (.invokestatic index, 3)) (hN : zNh X) (hQ : zFin X w0 (.inl (E, w')))
    (hct : zCt X.1.2.1 y bytes maxL rt hc (As) w (.inl (E, w'))) : zJ X pc lv stk w := by
  intro H ls locs cells slots hR hl hlo hc9 hs T hT XS
  subst hst
  subst hn
  have hB : vx_Back X.1.2.1 X.1.2.2.2.1 X.1.1 X.1.2.2.1 X.2.1.2.2.1 X.1.2.2.2.2 X.2.1.2.1 y 3 20 (zPre X.2.2.2.2 As w X.1.2.2.2.1) (zPoN X.2.2.2.2 w (.inl (E, w'))) (zPoX X.2.2.2.2 w (.inl (E, w'))) := zBack hX.2.2.1 hct (Nat.le_trans hh hX.2.2.2.1) (by have := hX.2.2.2.2; have := m.2.2.2.2; omega) hX.2.1.1 m.1 m.2.1
  have hpre : ∀ vm₁, X.1.2.2.2.2.WarmedH vm₁ → zPre X.2.2.2.2 As w X.1.2.2.2.1 ⟨T.setVm vm₁, locs, cells, slots⟩ (As.map tv).toArray := fun vm₁ hW => ⟨Nat.le_of_eq hc9, Nat.le_of_eq hs, rfl, zKs_moved (U := T.setVm vm₁) hW hX.2.1.2.1, by show zOld _ T.heap; rw [hT]; exact hR.2.2.1, by show zRp _ _ T.heap; rw [hT]; exact hR⟩
  have hsk : (As.reverse ++ st).map tv = (As.map tv).reverse ++ st.map tv := by simp [List.map_reverse, tv, va_rf]
  have hD := vx_callSN XS hX.1.1 (hown := hX.1.2.2.2.2.2.2) (hlink := va_Nw.use rfl (hX.2.1.2.1.2.2.1 _ q1 rfl)) (hstat := hX.2.1.1 _ q2) (hinit := hX.2.1.1 _ m.2.1) (hcode := hX.2.1.1 _ m.1) (hy := m.2.2.1) (g := F0 X.2.1.1 pc ls ((As.reverse ++ st).map tv)) (hg := rfl) (hsize := by rw [hX.1.2.2.2.2.1, ← hX.1.2.2.2.2.2.1]; exact hl.1) (argsL := As.map tv) (rest := st.map tv) (hlen := fun sig hsig => by rw [List.length_map]; exact zMt_len m hsig) (hstack := hsk) (hW := by show 0 + _ ≤ 20; rw [zCs_eq, Nat.zero_add]; exact hcs) (hdg := by rw [hX.1.2.1]; exact d) (hpre := hpre) (hK := hB)
  exact zOut hX hN hQ hlo hc9 hs rfl rfl hD
theorem j_callI (hX : zGd X own cc nL ret h) (m : zMt y bytes maxL rt n) (q1 : Cond.methodLink own index y ∈ lw_all) (q2 : Cond.instanceMethod y ∈ lw_all) (hy1 : y.name = "<init>") (hrt : rt = none) (As : List zLV) (hn : As.length = n) {stk : List zLV} (hst : stk = As.reverse ++ vA r :: st) (hcs : zCs st ≤ 20) (hh : hc + 1 ≤ h) (d : decode cc pc = .ok (.invokespecial index, 3)) (hr : r ≠ none) 
    (hct : zCt X.1.2.1 y bytes maxL rt hc (vA r :: As) w (.inr (v', w'))) (kk : zJ X (pc + 3) lv (v'.toList ++ st) w') : zJ X pc lv stk w := by
  intro H ls locs cells slots hR hl hlo hc9 hs T hT XS
  subst hst
  subst hn
  cases r with
  | none => exact absurd rfl hr
  | some a =>
    have hB : vx_Back X.1.2.1 X.1.2.2.2.1 X.1.1 X.1.2.2.1 X.2.1.2.2.1 X.1.2.2.2.2 X.2.1.2.1 y 3 20 (zPre X.2.2.2.2 (vA (some a) :: As) w X.1.2.2.2.1) (zPoN X.2.2.2.2 w (.inr (v', w'))) (zPoX X.2.2.2.2 w (.inr (v', w'))) := zBack hX.2.2.1 hct (Nat.le_trans hh hX.2.2.2.1) (by have := hX.2.2.2.2; have := m.2.2.2.2; omega) hX.2.1.1 m.1 m.2.1
    have hpre : ∀ vm₁, X.1.2.2.2.2.WarmedH vm₁ → zPre X.2.2.2.2 (vA (some a) :: As) w X.1.2.2.2.1 ⟨T.setVm vm₁, locs, cells, slots⟩ (Value.ref a :: As.map tv).toArray := fun vm₁ hW => ⟨Nat.le_of_eq hc9, Nat.le_of_eq hs, rfl, zKs_moved (U := T.setVm vm₁) hW hX.2.1.2.1, by show zOld _ T.heap; rw [hT]; exact hR.2.2.1, by show zRp _ _ T.heap; rw [hT]; exact hR⟩
    have hsk : (As.reverse ++ vA (some a) :: st).map tv = (As.map tv).reverse ++ Value.ref a :: st.map tv := by simp [List.map_reverse, tv, va_rf]
    have hD := vx_callI XS hX.1.1 (hown := hX.1.2.2.2.2.2.2) (hy1 := hy1) (hlink := hX.2.1.1 _ q1) (hinst := hX.2.1.1 _ q2) (hcode := hX.2.1.1 _ (hrt ▸ m.1)) (hy := m.2.2.1) (a := a) (g := F0 X.2.1.1 pc ls ((As.reverse ++ vA (some a) :: st).map tv)) (hg := rfl) (hsize := by rw [hX.1.2.2.2.2.1, ← hX.1.2.2.2.2.2.1]; exact hl.1) (argsL := As.map tv) (rest := st.map tv) (hlen := fun sig hsig => by rw [List.length_map]; exact zMt_len m hsig) (hstack := hsk) (hW := by show 0 + _ ≤ 20; rw [zCs_eq, Nat.zero_add]; exact hcs) (hdg := by rw [hX.1.2.1]; exact d) (hpre := hpre) (hK := hB)
    exact zAfter hX hl hlo hc9 hs rfl hD kk
theorem j_callIX (hX : zGd X own cc nL ret h) (m : zMt y bytes maxL rt n) (q1 : Cond.methodLink own index y ∈ lw_all) (q2 : Cond.instanceMethod y ∈ lw_all) (hy1 : y.name = "<init>") (hrt : rt = none) (As : List zLV) (hn : As.length = n) {stk : List zLV} (hst : stk = As.reverse ++ vA r :: st) (hcs : zCs st ≤ 20) (hh : hc + 1 ≤ h) (d : decode cc pc = .ok (.invokespecial index, 3)) (hr : r ≠ none) (hN : zNh X) (hQ : zFin X w0 (.inl (E, w')))
    (hct : zCt X.1.2.1 y bytes maxL rt hc (vA r :: As) w (.inl (E, w'))) : zJ X pc lv stk w := by
  intro H ls locs cells slots hR hl hlo hc9 hs T hT XS
  subst hst
  subst hn
  cases r with
  | none => exact absurd rfl hr
  | some a =>
    have hB : vx_Back X.1.2.1 X.1.2.2.2.1 X.1.1 X.1.2.2.1 X.2.1.2.2.1 X.1.2.2.2.2 X.2.1.2.1 y 3 20 (zPre X.2.2.2.2 (vA (some a) :: As) w X.1.2.2.2.1) (zPoN X.2.2.2.2 w (.inl (E, w'))) (zPoX X.2.2.2.2 w (.inl (E, w'))) := zBack hX.2.2.1 hct (Nat.le_trans hh hX.2.2.2.1) (by have := hX.2.2.2.2; have := m.2.2.2.2; omega) hX.2.1.1 m.1 m.2.1
    have hpre : ∀ vm₁, X.1.2.2.2.2.WarmedH vm₁ → zPre X.2.2.2.2 (vA (some a) :: As) w X.1.2.2.2.1 ⟨T.setVm vm₁, locs, cells, slots⟩ (Value.ref a :: As.map tv).toArray := fun vm₁ hW => ⟨Nat.le_of_eq hc9, Nat.le_of_eq hs, rfl, zKs_moved (U := T.setVm vm₁) hW hX.2.1.2.1, by show zOld _ T.heap; rw [hT]; exact hR.2.2.1, by show zRp _ _ T.heap; rw [hT]; exact hR⟩
    have hsk : (As.reverse ++ vA (some a) :: st).map tv = (As.map tv).reverse ++ Value.ref a :: st.map tv := by simp [List.map_reverse, tv, va_rf]
    have hD := vx_callI XS hX.1.1 (hown := hX.1.2.2.2.2.2.2) (hy1 := hy1) (hlink := hX.2.1.1 _ q1) (hinst := hX.2.1.1 _ q2) (hcode := hX.2.1.1 _ (hrt ▸ m.1)) (hy := m.2.2.1) (a := a) (g := F0 X.2.1.1 pc ls ((As.reverse ++ vA (some a) :: st).map tv)) (hg := rfl) (hsize := by rw [hX.1.2.2.2.2.1, ← hX.1.2.2.2.2.2.1]; exact hl.1) (argsL := As.map tv) (rest := st.map tv) (hlen := fun sig hsig => by rw [List.length_map]; exact zMt_len m hsig) (hstack := hsk) (hW := by show 0 + _ ≤ 20; rw [zCs_eq, Nat.zero_add]; exact hcs) (hdg := by rw [hX.1.2.1]; exact d) (hpre := hpre) (hK := hB)
    exact zOut hX hN hQ hlo hc9 hs rfl rfl hD
theorem j_callIN (hX : zGd X own cc nL ret h) (m : zMt y bytes maxL rt n) {host : String} (q1 : Cond.methodLinkNest own index y host ∈ lw_tbl) (q2 : Cond.instanceMethod y ∈ lw_all) (hy1 : y.name = "<init>") (hrt : rt = none) (As : List zLV) (hn : As.length = n) {stk : List zLV} (hst : stk = As.reverse ++ vA r :: st) (hcs : zCs st ≤ 20) (hh : hc + 1 ≤ h) (d : decode cc pc = .ok (.invokespecial index, 3)) (hr : r ≠ none) 
    (hct : zCt X.1.2.1 y bytes maxL rt hc (vA r :: As) w (.inr (v', w'))) (kk : zJ X (pc + 3) lv (v'.toList ++ st) w') : zJ X pc lv stk w := by
  intro H ls locs cells slots hR hl hlo hc9 hs T hT XS
  subst hst
  subst hn
  cases r with
  | none => exact absurd rfl hr
  | some a =>
    have hB : vx_Back X.1.2.1 X.1.2.2.2.1 X.1.1 X.1.2.2.1 X.2.1.2.2.1 X.1.2.2.2.2 X.2.1.2.1 y 3 20 (zPre X.2.2.2.2 (vA (some a) :: As) w X.1.2.2.2.1) (zPoN X.2.2.2.2 w (.inr (v', w'))) (zPoX X.2.2.2.2 w (.inr (v', w'))) := zBack hX.2.2.1 hct (Nat.le_trans hh hX.2.2.2.1) (by have := hX.2.2.2.2; have := m.2.2.2.2; omega) hX.2.1.1 m.1 m.2.1
    have hpre : ∀ vm₁, X.1.2.2.2.2.WarmedH vm₁ → zPre X.2.2.2.2 (vA (some a) :: As) w X.1.2.2.2.1 ⟨T.setVm vm₁, locs, cells, slots⟩ (Value.ref a :: As.map tv).toArray := fun vm₁ hW => ⟨Nat.le_of_eq hc9, Nat.le_of_eq hs, rfl, zKs_moved (U := T.setVm vm₁) hW hX.2.1.2.1, by show zOld _ T.heap; rw [hT]; exact hR.2.2.1, by show zRp _ _ T.heap; rw [hT]; exact hR⟩
    have hsk : (As.reverse ++ vA (some a) :: st).map tv = (As.map tv).reverse ++ Value.ref a :: st.map tv := by simp [List.map_reverse, tv, va_rf]
    have hD := vx_callIN XS hX.1.1 (hown := hX.1.2.2.2.2.2.2) (hy1 := hy1) (hlink := va_Nw.use rfl (hX.2.1.2.1.2.2.1 _ q1 rfl)) (hinst := hX.2.1.1 _ q2) (hcode := hX.2.1.1 _ (hrt ▸ m.1)) (hy := m.2.2.1) (a := a) (g := F0 X.2.1.1 pc ls ((As.reverse ++ vA (some a) :: st).map tv)) (hg := rfl) (hsize := by rw [hX.1.2.2.2.2.1, ← hX.1.2.2.2.2.2.1]; exact hl.1) (argsL := As.map tv) (rest := st.map tv) (hlen := fun sig hsig => by rw [List.length_map]; exact zMt_len m hsig) (hstack := hsk) (hW := by show 0 + _ ≤ 20; rw [zCs_eq, Nat.zero_add]; exact hcs) (hdg := by rw [hX.1.2.1]; exact d) (hpre := hpre) (hK := hB)
    exact zAfter hX hl hlo hc9 hs rfl hD kk
theorem j_callINX (hX : zGd X own cc nL ret h) (m : zMt y bytes maxL rt n) {host : String} (q1 : Cond.methodLinkNest own index y host ∈ lw_tbl) (q2 : Cond.instanceMethod y ∈ lw_all) (hy1 : y.name = "<init>") (hrt : rt = none) (As : List zLV) (hn : As.length = n) {stk : List zLV} (hst : stk = As.reverse ++ vA r :: st) (hcs : zCs st ≤ 20) (hh : hc + 1 ≤ h) (d : decode cc pc = .ok (.invokespecial index, 3)) (hr : r ≠ none) (hN : zNh X) (hQ : zFin X w0 (.inl (E, w')))
    (hct : zCt X.1.2.1 y bytes maxL rt hc (vA r :: As) w (.inl (E, w'))) : zJ X pc lv stk w := by
  intro H ls locs cells slots hR hl hlo hc9 hs T hT XS
  subst hst
  subst hn
  cases r with
  | none => exact absurd rfl hr
  | some a =>
    have hB : vx_Back X.1.2.1 X.1.2.2.2.1 X.1.1 X.1.2.2.1 X.2.1.2.2.1 X.1.2.2.2.2 X.2.1.2.1 y 3 20 (zPre X.2.2.2.2 (vA (some a) :: As) w X.1.2.2.2.1) (zPoN X.2.2.2.2 w (.inl (E, w'))) (zPoX X.2.2.2.2 w (.inl (E, w'))) := zBack hX.2.2.1 hct (Nat.le_trans hh hX.2.2.2.1) (by have := hX.2.2.2.2; have := m.2.2.2.2; omega) hX.2.1.1 m.1 m.2.1
    have hpre : ∀ vm₁, X.1.2.2.2.2.WarmedH vm₁ → zPre X.2.2.2.2 (vA (some a) :: As) w X.1.2.2.2.1 ⟨T.setVm vm₁, locs, cells, slots⟩ (Value.ref a :: As.map tv).toArray := fun vm₁ hW => ⟨Nat.le_of_eq hc9, Nat.le_of_eq hs, rfl, zKs_moved (U := T.setVm vm₁) hW hX.2.1.2.1, by show zOld _ T.heap; rw [hT]; exact hR.2.2.1, by show zRp _ _ T.heap; rw [hT]; exact hR⟩
    have hsk : (As.reverse ++ vA (some a) :: st).map tv = (As.map tv).reverse ++ Value.ref a :: st.map tv := by simp [List.map_reverse, tv, va_rf]
    have hD := vx_callIN XS hX.1.1 (hown := hX.1.2.2.2.2.2.2) (hy1 := hy1) (hlink := va_Nw.use rfl (hX.2.1.2.1.2.2.1 _ q1 rfl)) (hinst := hX.2.1.1 _ q2) (hcode := hX.2.1.1 _ (hrt ▸ m.1)) (hy := m.2.2.1) (a := a) (g := F0 X.2.1.1 pc ls ((As.reverse ++ vA (some a) :: st).map tv)) (hg := rfl) (hsize := by rw [hX.1.2.2.2.2.1, ← hX.1.2.2.2.2.2.1]; exact hl.1) (argsL := As.map tv) (rest := st.map tv) (hlen := fun sig hsig => by rw [List.length_map]; exact zMt_len m hsig) (hstack := hsk) (hW := by show 0 + _ ≤ 20; rw [zCs_eq, Nat.zero_add]; exact hcs) (hdg := by rw [hX.1.2.1]; exact d) (hpre := hpre) (hK := hB)
    exact zOut hX hN hQ hlo hc9 hs rfl rfl hD
theorem j_callF (hX : zGd X own cc nL ret h) {ci : Nat} {C : String} {x : MethodName} {count : Nat} (m : zMt y bytes maxL rt n) (q1 : Cond.methodLink own index x ∈ lw_all) (q2 : Cond.instanceMethod y ∈ lw_all) (q3 : Cond.selects C x y ∈ lw_all) (q4 : (C, x, y) ∈ zFwl) (hxy : x.desc = y.desc) (hci : isC w ci r = true) (hC : ∃ q, zCL[ci]? = some q ∧ q.1 = C) (As : List zLV) (hn : As.length = n) {stk : List zLV} (hst : stk = As.reverse ++ vA r :: st) (hcs : zCs st ≤ 20) (hh : hc + 1 ≤ h) (d : decode cc pc = .ok (.invokeinterface index count, 5)) 
    (hct : zCt X.1.2.1 y bytes maxL rt hc (vA r :: As) w (.inr (v', w'))) (kk : zJ X (pc + 5) lv (v'.toList ++ st) w') : zJ X pc lv stk w := by
  intro H ls locs cells slots hR hl hlo hc9 hs T hT XS
  subst hst
  subst hn
  obtain ⟨qC, g1, g2⟩ := hC
  subst g2
  cases r with
  | none => cases hci
  | some a =>
    simp only [isC] at hci
    split at hci
    next fl9 c9 fs9 hca =>
      have hcc : c9 = ci := by simpa using hci
      subst hcc
      obtain ⟨rr, a1, cell, b1, b2, b3, -⟩ := (hR.2.1 a _ _ hca).1
      cases g1.symm.trans a1
      have hcls : X.1.2.2.2.2.vm.findClass qC.1 = some cell.cls := by rw [b2]; exact (hX.2.1.2.1.1.1 _ _ g1).2.1
      have hobj : cell.vm.isStatics = false := by rw [b3]; rfl
      have hB : vx_Back X.1.2.1 X.1.2.2.2.1 X.1.1 X.1.2.2.1 X.2.1.2.2.1 X.1.2.2.2.2 X.2.1.2.1 y 5 20 (zPre X.2.2.2.2 (vA (some a) :: As) w X.1.2.2.2.1) (zPoN X.2.2.2.2 w (.inr (v', w'))) (zPoX X.2.2.2.2 w (.inr (v', w'))) := zBack hX.2.2.1 hct (Nat.le_trans hh hX.2.2.2.1) (by have := hX.2.2.2.2; have := m.2.2.2.2; omega) hX.2.1.1 m.1 m.2.1
      have hpre : ∀ vm₁, X.1.2.2.2.2.WarmedH vm₁ → zPre X.2.2.2.2 (vA (some a) :: As) w X.1.2.2.2.1 ⟨T.setVm vm₁, locs, cells, slots⟩ (Value.ref a :: As.map tv).toArray := fun vm₁ hW => ⟨Nat.le_of_eq hc9, Nat.le_of_eq hs, rfl, zKs_moved (U := T.setVm vm₁) hW hX.2.1.2.1, by show zOld _ T.heap; rw [hT]; exact hR.2.2.1, by show zRp _ _ T.heap; rw [hT]; exact hR⟩
      have hsk : (As.reverse ++ vA (some a) :: st).map tv = (As.map tv).reverse ++ Value.ref a :: st.map tv := by simp [List.map_reverse, tv, va_rf]
      have hF := hX.2.1.2.1.2.2.2.2.2.2.1 _ q4
      obtain ⟨kB, hkB, -⟩ : ∃ kB, X.1.2.2.2.2.vm.classes[cell.cls]? = some kB ∧ True := by
        rw [b2]
        obtain ⟨-, kC, hkC, -⟩ := (hX.2.1.2.1.1.1 _ _ g1).2
        exact ⟨kC, hkC, trivial⟩
      have hD := vx_callIF (C := qC.1) XS hX.1.1 (hown := hX.1.2.2.2.2.2.2) (hlink := hX.2.1.1 _ q1) (hdecl := va_any rfl hF.1) (hface := va_any rfl hF.2.1) (hsel := hX.2.1.1 _ q3) (hinst := hX.2.1.1 _ q2) (hpub := va_any rfl hF.2.2.1) (hunh := va_any rfl hF.2.2.2.1) (hcast := va_any rfl hF.2.2.2.2) (hcode := hX.2.1.1 _ m.1) (hx := zFwl_ok _ q4) (hcell := by rw [hT]; exact b1) (hobj := hobj) (hcls := hcls) (hkB := hkB) (count := count) (g := F0 X.2.1.1 pc ls ((As.reverse ++ vA (some a) :: st).map tv)) (hg := rfl) (hsize := by rw [hX.1.2.2.2.2.1, ← hX.1.2.2.2.2.2.1]; exact hl.1) (argsL := As.map tv) (rest := st.map tv) (hlen := fun sig hsig => by rw [List.length_map]; exact zMt_len m (hxy ▸ hsig)) (hstack := hsk) (hW := by show 0 + _ ≤ 20; rw [zCs_eq, Nat.zero_add]; exact hcs) (hdg := by rw [hX.1.2.1]; exact d) (hpre := hpre) (hK := hB)
      exact zAfter hX hl hlo hc9 hs rfl hD kk
    next => cases hci
theorem j_callFX (hX : zGd X own cc nL ret h) {ci : Nat} {C : String} {x : MethodName} {count : Nat} (m : zMt y bytes maxL rt n) (q1 : Cond.methodLink own index x ∈ lw_all) (q2 : Cond.instanceMethod y ∈ lw_all) (q3 : Cond.selects C x y ∈ lw_all) (q4 : (C, x, y) ∈ zFwl) (hxy : x.desc = y.desc) (hci : isC w ci r = true) (hC : ∃ q, zCL[ci]? = some q ∧ q.1 = C) (As : List zLV) (hn : As.length = n) {stk : List zLV} (hst : stk = As.reverse ++ vA r :: st) (hcs : zCs st ≤ 20) (hh : hc + 1 ≤ h) (d : decode cc pc = .ok (.invokeinterface index count, 5)) (hN : zNh X) (hQ : zFin X w0 (.inl (E, w')))
    (hct : zCt X.1.2.1 y bytes maxL rt hc (vA r :: As) w (.inl (E, w'))) : zJ X pc lv stk w := by
  intro H ls locs cells slots hR hl hlo hc9 hs T hT XS
  subst hst
  subst hn
  obtain ⟨qC, g1, g2⟩ := hC
  subst g2
  cases r with
  | none => cases hci
  | some a =>
    simp only [isC] at hci
    split at hci
    next fl9 c9 fs9 hca =>
      have hcc : c9 = ci := by simpa using hci
      subst hcc
      obtain ⟨rr, a1, cell, b1, b2, b3, -⟩ := (hR.2.1 a _ _ hca).1
      cases g1.symm.trans a1
      have hcls : X.1.2.2.2.2.vm.findClass qC.1 = some cell.cls := by rw [b2]; exact (hX.2.1.2.1.1.1 _ _ g1).2.1
      have hobj : cell.vm.isStatics = false := by rw [b3]; rfl
      have hB : vx_Back X.1.2.1 X.1.2.2.2.1 X.1.1 X.1.2.2.1 X.2.1.2.2.1 X.1.2.2.2.2 X.2.1.2.1 y 5 20 (zPre X.2.2.2.2 (vA (some a) :: As) w X.1.2.2.2.1) (zPoN X.2.2.2.2 w (.inl (E, w'))) (zPoX X.2.2.2.2 w (.inl (E, w'))) := zBack hX.2.2.1 hct (Nat.le_trans hh hX.2.2.2.1) (by have := hX.2.2.2.2; have := m.2.2.2.2; omega) hX.2.1.1 m.1 m.2.1
      have hpre : ∀ vm₁, X.1.2.2.2.2.WarmedH vm₁ → zPre X.2.2.2.2 (vA (some a) :: As) w X.1.2.2.2.1 ⟨T.setVm vm₁, locs, cells, slots⟩ (Value.ref a :: As.map tv).toArray := fun vm₁ hW => ⟨Nat.le_of_eq hc9, Nat.le_of_eq hs, rfl, zKs_moved (U := T.setVm vm₁) hW hX.2.1.2.1, by show zOld _ T.heap; rw [hT]; exact hR.2.2.1, by show zRp _ _ T.heap; rw [hT]; exact hR⟩
      have hsk : (As.reverse ++ vA (some a) :: st).map tv = (As.map tv).reverse ++ Value.ref a :: st.map tv := by simp [List.map_reverse, tv, va_rf]
      have hF := hX.2.1.2.1.2.2.2.2.2.2.1 _ q4
      obtain ⟨kB, hkB, -⟩ : ∃ kB, X.1.2.2.2.2.vm.classes[cell.cls]? = some kB ∧ True := by
        rw [b2]
        obtain ⟨-, kC, hkC, -⟩ := (hX.2.1.2.1.1.1 _ _ g1).2
        exact ⟨kC, hkC, trivial⟩
      have hD := vx_callIF (C := qC.1) XS hX.1.1 (hown := hX.1.2.2.2.2.2.2) (hlink := hX.2.1.1 _ q1) (hdecl := va_any rfl hF.1) (hface := va_any rfl hF.2.1) (hsel := hX.2.1.1 _ q3) (hinst := hX.2.1.1 _ q2) (hpub := va_any rfl hF.2.2.1) (hunh := va_any rfl hF.2.2.2.1) (hcast := va_any rfl hF.2.2.2.2) (hcode := hX.2.1.1 _ m.1) (hx := zFwl_ok _ q4) (hcell := by rw [hT]; exact b1) (hobj := hobj) (hcls := hcls) (hkB := hkB) (count := count) (g := F0 X.2.1.1 pc ls ((As.reverse ++ vA (some a) :: st).map tv)) (hg := rfl) (hsize := by rw [hX.1.2.2.2.2.1, ← hX.1.2.2.2.2.2.1]; exact hl.1) (argsL := As.map tv) (rest := st.map tv) (hlen := fun sig hsig => by rw [List.length_map]; exact zMt_len m (hxy ▸ hsig)) (hstack := hsk) (hW := by show 0 + _ ≤ 20; rw [zCs_eq, Nat.zero_add]; exact hcs) (hdg := by rw [hX.1.2.1]; exact d) (hpre := hpre) (hK := hB)
      exact zOut hX hN hQ hlo hc9 hs rfl rfl hD
    next => cases hci
end R8
