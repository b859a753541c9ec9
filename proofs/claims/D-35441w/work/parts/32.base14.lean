/-! BASE 14: contracts with several ends (the law's helpers, that catch): their bodies, calls of them -/
set_option maxRecDepth 100000
def zQR (K : zK) (w : zWd) (Rr : Option zLV → zWd → Prop) : Array Value → State → Outcome → State → Prop := fun a st oc t => ∃ (v : Option zLV) (w' : zWd), Rr v w' ∧ zQc K w (.inr (v, w')) a st oc t
def zPoR (K : zK) (w : zWd) (Rr : Option zLV → zWd → Prop) : Pt → Array Value → Option Value → Pt → Prop := fun A a v B => ∃ (v' : Option zLV) (w' : zWd), Rr v' w' ∧ zPoN K w (.inr (v', w')) A a v B
def zCtR (l : Launch) (y : MethodName) (bytes : ByteArray) (maxL : Nat) (ret : Option FieldType) (hh : List (Nat × Nat × Nat × Nat)) (h : Nat) (As : List zLV) (w : zWd) (Rr : Option zLV → zWd → Prop) : Prop :=
  l.stackTraces = false → ∀ K : zK, MetFree l y (headSpec (wsW_ y bytes maxL ret hh) (zRm h w)) (zPc K As w) (fun _ _ _ _ _ => True) (zQR K w Rr)
/-- an end is due -/
def zFinR (X : zX) (w0 : zWd) (Rr : Option zLV → zWd → Prop) : Prop := X.2.2.2.1 = (fun t => ∃ oc, t.status = .running ∧ Ended t X.2.1.2.2.1 oc ∧ zQR X.2.2.2.2 w0 Rr X.2.1.2.1 X.1.2.2.2.2 oc t) ∧ X.1.2.2.2.1.cells = w0.2.2.1 ∧ X.1.2.2.2.1.slots = w0.2.2.2.1
section Zb
variable {l : Launch} {R : Room} {p : Program} {e : Env} {below : List Frame} {s : State} {sargs : Array Value} {y : MethodName} {len : Nat}
theorem zBackR {ws : List Cond} {ht : Nat} {K : zK} {As : List zLV} {w : zWd} {Rr : Option zLV → zWd → Prop} {maxL : Nat}
    (hM : MetFree l y (headSpec ws (zRm ht w)) (zPc K As w) (fun _ _ _ _ _ => True) (zQR K w Rr))
    (hframes : ht + 1 ≤ R.frames) (hlocals : 20 + (maxL + 11) + 64 * ht ≤ R.locals)
    (hws : ∀ w ∈ ws, ∀ a' U, s.WarmedH U.vm → w.before a' U = true) (hcode : ∀ (a' : Array Value) (U : State) (mk : MethodId), s.WarmedH U.vm → U.methodNamed? y = some mk → ∃ meth c, U.vm.method? mk = some meth ∧ meth.code = some c ∧ c.maxLocals = maxL) (hinit : ∀ a' U, s.WarmedH U.vm → (Cond.initialized y.cls).before a' U = true) :
    Back l R p e below s sargs y len 20 (zPre K As w R) (zPoR K w Rr) := by
  intro m meth c A g ig mk a X hg hsize hdg hW hn hp
  have h1 : (headSpec ws (zRm ht w)).pre.before a A.U = true := atoms_intro fun w hw => hws w hw _ _ X.warmed
  have h3 : (Cond.initialized y.cls).before a A.U = true := hinit _ _ X.warmed
  have h4 : A.cells + (headSpec ws (zRm ht w)).room.cells ≤ R.cells := hp.1
  have h5 : A.slots + (headSpec ws (zRm ht w)).room.slots ≤ R.slots := hp.2.1
  have hPc : zPc K As w a (A.U.calling g mk a) := by
    obtain ⟨a1, a2, a3, a4⟩ := hp.2.2
    exact ⟨a1, zKs_moved (s := A.U) (U := A.U.calling g mk a) (State.WarmedH.refl A.U) a2, a3, a4⟩
  have hfi : ∀ E k, A.U.vm.findClass E = some k → A.U.vm.findClass E = some k := fun _ _ h => h
  obtain ⟨U, Ls, c0, s0⟩ := A
  dsimp only [Pt.U, Pt.locs, Pt.cells, Pt.slots] at h1 h3 h4 h5 X hn hPc ⊢
  obtain ⟨methY, cY, hmY, hcY, hlY⟩ := hcode a U mk X.warmed hn
  obtain ⟨kY, hkY, -⟩ := className_of_methodNamed hn
  have hinitY : kY.init = .initialized := Cond.initialized_spec (findClass_of_methodNamed hn) hkY h3
  have h : At U g.method c below := by rw [hg]; exact X.here
  have hlocals9 : 20 + (maxL + 11) + (headSpec ws (zRm ht w)).room.locals ≤ R.locals := hlocals
  have hframes9 : (headSpec ws (zRm ht w)).room.frames + 1 ≤ R.frames := hframes
  have happ : (headSpec ws (zRm ht w)).appliesLoose y e.platform (U.calling g mk a) = true :=
    Spec.appliesLoose_calling (g := g) h hdg hn hkY hinitY
      (X.room_calling (g := g) (R' := (headSpec ws (zRm ht w)).room) hsize hmY hcY hframes9 (by rw [hlY]; omega) h4 h5) h1
  obtain ⟨mid, hmid⟩ := h.above
  have hfr : (U.setTop g).frames = (.java g :: mid) ++ below := by rw [State.frames_setTop' g h.top, hmid]; rfl
  obtain ⟨oc, s₂, hsteps, -, hend, hq⟩ := Steps.callFree hM p X.admits X.cas X.clock (acts := []) hfr happ hPc trivial
  have hq' : zQR K w Rr a (U.calling g mk a) oc s₂ := hq
  rw [State.frames_setTop' g h.top] at hend
  obtain ⟨g₀, hg0⟩ := Option.isSome_iff_exists.mp h.top
  obtain ⟨r, hr⟩ := State.topJava?_eq_some.mp hg0
  have hr' : (({ U with heap := s₂.heap, slotsUsed := s₂.slotsUsed } : State).setVm s₂.vm).frames = .java g₀ :: r := hr
  obtain ⟨v', w', hRr, rfl, hrp, L, k, n, hfe, hL, hk, hn9⟩ := hq'
  obtain ⟨-, hW₂, e2, q2, q3, q4, q5, q6⟩ := id hfe
  have e3 : s₂ = ({ (U.calling g mk a).setFrames s₂.frames with heap := s₂.heap, slotsUsed := s₂.slotsUsed } : State).setVm s₂.vm := by
    have : s₂ = ({ s₂ with vm := (U.calling g mk a).vm } : State).setVm s₂.vm := rfl
    rw [e2] at this
    exact this
  obtain ⟨c₂, i₂, len₂, hc₂, hd₂, hf₂⟩ := hend
  have hW' : U.WarmedH s₂.vm := hW₂
  have hcc : c₂ = c := by
    have h1 : s₂.code? g.method = U.code? g.method := by
      rw [State.code?_eq, State.code?_eq, hW'.alike.method?]
    exact Option.some.inj (hc₂.symm.trans (h1.trans h.code))
  subst hcc
  have hlen : len₂ = len := by rw [hdg] at hd₂; cases hd₂; rfl
  subst hlen
  have hs₂ : s₂ = (({ U with heap := s₂.heap, slotsUsed := s₂.slotsUsed } : State).setVm s₂.vm).setTop { g with pc := g.pc + len₂, stack := (v'.map tv).toList ++ g.stack } := by
    refine e3.trans ?_
    rw [hf₂, State.calling_eq h.top, State.setFrames_setFrames, State.setTop_of_frames _ hr', hr]
    rfl
  have hsame : U.sameButNew ({ U with heap := s₂.heap, slotsUsed := s₂.slotsUsed } : State) L k n := by
    refine ⟨?_, q2, q3, q4, q5, q6⟩
    obtain ⟨t, ht, -⟩ := State.frames_cons hr
    show ({ U with heap := s₂.heap, slotsUsed := s₂.slotsUsed } : State) = { U.setFrames U.frames with heap := s₂.heap, slotsUsed := s₂.slotsUsed }
    rw [State.setFrames_self ht]
  subst hg
  refine ⟨v'.map tv, ⟨(({ U with heap := s₂.heap, slotsUsed := s₂.slotsUsed } : State).setVm s₂.vm), Ls ++ L, c0 + k, s0 + n⟩,
    ⟨X.admits, X.cas, X.clock, X.frames, X.room, X.hears, X.method, X.code, (X.here.setHeapUsed s₂.heap s₂.slotsUsed).setVm hW'.alike, X.tail, State.WarmedH.trans X.warmed hW', X.limits, X.bytes, X.same.trans (hsame.setVm s.vm)⟩,
    ⟨v', w', hRr, v', w', rfl, rfl, hrp, L, rfl, hL, ?_, ?_⟩, ?_⟩
  · show c0 + k + w'.2.2.1 = c0 + w.2.2.1
    omega
  · show s0 + n + w'.2.2.2.1 = s0 + w.2.2.2.1
    omega
  · show Steps p.tables e below _ ((({ U with heap := s₂.heap, slotsUsed := s₂.slotsUsed } : State).setVm s₂.vm).setTop { g with pc := g.pc + len₂, stack := (v'.map tv).toList ++ g.stack })
    rw [← hs₂]
    exact hsteps
end Zb
theorem zCtR_of {l : Launch} {y : MethodName} {bytes : ByteArray} {maxL : Nat} {ret : Option FieldType} {h : Nat} {As : List zLV} {w : zWd} {Rr : Option zLV → zWd → Prop} {hh : List (Nat × Nat × Nat × Nat)} {lv : List (Option zLV)} (hy : plainFor y = true) (pad : Nat) (hlv : zLv0 As ++ List.replicate pad none = lv) (hlen : lv.length = maxL)
    (body : ∀ X : zX, zGd X y.cls bytes maxL ret h → X.2.1.2.2.2.1.name = y.name → X.2.1.2.2.2.2.exceptionTable.toList = tableOf hh → zFinR X w Rr → zJ X 0 lv [] w) : zCtR l y bytes maxL ret hh h As w Rr := by
  intro hl9 K
  refine MetFree.of_bodySF (code := bytes) (maxLocals := maxL) (ret := ret) hy ?_ ?_
  · intro args s m h hn
    obtain ⟨m9, meth, c, hn9, h1, h2, h3, h4, -, h5, h6, -⟩ := Cond.codeWith_spec (atoms_spec (ws := wsW_ y bytes maxL ret hh) h _ List.mem_cons_self)
    cases hn.symm.trans hn9
    exact ⟨meth, c, h1, h2, h3, h4, h5, h6⟩
  · intro p e s m args below meth c s₁ B hml hP _
    have hh0 : s₁.heap = s.heap := by rw [B.state]; rfl
    have ht : c.exceptionTable.toList = tableOf hh := vx_table (x := y) B (atoms_spec (ws := wsW_ y bytes maxL ret hh) B.pre _ List.mem_cons_self)
    obtain ⟨ha, hks, hold, hrp⟩ := hP
    have hts := atoms_spec (ws := wsW_ y bytes maxL ret hh) B.pre
    obtain ⟨X, hX⟩ : ∃ X : zX, X = ((p, l, e, zRm h w, s), (m, args, below, meth, c), (maxL, (fun t => ∃ oc, t.status = .running ∧ Ended t below oc ∧ zQR K w Rr args s oc t), K)) := ⟨_, rfl⟩
    have gd : zGd X y.cls bytes maxL ret h := by
      subst hX
      exact ⟨⟨B.exec, B.bytes, B.returns, B.notSynchronized, hml, rfl, findClass_of_methodNamed B.named⟩, ⟨fun w h => hts w (List.mem_cons_of_mem _ h), hks, hold⟩, hl9, Nat.le_refl _, Nat.le_refl _⟩
    have hj := body X gd (by subst hX; exact (name_of_methodNamed B.named B.method).1) (by subst hX; exact ht) (by subst hX; exact ⟨rfl, rfl, rfl⟩)
    subst hX
    have hlv2 : (lg_sl (As.map tv)).length ≤ maxL := by
      rw [zLv0_len, ← hlen, ← hlv, List.length_append]
      omega
    have hl := lv_entry (As.map tv) (n := maxL) hlv2
    have hent : entryFrame m args maxL = F0 m 0 ((lg_sl (As.map tv) ++ List.replicate (maxL - (lg_sl (As.map tv)).length) Slot.unset).toArray) [] := by
      rw [ha, lg_entry_eq]
    obtain ⟨t, a1, oc, b1, b2, b3⟩ := hj s.heap _ [] 0 0 hrp (by rw [← hlv, zPr_app, zLv0_args]; exact hl) (fun q hq => nomatch hq) (Nat.zero_add _) (Nat.zero_add _) s₁ hh0 (Stand.of_body B)
    refine ⟨t, oc, ?_, b1, b2, b3⟩
    rw [hent]
    exact a1
def zMtW (y : MethodName) (bytes : ByteArray) (maxL : Nat) (rt : Option FieldType) (hh : List (Nat × Nat × Nat × Nat)) (n : Nat) : Prop := Cond.codeWith y bytes maxL rt hh ∈ lw_all ∧ Cond.initialized y.cls ∈ lw_all ∧ (y.cls ≠ "java/lang/invoke/MethodHandle" ∧ y.cls ≠ "java/lang/invoke/VarHandle") ∧ (parseMethodDescriptor y.desc).map (fun d => d.parameters.length) = some n ∧ maxL ≤ 33
theorem zMtW_len {y : MethodName} {bytes : ByteArray} {maxL : Nat} {rt : Option FieldType} {hh : List (Nat × Nat × Nat × Nat)} {n : Nat} (h : zMtW y bytes maxL rt hh n) {sig : MethodDescriptor} (hs : parseMethodDescriptor y.desc = some sig) : n = sig.parameters.length := by
  have h2 := h.2.2.2.1
  rw [hs] at h2
  exact (Option.some.inj h2).symm
/-- behind a call that came back -/
theorem zAfterR {X : zX} {own : String} {cc : ByteArray} {nL : Nat} {ret : Option FieldType} {h : Nat} {pc len : Nat} {lv : List (Option zLV)} {st : List zLV} {w : zWd} {Rr : Option zLV → zWd → Prop} (hX : zGd X own cc nL ret h) {T : State} {ls : Array Slot} {locs : List Loc} {cells slots : Nat} {g : JFrame} {a : Array Value}
    (hl : lv_has ls X.2.2.1 (zPr 0 lv)) (hlo : ∀ q ∈ locs, zFr X.2.2.2.2 q.base) (hc : cells + w.2.2.1 = X.1.2.2.2.1.cells) (hs : slots + w.2.2.2.1 = X.1.2.2.2.1.slots) (hg : g = F0 X.2.1.1 pc ls g.stack)
    (hD : ∃ (v : Option Value) (vm₁ : Vm) (B : Pt), X.1.2.2.2.2.WarmedH vm₁ ∧ Stand X.1.1 X.1.2.1 X.1.2.2.1 X.1.2.2.2.1 X.1.2.2.2.2 X.2.1.1 X.2.1.2.1 X.2.1.2.2.1 X.2.1.2.2.2.1 X.2.1.2.2.2.2 B.U B.locs B.cells B.slots ∧ zPoR X.2.2.2.2 w Rr ⟨T.setVm vm₁, locs, cells, slots⟩ a v B ∧
        ∀ target, Steps X.1.1.tables X.1.2.2.1 X.2.1.2.2.1 (B.U.setTop { g with pc := g.pc + len, stack := v.toList ++ st.map tv }) target → Steps X.1.1.tables X.1.2.2.1 X.2.1.2.2.1 (T.setTop g) target)
    (kk : ∀ v' w', Rr v' w' → zJ X (pc + len) lv (v'.toList ++ st) w') : ∃ t, Steps X.1.1.tables X.1.2.2.1 X.2.1.2.2.1 (T.setTop g) t ∧ X.2.2.2.1 t := by
  obtain ⟨v, vm₁, ⟨U', l2, c2, s2⟩, -, X', ⟨v', w', hRr, v9, w9, ho, rfl, hrp, L, h1, hL, h2, h3⟩, st9⟩ := hD
  cases ho
  dsimp only [Pt.U, Pt.locs, Pt.cells, Pt.slots] at X' hrp h1 h2 h3 st9
  subst h1
  obtain ⟨t, a1, b1⟩ := kk _ _ hRr U'.heap ls (locs ++ L) c2 s2 hrp hl (fun q hq => (List.mem_append.mp hq).elim (hlo q) (hL q)) (by rw [h2]; exact hc) (by rw [h3]; exact hs) U' rfl X'
  refine ⟨t, st9 t ?_, b1⟩
  rw [hg]
  have e9 : (v'.map tv).toList ++ st.map tv = (v'.toList ++ st).map tv := by
    cases v' <;> simp
  dsimp only
  rw [e9]
  exact a1

section R8
variable {X : zX} {own : String} {cc : ByteArray} {nL : Nat} {ret : Option FieldType} {h : Nat} {pc : Nat} {lv : List (Option zLV)} {st : List zLV} {w w' w0 : zWd}
variable {y : MethodName} {bytes : ByteArray} {maxL n index hc : Nat} {rt : Option FieldType} {v' : Option zLV} {E : String} {r : Option Nat}
theorem zCatch (hX : zGd X own cc nL ret h) {T : State} {ls : Array Slot} {locs : List Loc} {cells slots : Nat} {g : JFrame} {a : Array Value} {o : zO} {len : Nat} {rest : List Value}
    (hl : lv_has ls X.2.2.1 (zPr 0 lv)) (hlo : ∀ q ∈ locs, zFr X.2.2.2.2 q.base) (hc : cells + w.2.2.1 = X.1.2.2.2.1.cells) (hs : slots + w.2.2.2.1 = X.1.2.2.2.1.slots) (ho : o = .inl (E, w')) (hg : { g with stack := rest } = F0 X.2.1.1 pc ls rest) {name : String} (pre : List ExceptionTableEntry) (x : ExceptionTableEntry) (suf : List ExceptionTableEntry) (hsplit : X.2.1.2.2.2.2.exceptionTable.toList = pre ++ x :: suf)
    (hpass : ∀ z ∈ pre, covers z pc = false ∨ (z.catchType ≠ 0 ∧ ∃ nm : String, Cond.classLink own z.catchType nm ∈ lw_all ∧ (E, nm) ∈ zNcl)) (hx : covers x pc = true) (h0 : x.catchType ≠ 0) (q7 : Cond.classLink own x.catchType name ∈ lw_all) (q8 : Cond.castable E name ∈ lw_tbl)
    (kk : ∀ (q : Nat) (w'' : zWd), zTh w' w'' → zJ X x.handlerPc lv [vA (some q)] w'')
    (hD : (∃ (v : Option Value) (vm₁ : Vm) (B : Pt), X.1.2.2.2.2.WarmedH vm₁ ∧ Stand X.1.1 X.1.2.1 X.1.2.2.1 X.1.2.2.2.1 X.1.2.2.2.2 X.2.1.1 X.2.1.2.1 X.2.1.2.2.1 X.2.1.2.2.2.1 X.2.1.2.2.2.2 B.U B.locs B.cells B.slots ∧ zPoN X.2.2.2.2 w o ⟨T.setVm vm₁, locs, cells, slots⟩ a v B ∧
        ∀ target, Steps X.1.1.tables X.1.2.2.1 X.2.1.2.2.1 (B.U.setTop { g with pc := g.pc + len, stack := v.toList ++ rest }) target → Steps X.1.1.tables X.1.2.2.1 X.2.1.2.2.1 (T.setTop g) target) ∨
      (∃ (q : Addr) (vm₁ : Vm) (B : Pt), X.1.2.2.2.2.WarmedH vm₁ ∧ Stand X.1.1 X.1.2.1 X.1.2.2.1 X.1.2.2.2.1 X.1.2.2.2.2 X.2.1.1 X.2.1.2.1 X.2.1.2.2.1 X.2.1.2.2.2.1 X.2.1.2.2.2.2 B.U B.locs B.cells B.slots ∧ zPoX X.2.2.2.2 w o ⟨T.setVm vm₁, locs, cells, slots⟩ a q B ∧
        Steps X.1.1.tables X.1.2.2.1 X.2.1.2.2.1 (T.setTop g) ((B.U.setTop { g with stack := rest }).pushFrame (.throwing q)))) : ∃ t, Steps X.1.1.tables X.1.2.2.1 X.2.1.2.2.1 (T.setTop g) t ∧ X.2.2.2.1 t := by
  subst ho
  rcases hD with ⟨v, vm₁, B, -, X', ⟨v9, w9, ho, -⟩, st9⟩ | ⟨q, vm₁, ⟨U', l2, c2, s2⟩, hW1, X', ⟨E9, w9, w'', ce, ho, hth, hce, hcv, hcl, hrp, L, h1, hL, h2, h3⟩, st9⟩
  · cases ho
  · cases ho
    dsimp only [Pt.U, Pt.locs, Pt.cells, Pt.slots] at X' hrp h1 h2 h3 st9 hce hcl
    subst h1
    have hcl' : X.1.2.2.2.2.vm.findClass E = some ce.cls := vx_cls hW1 hcl
    have hv : vx_W X.1.1 X.1.2.1 X.1.2.2.1 X.1.2.2.2.1 X.1.2.2.2.2 X.2.1.1 X.2.1.2.1 X.2.1.2.2.1 X.2.1.2.2.2.1 X.2.1.2.2.2.2 U'.heap (locs ++ L) c2 s2 X.2.2.2.1 (F0 X.2.1.1 pc ls rest) q := by
      refine vx_catch hX.1.2.2.2.2.2.2 pre x suf hsplit (fun z hz => ?_) hx h0 (hX.2.1.1 _ q7) (va_any rfl (hX.2.1.2.1.2.2.1 _ q8 rfl)) hce hcv hcl' ?_
      · rcases hpass z hz with h | ⟨h1, nm, h2, h3⟩
        · exact Or.inl h
        · exact Or.inr ⟨h1, nm, hX.2.1.1 _ h2, hX.2.1.2.1.2.2.2.2.2.2.2.1 _ h3⟩
      · exact kk q w'' hth U'.heap ls (locs ++ L) c2 s2 hrp hl (fun q hq => (List.mem_append.mp hq).elim (hlo q) (hL q)) (by rw [h2]; exact hc) (by rw [h3]; exact hs)
    obtain ⟨t, a1, b1⟩ := hv U' rfl X'
    exact ⟨t, st9.trans (by rw [hg]; exact a1), b1⟩
theorem j_callVC (hX : zGd X own cc nL ret h) {ci : Nat} {C : String} (m : zMt y bytes maxL rt n) (q1 : Cond.methodLink own index y ∈ lw_all) (q2 : Cond.instanceMethod y ∈ lw_all) (q3 : Cond.selects C y y ∈ lw_all) (hci : isC w ci r = true) (hC : ∃ q, zCL[ci]? = some q ∧ q.1 = C) (As : List zLV) (hn : As.length = n) {stk : List zLV} (hst : stk = As.reverse ++ vA r :: st) (hcs : zCs st ≤ 20) (hh : hc + 1 ≤ h) (d : decode cc pc = .ok (.invokevirtual index, 3)) {name : String} (pre : List ExceptionTableEntry) (x : ExceptionTableEntry) (suf : List ExceptionTableEntry) (hsplit : X.2.1.2.2.2.2.exceptionTable.toList = pre ++ x :: suf)
    (hpass : ∀ z ∈ pre, covers z pc = false ∨ (z.catchType ≠ 0 ∧ ∃ nm : String, Cond.classLink own z.catchType nm ∈ lw_all ∧ (E, nm) ∈ zNcl)) (hx : covers x pc = true) (h0 : x.catchType ≠ 0) (q7 : Cond.classLink own x.catchType name ∈ lw_all) (q8 : Cond.castable E name ∈ lw_tbl)
    (kk : ∀ (q : Nat) (w'' : zWd), zTh w' w'' → zJ X x.handlerPc lv [vA (some q)] w'')
    (hct : zCt X.1.2.1 y bytes maxL rt hc (vA r :: As) w (.inl (E, w'))) : zJ X pc lv stk w := by
  intro H ls locs cells slots hR hl hlo hc9 hs T hT XS
  subst hst
  subst hn
  obtain ⟨qC, g1, g2⟩ := hC
  subst g2
  cases r with
  | none => cases hci
  | some a =>
    simp only [isC] at hci
    split at hci
    next fl9 c9 fs9 hca =>
      have hcc : c9 = ci := by simpa using hci
      subst hcc
      obtain ⟨rr, a1, cell, b1, b2, b3, -⟩ := (hR.2.1 a _ _ hca).1
      cases g1.symm.trans a1
      have hcls : X.1.2.2.2.2.vm.findClass qC.1 = some cell.cls := by rw [b2]; exact (hX.2.1.2.1.1.1 _ _ g1).2.1
      have hobj : cell.vm.isStatics = false := by rw [b3]; rfl
      have hB : vx_Back X.1.2.1 X.1.2.2.2.1 X.1.1 X.1.2.2.1 X.2.1.2.2.1 X.1.2.2.2.2 X.2.1.2.1 y 3 20 (zPre X.2.2.2.2 (vA (some a) :: As) w X.1.2.2.2.1) (zPoN X.2.2.2.2 w (.inl (E, w'))) (zPoX X.2.2.2.2 w (.inl (E, w'))) := zBack hX.2.2.1 hct (Nat.le_trans hh hX.2.2.2.1) (by have := hX.2.2.2.2; have := m.2.2.2.2; omega) hX.2.1.1 m.1 m.2.1
      have hpre : ∀ vm₁, X.1.2.2.2.2.WarmedH vm₁ → zPre X.2.2.2.2 (vA (some a) :: As) w X.1.2.2.2.1 ⟨T.setVm vm₁, locs, cells, slots⟩ (Value.ref a :: As.map tv).toArray := fun vm₁ hW => ⟨Nat.le_of_eq hc9, Nat.le_of_eq hs, rfl, zKs_moved (U := T.setVm vm₁) hW hX.2.1.2.1, by show zOld _ T.heap; rw [hT]; exact hR.2.2.1, by show zRp _ _ T.heap; rw [hT]; exact hR⟩
      have hsk : (As.reverse ++ vA (some a) :: st).map tv = (As.map tv).reverse ++ Value.ref a :: st.map tv := by simp [List.map_reverse, tv, va_rf]
      have hD := vx_callV XS hX.1.1 (C := qC.1) (hown := hX.1.2.2.2.2.2.2) (hlink := hX.2.1.1 _ q1) (hinst := hX.2.1.1 _ q2) (hsel := hX.2.1.1 _ q3) (hcode := hX.2.1.1 _ m.1) (hy := m.2.2.1) (hcell := by rw [hT]; exact b1) (hobj := hobj) (hcls := hcls) (g := F0 X.2.1.1 pc ls ((As.reverse ++ vA (some a) :: st).map tv)) (hg := rfl) (hsize := by rw [hX.1.2.2.2.2.1, ← hX.1.2.2.2.2.2.1]; exact hl.1) (argsL := As.map tv) (rest := st.map tv) (hlen := fun sig hsig => by rw [List.length_map]; exact zMt_len m hsig) (hstack := hsk) (hW := by show 0 + _ ≤ 20; rw [zCs_eq, Nat.zero_add]; exact hcs) (hdg := by rw [hX.1.2.1]; exact d) (hpre := hpre) (hK := hB)
      exact zCatch hX hl hlo hc9 hs rfl rfl pre x suf hsplit hpass hx h0 q7 q8 kk hD
    next => cases hci
theorem j_callSR (hX : zGd X own cc nL ret h) {hh : List (Nat × Nat × Nat × Nat)} {Rr : Option zLV → zWd → Prop} (m : zMtW y bytes maxL rt hh n) (q1 : Cond.methodLink own index y ∈ lw_all) (q2 : Cond.static y ∈ lw_all) (As : List zLV) (hn : As.length = n) {stk : List zLV} (hst : stk = As.reverse ++ st) (hcs : zCs st ≤ 20) (hh9 : hc + 1 ≤ h) (d : decode cc pc = .ok (.invokestatic index, 3)) 
    (hct : zCtR X.1.2.1 y bytes maxL rt hh hc (As) w Rr) (kk : ∀ v' w', Rr v' w' → zJ X (pc + 3) lv (v'.toList ++ st) w') : zJ X pc lv stk w := by
  intro H ls locs cells slots hR hl hlo hc9 hs T hT XS
  subst hst
  subst hn
  have gd : ∀ w ∈ lw_all, ∀ (a' : Array Value) (U : State), X.1.2.2.2.2.WarmedH U.vm → w.before a' U = true := fun w hw a' U hW => word_at hW (lw_self w hw).2 (hX.2.1.1 w hw)
  have hB : Back X.1.2.1 X.1.2.2.2.1 X.1.1 X.1.2.2.1 X.2.1.2.2.1 X.1.2.2.2.2 X.2.1.2.1 y 3 20 (zPre X.2.2.2.2 As w X.1.2.2.2.1) (zPoR X.2.2.2.2 w Rr) := by
    refine zBackR (maxL := maxL) (hct hX.2.2.1 X.2.2.2.2) (Nat.le_trans hh9 hX.2.2.2.1) (by have := hX.2.2.2.2; have := m.2.2.2.2; omega) (fun w hw a' U hW => ?_) (fun a' U mk hW hn => ?_) (fun a' U hW => gd _ m.2.1 a' U hW)
    · rcases List.mem_cons.mp hw with e | e
      · rw [e]; exact gd _ m.1 a' U hW
      · exact gd _ e a' U hW
    · obtain ⟨m9, meth, c, hn9, h1, h2, h3, h4, -, h5, h6, -⟩ := Cond.codeWith_spec (gd _ m.1 a' U hW)
      cases hn.symm.trans hn9
      first
        | exact ⟨meth, c, h1, h2, h3⟩
        | exact ⟨meth, c, h1, h2, h4⟩
        | exact ⟨meth, c, h1, h2, h5⟩
  have hpre : ∀ vm₁, X.1.2.2.2.2.WarmedH vm₁ → zPre X.2.2.2.2 As w X.1.2.2.2.1 ⟨T.setVm vm₁, locs, cells, slots⟩ (As.map tv).toArray := fun vm₁ hW => ⟨Nat.le_of_eq hc9, Nat.le_of_eq hs, rfl, zKs_moved (U := T.setVm vm₁) hW hX.2.1.2.1, by show zOld _ T.heap; rw [hT]; exact hR.2.2.1, by show zRp _ _ T.heap; rw [hT]; exact hR⟩
  have hsk : (As.reverse ++ st).map tv = (As.map tv).reverse ++ st.map tv := by simp [List.map_reverse, tv, va_rf]
  have hD := vx_callSW XS hX.1.1 (hown := hX.1.2.2.2.2.2.2) (hlink := hX.2.1.1 _ q1) (hstat := hX.2.1.1 _ q2) (hinit := hX.2.1.1 _ m.2.1) (hcode := hX.2.1.1 _ m.1) (hy := m.2.2.1) (g := F0 X.2.1.1 pc ls ((As.reverse ++ st).map tv)) (hg := rfl) (hsize := by rw [hX.1.2.2.2.2.1, ← hX.1.2.2.2.2.2.1]; exact hl.1) (argsL := As.map tv) (rest := st.map tv) (hlen := fun sig hsig => by rw [List.length_map]; exact zMtW_len m hsig) (hstack := hsk) (hW := by show 0 + _ ≤ 20; rw [zCs_eq, Nat.zero_add]; exact hcs) (hdg := by rw [hX.1.2.1]; exact d) (hpre := hpre) (hK := hB)
  exact zAfterR hX hl hlo hc9 hs rfl hD kk
end R8
