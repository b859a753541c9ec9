/-! BASE 7: calls over contracts -/
set_option maxRecDepth 100000
/-- a point before a call of a contract -/
def zPre (K : zK) (As : List zLV) (w : zWd) (R : Room) : Pt → Array Value → Prop := fun A a => A.cells + w.2.2.1 ≤ R.cells ∧ A.slots + w.2.2.2.1 ≤ R.slots ∧ zPc K As w a A.U
def zMvd (K : zK) (w w' : zWd) (A B : Pt) : Prop := zRp K w' B.U.heap ∧ ∃ L : List Loc, B.locs = A.locs ++ L ∧ (∀ q ∈ L, zFr K q.base) ∧ B.cells + w'.2.2.1 = A.cells + w.2.2.1 ∧ B.slots + w'.2.2.2.1 = A.slots + w.2.2.2.1
def zPoN (K : zK) (w : zWd) (o : zO) : Pt → Array Value → Option Value → Pt → Prop := fun A _ v B => ∃ (v' : Option zLV) (w' : zWd), o = .inr (v', w') ∧ v = v'.map tv ∧ zMvd K w w' A B
def zPoX (K : zK) (w : zWd) (o : zO) : Pt → Array Value → Addr → Pt → Prop := fun A _ q B => ∃ (E : String) (w' w'' : zWd) (ce : Cell), o = .inl (E, w') ∧ zTh w' w'' ∧ B.U.heap[q]? = some ce ∧ ce.vm = .none ∧ A.U.vm.findClass E = some ce.cls ∧ zMvd K w w'' A B
section Zb
variable {l : Launch} {R : Room} {p : Program} {e : Env} {below : List Frame} {s : State} {sargs : Array Value} {y : MethodName} {len : Nat}
theorem zBackG {ws : List Cond} {ht : Nat} {K : zK} {As : List zLV} {w : zWd} {o : zO} {maxL : Nat}
    (hM : MetFree l y (headSpec ws (zRm ht w)) (zPc K As w) (fun _ _ _ _ _ => True) (zQc K w o))
    (hframes : ht + 1 ≤ R.frames) (hlocals : 20 + (maxL + 11) + 64 * ht ≤ R.locals)
    (hws : ∀ w ∈ ws, ∀ a' U, s.WarmedH U.vm → w.before a' U = true) (hcode : ∀ (a' : Array Value) (U : State) (mk : MethodId), s.WarmedH U.vm → U.methodNamed? y = some mk → ∃ meth c, U.vm.method? mk = some meth ∧ meth.code = some c ∧ c.maxLocals = maxL) (hinit : ∀ a' U, s.WarmedH U.vm → (Cond.initialized y.cls).before a' U = true) :
    vx_Back l R p e below s sargs y len 20 (zPre K As w R) (zPoN K w o) (zPoX K w o) := by
  intro m meth c A g ig mk a X hg hsize hdg hW hn hp
  have h1 : (headSpec ws (zRm ht w)).pre.before a A.U = true := atoms_intro fun w hw => hws w hw _ _ X.warmed
  have h3 : (Cond.initialized y.cls).before a A.U = true := hinit _ _ X.warmed
  have h4 : A.cells + (headSpec ws (zRm ht w)).room.cells ≤ R.cells := hp.1
  have h5 : A.slots + (headSpec ws (zRm ht w)).room.slots ≤ R.slots := hp.2.1
  have hPc : zPc K As w a (A.U.calling g mk a) := by
    obtain ⟨a1, a2, a3, a4⟩ := hp.2.2
    exact ⟨a1, zKs_moved (s := A.U) (U := A.U.calling g mk a) (State.WarmedH.refl A.U) a2, a3, a4⟩
  have hfi : ∀ E k, A.U.vm.findClass E = some k → A.U.vm.findClass E = some k := fun _ _ h => h
  obtain ⟨U, Ls, c0, s0⟩ := A
  dsimp only [Pt.U, Pt.locs, Pt.cells, Pt.slots] at h1 h3 h4 h5 X hn hPc ⊢
  obtain ⟨methY, cY, hmY, hcY, hlY⟩ := hcode a U mk X.warmed hn
  obtain ⟨kY, hkY, -⟩ := className_of_methodNamed hn
  have hinitY : kY.init = .initialized := Cond.initialized_spec (findClass_of_methodNamed hn) hkY h3
  have h : At U g.method c below := by rw [hg]; exact X.here
  have hlocals9 : 20 + (maxL + 11) + (headSpec ws (zRm ht w)).room.locals ≤ R.locals := hlocals
  have hframes9 : (headSpec ws (zRm ht w)).room.frames + 1 ≤ R.frames := hframes
  have happ : (headSpec ws (zRm ht w)).appliesLoose y e.platform (U.calling g mk a) = true :=
    Spec.appliesLoose_calling (g := g) h hdg hn hkY hinitY
      (X.room_calling (g := g) (R' := (headSpec ws (zRm ht w)).room) hsize hmY hcY hframes9 (by rw [hlY]; omega) h4 h5) h1
  obtain ⟨mid, hmid⟩ := h.above
  have hfr : (U.setTop g).frames = (.java g :: mid) ++ below := by rw [State.frames_setTop' g h.top, hmid]; rfl
  obtain ⟨oc, s₂, hsteps, -, hend, hq⟩ := Steps.callFree hM p X.admits X.cas X.clock (acts := []) hfr happ hPc trivial
  have hq' : zQc K w o a (U.calling g mk a) oc s₂ := hq
  rw [State.frames_setTop' g h.top] at hend
  obtain ⟨g₀, hg0⟩ := Option.isSome_iff_exists.mp h.top
  obtain ⟨r, hr⟩ := State.topJava?_eq_some.mp hg0
  have hr' : (({ U with heap := s₂.heap, slotsUsed := s₂.slotsUsed } : State).setVm s₂.vm).frames = .java g₀ :: r := hr
  rcases o with ⟨E, w'⟩ | ⟨v', w'⟩
  · obtain ⟨q, ce, L, k, n, w'', rfl, hth, hrp, hce, hcv, hcl, hW₂, hsm, hL, hk, hn9⟩ := hq'
    obtain ⟨e2, q2, q3, q4, q5, q6⟩ := id hsm
    have e3 : s₂ = ({ (U.calling g mk a).setFrames s₂.frames with heap := s₂.heap, slotsUsed := s₂.slotsUsed } : State).setVm s₂.vm := by
      have : s₂ = ({ s₂ with vm := (U.calling g mk a).vm } : State).setVm s₂.vm := rfl
      rw [e2] at this
      exact this
    have hf₂ : s₂.frames = .throwing q :: .java g :: U.frames.tail := hend
    have hW' : U.WarmedH s₂.vm := hW₂
    have hs₂ : s₂ = ((({ U with heap := s₂.heap, slotsUsed := s₂.slotsUsed } : State).setVm s₂.vm).setTop g).pushFrame (.throwing q) := by
      refine e3.trans ?_
      rw [hf₂, State.calling_eq h.top, State.setFrames_setFrames, State.pushFrame, State.frames_setTop _ hr', State.setTop_of_frames _ hr', State.setFrames_setFrames, hr]
      rfl
    have hsame : U.sameButNew ({ U with heap := s₂.heap, slotsUsed := s₂.slotsUsed } : State) L k n := by
      refine ⟨?_, q2, q3, q4, q5, q6⟩
      obtain ⟨t, ht, -⟩ := State.frames_cons hr
      show ({ U with heap := s₂.heap, slotsUsed := s₂.slotsUsed } : State) = { U.setFrames U.frames with heap := s₂.heap, slotsUsed := s₂.slotsUsed }
      rw [State.setFrames_self ht]
    subst hg
    refine Or.inr ⟨q, ⟨(({ U with heap := s₂.heap, slotsUsed := s₂.slotsUsed } : State).setVm s₂.vm), Ls ++ L, c0 + k, s0 + n⟩,
      ⟨X.admits, X.cas, X.clock, X.frames, X.room, X.hears, X.method, X.code, (X.here.setHeapUsed s₂.heap s₂.slotsUsed).setVm hW'.alike, X.tail, State.WarmedH.trans X.warmed hW', X.limits, X.bytes, X.same.trans (hsame.setVm s.vm)⟩,
      ⟨E, w', w'', ce, rfl, hth, hce, hcv, hcl, hrp, L, rfl, hL, ?_, ?_⟩, ?_⟩
    · show c0 + k + w''.2.2.1 = c0 + w.2.2.1
      omega
    · show s0 + n + w''.2.2.2.1 = s0 + w.2.2.2.1
      omega
    · show Steps p.tables e below _ (((({ U with heap := s₂.heap, slotsUsed := s₂.slotsUsed } : State).setVm s₂.vm).setTop g).pushFrame (.throwing q))
      rw [← hs₂]
      exact hsteps
  · obtain ⟨rfl, hrp, L, k, n, hfe, hL, hk, hn9⟩ := hq'
    obtain ⟨-, hW₂, e2, q2, q3, q4, q5, q6⟩ := id hfe
    have e3 : s₂ = ({ (U.calling g mk a).setFrames s₂.frames with heap := s₂.heap, slotsUsed := s₂.slotsUsed } : State).setVm s₂.vm := by
      have : s₂ = ({ s₂ with vm := (U.calling g mk a).vm } : State).setVm s₂.vm := rfl
      rw [e2] at this
      exact this
    obtain ⟨c₂, i₂, len₂, hc₂, hd₂, hf₂⟩ := hend
    have hW' : U.WarmedH s₂.vm := hW₂
    have hcc : c₂ = c := by
      have h1 : s₂.code? g.method = U.code? g.method := by
        rw [State.code?_eq, State.code?_eq, hW'.alike.method?]
      exact Option.some.inj (hc₂.symm.trans (h1.trans h.code))
    subst hcc
    have hlen : len₂ = len := by rw [hdg] at hd₂; cases hd₂; rfl
    subst hlen
    have hs₂ : s₂ = (({ U with heap := s₂.heap, slotsUsed := s₂.slotsUsed } : State).setVm s₂.vm).setTop { g with pc := g.pc + len₂, stack := (v'.map tv).toList ++ g.stack } := by
      refine e3.trans ?_
      rw [hf₂, State.calling_eq h.top, State.setFrames_setFrames, State.setTop_of_frames _ hr', hr]
      rfl
    have hsame : U.sameButNew ({ U with heap := s₂.heap, slotsUsed := s₂.slotsUsed } : State) L k n := by
      refine ⟨?_, q2, q3, q4, q5, q6⟩
      obtain ⟨t, ht, -⟩ := State.frames_cons hr
      show ({ U with heap := s₂.heap, slotsUsed := s₂.slotsUsed } : State) = { U.setFrames U.frames with heap := s₂.heap, slotsUsed := s₂.slotsUsed }
      rw [State.setFrames_self ht]
    subst hg
    refine Or.inl ⟨v'.map tv, ⟨(({ U with heap := s₂.heap, slotsUsed := s₂.slotsUsed } : State).setVm s₂.vm), Ls ++ L, c0 + k, s0 + n⟩,
      ⟨X.admits, X.cas, X.clock, X.frames, X.room, X.hears, X.method, X.code, (X.here.setHeapUsed s₂.heap s₂.slotsUsed).setVm hW'.alike, X.tail, State.WarmedH.trans X.warmed hW', X.limits, X.bytes, X.same.trans (hsame.setVm s.vm)⟩,
      ⟨v', w', rfl, rfl, hrp, L, rfl, hL, ?_, ?_⟩, ?_⟩
    · show c0 + k + w'.2.2.1 = c0 + w.2.2.1
      omega
    · show s0 + n + w'.2.2.2.1 = s0 + w.2.2.2.1
      omega
    · show Steps p.tables e below _ ((({ U with heap := s₂.heap, slotsUsed := s₂.slotsUsed } : State).setVm s₂.vm).setTop { g with pc := g.pc + len₂, stack := (v'.map tv).toList ++ g.stack })
      rw [← hs₂]
      exact hsteps
theorem zBack {h : Nat} {K : zK} {As : List zLV} {w : zWd} {o : zO} {bytes : ByteArray} {maxL : Nat} {ret : Option FieldType} (hl : l.stackTraces = false)
    (hM : zCt l y bytes maxL ret h As w o) (hframes : h + 1 ≤ R.frames) (hlocals : 20 + (maxL + 11) + 64 * h ≤ R.locals)
    (hts : ∀ w ∈ lw_all, w.before sargs s = true) (hcode : Cond.code y bytes maxL ret ∈ lw_all) (hinit : Cond.initialized y.cls ∈ lw_all) :
    vx_Back l R p e below s sargs y len 20 (zPre K As w R) (zPoN K w o) (zPoX K w o) := by
  have gd : ∀ w ∈ lw_all, ∀ (a' : Array Value) (U : State), s.WarmedH U.vm → w.before a' U = true := fun w hw a' U hW => word_at hW (lw_self w hw).2 (hts w hw)
  refine zBackG (maxL := maxL) (hM hl K) hframes hlocals (fun w hw a' U hW => ?_) (fun a' U mk hW hn => ?_) (fun a' U hW => gd _ hinit a' U hW)
  · rcases List.mem_cons.mp hw with e | e
    · rw [e]; exact gd _ hcode a' U hW
    · exact gd _ e a' U hW
  · obtain ⟨meth, c, h1, h2, -, h4, -⟩ := Cond.code_spec hn (gd _ hcode a' U hW)
    exact ⟨meth, c, h1, h2, h4⟩
end Zb
/-- behind a call that came back -/
theorem zAfter {X : zX} {own : String} {cc : ByteArray} {nL : Nat} {ret : Option FieldType} {h : Nat} {pc len : Nat} {lv : List (Option zLV)} {st : List zLV} {w w' : zWd} {v' : Option zLV} (hX : zGd X own cc nL ret h) {T : State} {ls : Array Slot} {locs : List Loc} {cells slots : Nat} {g : JFrame} {a : Array Value}
    (hl : lv_has ls X.2.2.1 (zPr 0 lv)) (hlo : ∀ q ∈ locs, zFr X.2.2.2.2 q.base) (hc : cells + w.2.2.1 = X.1.2.2.2.1.cells) (hs : slots + w.2.2.2.1 = X.1.2.2.2.1.slots) (hg : g = F0 X.2.1.1 pc ls g.stack)
    (hD : (∃ (v : Option Value) (vm₁ : Vm) (B : Pt), X.1.2.2.2.2.WarmedH vm₁ ∧ Stand X.1.1 X.1.2.1 X.1.2.2.1 X.1.2.2.2.1 X.1.2.2.2.2 X.2.1.1 X.2.1.2.1 X.2.1.2.2.1 X.2.1.2.2.2.1 X.2.1.2.2.2.2 B.U B.locs B.cells B.slots ∧ zPoN X.2.2.2.2 w (.inr (v', w')) ⟨T.setVm vm₁, locs, cells, slots⟩ a v B ∧
        ∀ target, Steps X.1.1.tables X.1.2.2.1 X.2.1.2.2.1 (B.U.setTop { g with pc := g.pc + len, stack := v.toList ++ st.map tv }) target → Steps X.1.1.tables X.1.2.2.1 X.2.1.2.2.1 (T.setTop g) target) ∨
      (∃ (q : Addr) (vm₁ : Vm) (B : Pt), X.1.2.2.2.2.WarmedH vm₁ ∧ Stand X.1.1 X.1.2.1 X.1.2.2.1 X.1.2.2.2.1 X.1.2.2.2.2 X.2.1.1 X.2.1.2.1 X.2.1.2.2.1 X.2.1.2.2.2.1 X.2.1.2.2.2.2 B.U B.locs B.cells B.slots ∧ zPoX X.2.2.2.2 w (.inr (v', w')) ⟨T.setVm vm₁, locs, cells, slots⟩ a q B ∧
        Steps X.1.1.tables X.1.2.2.1 X.2.1.2.2.1 (T.setTop g) ((B.U.setTop { g with stack := st.map tv }).pushFrame (.throwing q))))
    (kk : zJ X (pc + len) lv (v'.toList ++ st) w') : ∃ t, Steps X.1.1.tables X.1.2.2.1 X.2.1.2.2.1 (T.setTop g) t ∧ X.2.2.2.1 t := by
  rcases hD with ⟨v, vm₁, ⟨U', l2, c2, s2⟩, -, X', ⟨v9, w9, ho, rfl, hrp, L, h1, hL, h2, h3⟩, st9⟩ | ⟨q, vm₁, B, -, X', ⟨E, w9, w'', ce, ho, -⟩, -⟩
  · cases ho
    dsimp only [Pt.U, Pt.locs, Pt.cells, Pt.slots] at X' hrp h1 h2 h3 st9
    subst h1
    obtain ⟨t, a1, b1⟩ := kk U'.heap ls (locs ++ L) c2 s2 hrp hl (fun q hq => (List.mem_append.mp hq).elim (hlo q) (hL q)) (by rw [h2]; exact hc) (by rw [h3]; exact hs) U' rfl X'
    refine ⟨t, st9 t ?_, b1⟩
    rw [hg]
    have e9 : (v'.map tv).toList ++ st.map tv = (v'.toList ++ st).map tv := by
      cases v' <;> simp
    dsimp only
    rw [e9]
    exact a1
  · cases ho
