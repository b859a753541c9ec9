/-! BASE 9: statics, texts, casts, switches, throws -/
set_option maxRecDepth 100000
/-- the cell's class is one of these (null passes) -/
def cK (w : zWd) (cis : List Nat) : Option Nat → Option Unit
  | none => some ()
  | some a => match w.1 a with
    | some (_, .inr (c, _)) => if c ∈ cis then some () else none
    | _ => none
/-- instanceof for the class t among classes that are final and apart -/
def iO (w : zWd) (t : Nat) : Option Nat → Option Int32
  | none => some 0
  | some a => match w.1 a with
    | some (_, .inr (c, _)) => if c = t then some 1 else if c ∈ [8, 9, 10] ∧ t ∈ [8, 9, 10] then some 0 else none
    | _ => none
section R9
variable {X : zX} {own : String} {cc : ByteArray} {nL : Nat} {ret : Option FieldType} {h : Nat} {pc : Nat} {lv : List (Option zLV)} {st : List zLV} {w w' w0 : zWd} {r : Option Nat} {index : Nat}
theorem j_getsV (hX : zGd X own cc nL ret h) {C n d9 : String} {v : zLV} (hZ : va_Z C n d9 (tv v) (zFr X.2.2.2.2) X.1.2.2.2.2 X.2.2.2.2.2.2.1) (q : Cond.fieldLink own index C n d9 ∈ lw_all) (d : decode cc pc = .ok (.getstatic index, 3)) (kk : zJ X (pc + 3) lv (v :: st) w) : zJ X pc lv st w := by
  intro H ls locs cells slots hR hl hlo hc hs
  obtain ⟨cf, kf, fi, f, a, cell, h1, h2, h3, h4, h5, h6, h7, h8⟩ := hZ
  have ha : a < X.2.2.2.2.2.2.1.size := (Array.getElem?_eq_some_iff.mp h5).1
  exact W.gets hX.1.1 hX.1.2.1 hX.1.2.2.2.2.2.2 (hX.2.1.1 _ q) h1 h2 h3 h4 (by rw [hR.2.2.1.2 a ha]; exact h5) (fun e => by rw [e] at h6; cases h6) h7 rfl d (kk H ls locs cells slots hR hl hlo hc hs)
theorem j_gets0 (hX : zGd X own cc nL ret h) (q : Cond.fieldLink own index "java/lang/Integer$IntegerCache" "high" "I" ∈ lw_all) (d : decode cc pc = .ok (.getstatic index, 3)) {α : Type} {f : Int32 → Option α} {o : α} (hf : (stI w 0).bind f = some o) (kk : ∀ x, stI w 0 = some x → f x = some o → zJ X (pc + 3) lv (vI x :: st) w) : zJ X pc lv st w := by
  obtain ⟨x, e1, e2⟩ := zob hf
  intro H ls locs cells slots hR hl hlo hc hs
  refine j_getsV hX (v := vI x) ?_ q d (kk x e1 e2) H ls locs cells slots hR hl hlo hc hs
  have e3 : X.2.2.2.2.2.2.2 0 = vI x := by
    unfold stI at e1
    rw [hR.2.2.2] at e1
    split at e1
    next y hy => cases e1; exact hy
    next => cases e1
  rw [← e3]
  exact hX.2.1.2.1.2.2.2.2.2.1.1
theorem j_gets1 (hX : zGd X own cc nL ret h) (q : Cond.fieldLink own index "java/lang/Integer$IntegerCache" "cache" "[Ljava/lang/Integer;" ∈ lw_all) (d : decode cc pc = .ok (.getstatic index, 3)) {α : Type} {f : Option Nat → Option α} {o : α} (hf : (stA w 1).bind f = some o) (kk : ∀ x, stA w 1 = some x → f x = some o → zJ X (pc + 3) lv (vA x :: st) w) : zJ X pc lv st w := by
  obtain ⟨x, e1, e2⟩ := zob hf
  intro H ls locs cells slots hR hl hlo hc hs
  refine j_getsV hX (v := vA x) ?_ q d (kk x e1 e2) H ls locs cells slots hR hl hlo hc hs
  have e3 : X.2.2.2.2.2.2.2 1 = vA x := by
    unfold stA at e1
    rw [hR.2.2.2] at e1
    split at e1
    next y hy => cases e1; exact hy
    next => cases e1
  rw [← e3]
  exact hX.2.1.2.1.2.2.2.2.2.1.2.1
theorem j_gets2 (hX : zGd X own cc nL ret h) (q : Cond.fieldLink own index "java/util/ArrayList" "DEFAULTCAPACITY_EMPTY_ELEMENTDATA" "[Ljava/lang/Object;" ∈ lw_all) (d : decode cc pc = .ok (.getstatic index, 3)) {α : Type} {f : Option Nat → Option α} {o : α} (hf : (stA w 2).bind f = some o) (kk : ∀ x, stA w 2 = some x → f x = some o → zJ X (pc + 3) lv (vA x :: st) w) : zJ X pc lv st w := by
  obtain ⟨x, e1, e2⟩ := zob hf
  intro H ls locs cells slots hR hl hlo hc hs
  refine j_getsV hX (v := vA x) ?_ q d (kk x e1 e2) H ls locs cells slots hR hl hlo hc hs
  have e3 : X.2.2.2.2.2.2.2 2 = vA x := by
    unfold stA at e1
    rw [hR.2.2.2] at e1
    split at e1
    next y hy => cases e1; exact hy
    next => cases e1
  rw [← e3]
  exact hX.2.1.2.1.2.2.2.2.2.1.2.2.1
theorem j_gets3 (hX : zGd X own cc nL ret h) (q : Cond.fieldLink own index "java/lang/String" "COMPACT_STRINGS" "Z" ∈ lw_all) (d : decode cc pc = .ok (.getstatic index, 3)) {α : Type} {f : Int32 → Option α} {o : α} (hf : (stI w 3).bind f = some o) (kk : ∀ x, stI w 3 = some x → f x = some o → zJ X (pc + 3) lv (vI x :: st) w) : zJ X pc lv st w := by
  obtain ⟨x, e1, e2⟩ := zob hf
  intro H ls locs cells slots hR hl hlo hc hs
  refine j_getsV hX (v := vI x) ?_ q d (kk x e1 e2) H ls locs cells slots hR hl hlo hc hs
  have e3 : X.2.2.2.2.2.2.2 3 = vI x := by
    unfold stI at e1
    rw [hR.2.2.2] at e1
    split at e1
    next y hy => cases e1; exact hy
    next => cases e1
  rw [← e3]
  exact hX.2.1.2.1.2.2.2.2.2.1.2.2.2
/-- a text of Taxmaze's file -/
theorem j_ldcS (hX : zGd X "Taxmaze" cc nL ret h) (j : Nat) {tx : String} (hj : zSrl[j]? = some (index, tx)) (d : decode cc pc = .ok (.ldc index, 2)) {α : Type} {f : Option Nat → Option α} {o : α} (hf : (stA w (10 + j)).bind f = some o) (kk : ∀ x, stA w (10 + j) = some x → f x = some o → zJ X (pc + 2) lv (vA x :: st) w) : zJ X pc lv st w := by
  obtain ⟨x, e1, e2⟩ := zob hf
  obtain ⟨sa, a1, a2⟩ := hX.2.1.2.1.2.2.2.2.2.2.2.2.1 j _ hj
  intro H ls locs cells slots hR hl hlo hc hs
  have e3 : x = some sa := by
    unfold stA at e1
    rw [hR.2.2.2, a1] at e1
    exact (Option.some.inj e1).symm
  have k9 := kk x e1 e2 H ls locs cells slots hR hl hlo hc hs
  subst e3
  exact va_ldcS hX.1.1 hX.1.2.1 hX.1.2.2.2.2.2.2 a2 d k9
theorem j_cast (hX : zGd X own cc nL ret h) {nm : String} (q : Cond.classLink own index nm ∈ lw_all) (cis : List Nat) (hcs : ∀ c ∈ cis, ∃ z, zCL[c]? = some z ∧ (z.1 = nm ∨ Cond.castable z.1 nm ∈ lw_tbl)) (d : decode cc pc = .ok (.checkcast index, 3)) {α : Type} {f : Unit → Option α} {o : α} (hf : (cK w cis r).bind f = some o) (kk : f () = some o → zJ X (pc + 3) lv (vA r :: st) w) : zJ X pc lv (vA r :: st) w := by
  obtain ⟨⟨⟩, e1, e2⟩ := zob hf
  intro H ls locs cells slots hR hl hlo hc hs
  cases r with
  | none => exact lv_castN hX.1.1 hX.1.2.1 d (kk e2 H ls locs cells slots hR hl hlo hc hs)
  | some a =>
    simp only [cK] at e1
    split at e1
    next fl c9 fs hca =>
      split at e1
      next hm =>
        obtain ⟨rr, a1, cell, b1, b2, b3, -⟩ := (hR.2.1 a _ _ hca).1
        obtain ⟨z, g1, g2⟩ := hcs _ hm
        cases g1.symm.trans a1
        have hat := (hX.2.1.2.1.1.1 _ _ g1).2
        have hcls : X.1.2.2.2.2.vm.findClass rr.1 = some cell.cls := by rw [b2]; exact hat.1
        rcases g2 with g2 | g2
        · rw [g2] at hat hcls
          exact va_castS hX.1.1 hX.1.2.1 hX.1.2.2.2.2.2.2 (hX.2.1.1 _ q) hat ⟨cell, b1, by rw [b3]; rfl, hcls⟩ d (kk e2 H ls locs cells slots hR hl hlo hc hs)
        · exact va_castY hX.1.1 hX.1.2.1 hX.1.2.2.2.2.2.2 (hX.2.1.1 _ q) (hX.2.1.2.1.2.2.1 _ g2 rfl) ⟨cell, b1, by rw [b3]; rfl, hcls⟩ d (kk e2 H ls locs cells slots hR hl hlo hc hs)
      next => cases e1
    next => cases e1
theorem zNc_ok : ∀ c, c ∈ [8, 9, 10] → ∀ t, t ∈ [8, 9, 10] → c ≠ t → ∃ z y, zCL[c]? = some z ∧ zCL[t]? = some y ∧ (z.1, y.1) ∈ zNcl := by
  intro c hc t ht hne
  simp only [List.mem_cons, List.not_mem_nil, or_false] at hc ht
  rcases hc with rfl | rfl | rfl <;> rcases ht with rfl | rfl | rfl <;> first
    | exact absurd rfl hne
    | exact ⟨_, _, rfl, rfl, by decide +kernel⟩
theorem j_inst (hX : zGd X own cc nL ret h) {nm : String} (q : Cond.classLink own index nm ∈ lw_all) (t : Nat) (ht : ∃ z, zCL[t]? = some z ∧ z.1 = nm) (d : decode cc pc = .ok (.instanceof index, 3)) {α : Type} {f : Int32 → Option α} {o : α} (hf : (iO w t r).bind f = some o) (kk : ∀ x, iO w t r = some x → f x = some o → zJ X (pc + 3) lv (vI x :: st) w) : zJ X pc lv (vA r :: st) w := by
  obtain ⟨x, e1, e2⟩ := zob hf
  have e0 := e1
  intro H ls locs cells slots hR hl hlo hc hs
  cases r with
  | none =>
    cases e1
    exact lv_instN hX.1.1 hX.1.2.1 d (kk _ e0 e2 H ls locs cells slots hR hl hlo hc hs)
  | some a =>
    simp only [iO] at e1
    split at e1
    next fl c9 fs hca =>
      obtain ⟨rr, a1, cell, b1, b2, b3, -⟩ := (hR.2.1 a _ _ hca).1
      have hat := (hX.2.1.2.1.1.1 _ _ a1).2
      have hcls : X.1.2.2.2.2.vm.findClass rr.1 = some cell.cls := by rw [b2]; exact hat.1
      obtain ⟨z, g1, g2⟩ := ht
      split at e1
      next hm =>
        cases e1
        subst hm
        cases g1.symm.trans a1
        rw [g2] at hat hcls
        exact va_instS hX.1.1 hX.1.2.1 hX.1.2.2.2.2.2.2 (hX.2.1.1 _ q) hat ⟨cell, b1, by rw [b3]; rfl, hcls⟩ d (kk _ e0 e2 H ls locs cells slots hR hl hlo hc hs)
      next hm =>
        split at e1
        next hm2 =>
          cases e1
          obtain ⟨z2, y2, j1, j2, j3⟩ := zNc_ok c9 hm2.1 t hm2.2 hm
          cases j1.symm.trans a1
          cases j2.symm.trans g1
          have hnc := hX.2.1.2.1.2.2.2.2.2.2.2.1 _ j3
          rw [g2] at hnc
          exact va_instNo hX.1.1 hX.1.2.1 hX.1.2.2.2.2.2.2 (hX.2.1.1 _ q) hnc ⟨cell, b1, by rw [b3]; rfl, hcls⟩ d (kk _ e0 e2 H ls locs cells slots hR hl hlo hc hs)
        next => cases e1
    next => cases e1
theorem j_tsIn (hX : zGd X own cc nL ret h) {dflt lo hi : Int} {offs : Array Int} {len : Nat} {x : Int32} {off : Int} (tgt : Nat) (d : decode cc pc = .ok (.tableswitch dflt lo hi offs, len)) (i : Nat) (hx : x.toInt = lo + i) (hi : ¬ hi < lo + i) (ho : offs[i]? = some off) (ht : (pc : Int) + off = (tgt : Int)) (k : zJ X tgt lv st w) : zJ X pc lv (vI x :: st) w := by
  intro H ls locs cells slots hR hl hlo hc hs
  exact lv_tableIn hX.1.1 hX.1.2.1 d (by omega) (by rw [hx]; exact hi) (by rw [hx, show (lo + (i : Int) - lo).toNat = i by omega]; exact ho) ht (k H ls locs cells slots hR hl hlo hc hs)
theorem j_tsOut (hX : zGd X own cc nL ret h) {dflt lo hi : Int} {offs : Array Int} {len : Nat} {x : Int32} (tgt : Nat) (d : decode cc pc = .ok (.tableswitch dflt lo hi offs, len)) (hx : ∀ k : Int, lo ≤ k → k ≤ hi → ¬ x = Int32.ofInt k) (hr : -2147483648 ≤ lo ∧ hi < 2147483648) (ht : (pc : Int) + dflt = (tgt : Int)) (k : zJ X tgt lv st w) : zJ X pc lv (vI x :: st) w := by
  intro H ls locs cells slots hR hl hlo hc hs
  refine lv_tableOut hX.1.1 hX.1.2.1 d ?_ ht (k H ls locs cells slots hR hl hlo hc hs)
  by_cases h1 : x.toInt < lo
  · exact Or.inl h1
  · by_cases h2 : hi < x.toInt
    · exact Or.inr h2
    · exact absurd (by rw [Int32.ofInt_toInt]) (hx x.toInt (by omega) (by omega))
theorem j_lsw (hX : zGd X own cc nL ret h) {dflt : Int} {ps : Array (Int × Int)} {len : Nat} {x : Int32} {off : Int} (tgt : Nat) (d : decode cc pc = .ok (.lookupswitch dflt ps, len)) (hp : (ps.toList.zip (ps.toList.drop 1)).all (fun (a, next) => a.1 < next.1) = true) (ho : Op.lookupswitch.offset ps.toList dflt x.toInt = off) (ht : (pc : Int) + off = (tgt : Int)) (k : zJ X tgt lv st w) : zJ X pc lv (vI x :: st) w := by
  intro H ls locs cells slots hR hl hlo hc hs
  exact lv_lookup hX.1.1 hX.1.2.1 d hp ho ht (k H ls locs cells slots hR hl hlo hc hs)
/-- words of a throw, all of the tables -/
theorem zHat (hX : zGd X own cc nL ret h) {L : List Cond} (h1 : ∀ w ∈ L, w ∈ lw_tbl) (h2 : L.all (fun w => goodWord w || zMv w) = true) : ∀ w ∈ L, w.before X.2.1.2.1 X.1.2.2.2.2 = true := by
  intro w hw
  have h3 := List.all_eq_true.mp h2 w hw
  rw [Bool.or_eq_true] at h3
  rcases h3 with h3 | h3
  · exact hX.2.1.1 _ (lw_g (h1 w hw) h3)
  · have h4 := hX.2.1.2.1.2.2.1 w (h1 w hw) h3
    have h5 : w.onTables = true := by
      cases w <;> first | rfl | exact absurd h3 (by simp [zMv])
    exact va_Nw.use h5 h4
/-- 'throw new E("text")' in a method without handlers: the function says .inl (E, the world) -/
theorem j_throwS (hX : zGd X "Taxmaze" cc nL ret h) (hN : zNh X) {E : String} (hQ : zFin X w0 (.inl (E, w))) {names : List String} {ik is ic : Nat} (j : Nat) {tx : String} (hj : zSrl[j]? = some (is, tx))
    (hcls : Bundle.fit E = true) (hnames : ∀ n ∈ names, Bundle.fit n = true) (q1 : Cond.classLink "Taxmaze" ik E ∈ lw_all) (q2 : Cond.initialized E ∈ lw_all) (h1 : ∀ w ∈ vx_atS "Taxmaze" ic E names, w ∈ lw_tbl) (h2 : (vx_atS "Taxmaze" ic E names).all (fun w => goodWord w || zMv w) = true)
    (hgood : ∀ w ∈ Cond.classLink "Taxmaze" ik E :: Cond.initialized E :: vx_atS "Taxmaze" ic E names, vx_ot w = true)
    (d0 : decode cc pc = .ok (.new ik, 3)) (d3 : decode cc (pc + 3) = .ok (.dup, 1)) (d4 : decode cc (pc + 4) = .ok (.ldc is, 2) ∨ False) (d6 : decode cc (pc + 6) = .ok (.invokespecial ic, 3)) (d9 : decode cc (pc + 9) = .ok (.athrow, 1))
    (hh : names.length + 4 ≤ h) (hcs : zCs st + (13 * (names.length + 1) + 43) ≤ 64 * h) (hroom : 1 ≤ w.2.2.1 ∧ 6 ≤ w.2.2.2.1) : zJ X pc lv st w := by
  intro H ls locs cells slots hR hl hlo hc hs
  obtain ⟨sa, a1, a2⟩ := hX.2.1.2.1.2.2.2.2.2.2.2.2.1 j _ hj
  have d4' : decode cc (pc + 4) = .ok (.ldc is, 2) := d4.elim id False.elim
  obtain ⟨hU, hV⟩ := hX.2.1.2.1.2.2.2.2.1
  have hk9 : ∀ a : Nat, a < X.2.2.2.2.2.2.1.size → ¬ zFr X.2.2.2.2 a → X.1.2.2.2.2.heap[a]? = X.2.2.2.2.2.2.1[a]? := fun a ha _ => hX.2.1.2.2.2 a ha
  intro T hT XS
  have hsz : X.1.2.2.2.2.heap.size ≤ H.size := by
    have := XS.same.2.1
    rw [← hT]
    exact this
  have hS : va_S (zFr X.2.2.2.2) X.1.2.2.2.2.heap H locs := ⟨hsz, fun q _ h2 => by
    have hq : q < X.2.2.2.2.2.2.1.size := Nat.not_le.mp h2
    rw [hR.2.2.1.2 q hq, hX.2.1.2.2.2 q hq], hlo⟩
  refine zW_mono (Q := vx_MQ X.2.1.2.2.1 (fun _ _ _ _ => False) (fun E9 _ t => E9 = E ∧ H.size ≤ t.heap.size ∧ ∀ q : Nat, q < H.size → t.heap[q]? = H[q]?) X.2.1.2.1 X.1.2.2.2.2 (cells + 1) (slots + 6) (zFr X.2.2.2.2)) ?_
    (vx_throwS hX.1.1 hX.1.2.1 hX.2.2.1 hX.1.2.2.2.2.2.2 hcls hnames (hX.2.1.1 _ q1) (hX.2.1.1 _ q2) a2 (zHat hX h1 h2) hgood (hU.kept hk9) (hV.kept hk9) hS (by rw [hX.1.2.2.2.2.1, ← hX.1.2.2.2.2.2.1]; exact hl.1) d0 d3 d4' d6 d9 (fun x hx => (hN x hx).elim) (by have := hX.2.2.2.1; omega) (by rw [zCs_eq]; have := hX.2.2.2.2; omega) (by omega) (by omega) hX.1.2.2.2.1 (fun t _ g1 g2 => ⟨rfl, g1, g2⟩) hlo (Nat.le_refl _) (Nat.le_refl _)) T hT XS
  rintro t ⟨oc, b1, b2, b3⟩
  rcases b3 with ⟨b3, -⟩ | ⟨q, b3, E9, ce, L, ⟨rfl, c1, c2⟩, c3, c4, c5, c6, c7, c8⟩
  · exact b3.elim
  · rw [hQ.1]
    refine ⟨oc, b1, b2, q, ce, L, cells + 1, slots + 6, (w.1, t.heap.size, w.2.2.1 - 1, w.2.2.2.1 - 6, w.2.2.2.2), b3, ⟨rfl, by rw [← hR.1]; exact c1, by dsimp only; omega, by dsimp only; omega, rfl⟩, ⟨rfl, fun a fl e he => ?_, ⟨by have := hR.2.2.1.1; omega, fun a ha => ?_⟩, hR.2.2.2⟩, c3, c4, c5, c6, c7, c8, ?_, ?_⟩
    · obtain ⟨g1, g2⟩ := hR.2.1 a fl e he
      exact ⟨zCell_kept g1 (c2 a (zCell_lt g1)), g2⟩
    · rw [c2 a (Nat.lt_of_lt_of_le ha hR.2.2.1.1)]
      exact hR.2.2.1.2 a ha
    · have := hQ.2.1; dsimp only; omega
    · have := hQ.2.2; dsimp only; omega
/-- the same by ldc_w, in a method without handlers: the function says .inl (E, the world) -/
theorem j_throwSW (hX : zGd X "Taxmaze" cc nL ret h) (hN : zNh X) {E : String} (hQ : zFin X w0 (.inl (E, w))) {names : List String} {ik is ic : Nat} (j : Nat) {tx : String} (hj : zSrl[j]? = some (is, tx))
    (hcls : Bundle.fit E = true) (hnames : ∀ n ∈ names, Bundle.fit n = true) (q1 : Cond.classLink "Taxmaze" ik E ∈ lw_all) (q2 : Cond.initialized E ∈ lw_all) (h1 : ∀ w ∈ vx_atS "Taxmaze" ic E names, w ∈ lw_tbl) (h2 : (vx_atS "Taxmaze" ic E names).all (fun w => goodWord w || zMv w) = true)
    (hgood : ∀ w ∈ Cond.classLink "Taxmaze" ik E :: Cond.initialized E :: vx_atS "Taxmaze" ic E names, vx_ot w = true)
    (d0 : decode cc pc = .ok (.new ik, 3)) (d3 : decode cc (pc + 3) = .ok (.dup, 1)) (d4 : decode cc (pc + 4) = .ok (.ldc_w is, 3) ∨ False) (d6 : decode cc (pc + 7) = .ok (.invokespecial ic, 3)) (d9 : decode cc (pc + 10) = .ok (.athrow, 1))
    (hh : names.length + 4 ≤ h) (hcs : zCs st + (13 * (names.length + 1) + 43) ≤ 64 * h) (hroom : 1 ≤ w.2.2.1 ∧ 6 ≤ w.2.2.2.1) : zJ X pc lv st w := by
  intro H ls locs cells slots hR hl hlo hc hs
  obtain ⟨sa, a1, a2⟩ := hX.2.1.2.1.2.2.2.2.2.2.2.2.1 j _ hj
  have d4' : decode cc (pc + 4) = .ok (.ldc_w is, 3) := d4.elim id False.elim
  obtain ⟨hU, hV⟩ := hX.2.1.2.1.2.2.2.2.1
  have hk9 : ∀ a : Nat, a < X.2.2.2.2.2.2.1.size → ¬ zFr X.2.2.2.2 a → X.1.2.2.2.2.heap[a]? = X.2.2.2.2.2.2.1[a]? := fun a ha _ => hX.2.1.2.2.2 a ha
  intro T hT XS
  have hsz : X.1.2.2.2.2.heap.size ≤ H.size := by
    have := XS.same.2.1
    rw [← hT]
    exact this
  have hS : va_S (zFr X.2.2.2.2) X.1.2.2.2.2.heap H locs := ⟨hsz, fun q _ h2 => by
    have hq : q < X.2.2.2.2.2.2.1.size := Nat.not_le.mp h2
    rw [hR.2.2.1.2 q hq, hX.2.1.2.2.2 q hq], hlo⟩
  refine zW_mono (Q := vx_MQ X.2.1.2.2.1 (fun _ _ _ _ => False) (fun E9 _ t => E9 = E ∧ H.size ≤ t.heap.size ∧ ∀ q : Nat, q < H.size → t.heap[q]? = H[q]?) X.2.1.2.1 X.1.2.2.2.2 (cells + 1) (slots + 6) (zFr X.2.2.2.2)) ?_
    (vx_throwSW hX.1.1 hX.1.2.1 hX.2.2.1 hX.1.2.2.2.2.2.2 hcls hnames (hX.2.1.1 _ q1) (hX.2.1.1 _ q2) a2 (zHat hX h1 h2) hgood (hU.kept hk9) (hV.kept hk9) hS (by rw [hX.1.2.2.2.2.1, ← hX.1.2.2.2.2.2.1]; exact hl.1) d0 d3 d4' d6 d9 (fun x hx => (hN x hx).elim) (by have := hX.2.2.2.1; omega) (by rw [zCs_eq]; have := hX.2.2.2.2; omega) (by omega) (by omega) hX.1.2.2.2.1 (fun t _ g1 g2 => ⟨rfl, g1, g2⟩) hlo (Nat.le_refl _) (Nat.le_refl _)) T hT XS
  rintro t ⟨oc, b1, b2, b3⟩
  rcases b3 with ⟨b3, -⟩ | ⟨q, b3, E9, ce, L, ⟨rfl, c1, c2⟩, c3, c4, c5, c6, c7, c8⟩
  · exact b3.elim
  · rw [hQ.1]
    refine ⟨oc, b1, b2, q, ce, L, cells + 1, slots + 6, (w.1, t.heap.size, w.2.2.1 - 1, w.2.2.2.1 - 6, w.2.2.2.2), b3, ⟨rfl, by rw [← hR.1]; exact c1, by dsimp only; omega, by dsimp only; omega, rfl⟩, ⟨rfl, fun a fl e he => ?_, ⟨by have := hR.2.2.1.1; omega, fun a ha => ?_⟩, hR.2.2.2⟩, c3, c4, c5, c6, c7, c8, ?_, ?_⟩
    · obtain ⟨g1, g2⟩ := hR.2.1 a fl e he
      exact ⟨zCell_kept g1 (c2 a (zCell_lt g1)), g2⟩
    · rw [c2 a (Nat.lt_of_lt_of_le ha hR.2.2.1.1)]
      exact hR.2.2.1.2 a ha
    · have := hQ.2.1; dsimp only; omega
    · have := hQ.2.2; dsimp only; omega
end R9
