/-! BASE 11: arrays of objects, grids, copies of arrays, class objects -/
set_option maxRecDepth 100000
/-- a row into a grid of kind k -/
def zSt (w : zWd) (k : Nat) (r : Option Nat) (i : Nat) (x : Option Nat) : Option zWd := match r with
  | none => none
  | some a => match w.1 a with
    | some (true, .inl (k', n, .inr (.inr f))) => if k' = k ∧ i < n then some (zUp w a (.inl (k', n, .inr (.inr (va_up f i x))))) else none
    | _ => none
def zLf (k : Nat) : zAC := if k = 0 then .inl fun _ => 0 else .inr (.inl fun _ => 0)
def zMkL (mk : zWd → Option (Option Nat × zWd)) (k : Nat) (r : Option Nat) : Nat → Nat → zWd → Option zWd
  | 0, _, w => some w
  | j + 1, i, w => (mk w).bind fun p => (zSt p.2 k r i p.1).bind fun w' => zMkL mk k r j (i + 1) w'
/-- a grid: kinds and lengths, outermost first -/
def zMk : List Nat → List Nat → zWd → Option (Option Nat × zWd)
  | [], _, _ => none
  | [k], n :: _, w => zNew w n (.inl (k, n, zLf k))
  | k :: j :: ks, n :: ns, w => (zNew w n (.inl (k, n, .inr (.inr fun _ => none)))).bind fun p => (zMkL (zMk (j :: ks) ns) k p.1 n 0 p.2).bind fun w' => some (p.1, w')
  | _ :: _, [], _ => none
def zMul (w : zWd) (ks : List Nat) (ns : List Int32) : Option (Option Nat × zWd) := if ∃ n ∈ ns, n < 0 ∨ 100000 < n.toNatClampNeg then none else zMk ks (ns.map (·.toNatClampNeg)) w
def nMI2 (w : zWd) (a b : Int32) : Option (Option Nat × zWd) := zMul w [4, 0] [a, b]
def nMI3 (w : zWd) (a b c : Int32) : Option (Option Nat × zWd) := zMul w [5, 4, 0] [a, b, c]
def nML3 (w : zWd) (a b c : Int32) : Option (Option Nat × zWd) := zMul w [7, 6, 1] [a, b, c]
def zCh (dA : Nat → ClassId) (s : State) : List Nat → Prop
  | [] => True
  | [k] => k ≤ 1 ∧ ∃ (kA : Class) (comp : ClassId), s.vm.classes[dA k]? = some kA ∧ kA.kind = .array comp (zAt k)
  | k :: j :: t => (∃ kA : Class, s.vm.classes[dA k]? = some kA ∧ kA.kind = .array (dA j) (zAt k)) ∧ (zAt k).isReference = true ∧ componentBytes (zAt k) ≤ 8 ∧ k ≤ 8 ∧ zCh dA s (j :: t)
/-- a state of the native walk, and its world -/
def zI (X : zX) (f : JFrame) (w : zWd) (S : State) : Prop := ∃ (T : State) (locs : List Loc) (cells slots : Nat), S = T.setTop f ∧ Stand X.1.1 X.1.2.1 X.1.2.2.1 X.1.2.2.2.1 X.1.2.2.2.2 X.2.1.1 X.2.1.2.1 X.2.1.2.2.1 X.2.1.2.2.2.1 X.2.1.2.2.2.2 T locs cells slots ∧
  zRp X.2.2.2.2 w T.heap ∧ (∀ q ∈ locs, zFr X.2.2.2.2 q.base) ∧ cells + w.2.2.1 = X.1.2.2.2.1.cells ∧ slots + w.2.2.2.1 = X.1.2.2.2.1.slots
theorem zI_new {X : zX} {f : JFrame} {E : CtlPost} {dd : Bool} {acts : List Action} {w w' : zWd} {S : State} {x : Option Nat} {n k : Nat} {u : zAC} {kA : Class} {comp : ClassId} (hI : zI X f w S) (hk : k ≤ 8) (hru : match u with | .inr (.inr _) => (zAt k).isReference = true | _ => True) (hn : n ≤ 100000)
    (h1 : X.1.2.2.2.2.vm.classes[X.2.2.2.2.2.1 k]? = some kA) (h2 : kA.kind = .array comp (zAt k)) (hb : componentBytes (zAt k) ≤ 8) (v : Value) (hfit : fits (zAt k) v = true) (hdef : v.isDefault = true) (hu : vp_cell (X.2.2.2.2.2.1 k) (n, zAc u) = arrV (X.2.2.2.2.2.1 k) n (fun _ => v))
    (e1 : zNew w n (.inl (k, n, u)) = some (x, w')) {Q : Addr → Pre} (hq : ∀ (a : Addr) (S' : State), x = some a → zI X f w' S' → Q a dd acts S') : wp (Jvm.newArray (X.2.2.2.2.2.1 k) n v) Q E X.1.2.2.1 dd acts S := by
  obtain ⟨T, locs, cells, slots, rfl, XS, hR, hlo, hc, hs⟩ := hI
  obtain ⟨hr1, hr2⟩ := zNew_room e1
  obtain ⟨r1, r2⟩ := XS.roomAbove (show cells + 1 ≤ X.1.2.2.2.1.cells by omega) (show slots + n ≤ X.1.2.2.2.1.slots by omega)
  obtain ⟨kA', g1, g2⟩ := XS.warmed.alike.2.2 _ _ h1
  refine Jvm.Free.Multi.wp_newArray (s := T.setTop f) (k := kA') (comp := comp) (type := zAt k) g1 (by rw [g2]; exact h2) (by rw [Launch.admits_arrayLengthLimit XS.admits]; omega) (by rw [Launch.admits_maxHeapBytes XS.admits]; have := Nat.mul_le_mul hn hb; omega) hfit hdef (show T.heap.size < _ by omega) (show T.slotsUsed + n ≤ _ from r2) ?_
  have hpu : T.heap.push ({ cls := X.2.2.2.2.2.1 k, slots := Array.replicate n v, vm := .none } : Cell) = (T.pushCell { cls := X.2.2.2.2.2.1 k, slots := Array.replicate n v, vm := .none }).heap := rfl
  obtain ⟨rfl, g3, g4, g5⟩ := zRp_new (H1 := (T.pushCell { cls := X.2.2.2.2.2.1 k, slots := Array.replicate n v, vm := .none }).heap) hR e1 (by rw [← hpu, Array.size_push]) (fun q hq => by rw [← hpu, Array.getElem?_push, if_neg (Nat.ne_of_lt hq)]) ⟨hk, hru, by rw [← hpu, Array.getElem?_push_size, hu, ← arrV_new]⟩
  have XP := XS.pushed ({ cls := X.2.2.2.2.2.1 k, slots := Array.replicate n v, vm := .none } : Cell)
  rw [show (Array.replicate n v).size = n by simp] at XP
  exact hq _ _ rfl ⟨_, locs, cells + 1, slots + n, rfl, XP, g3, hlo, by omega, by omega⟩
theorem zI_st {X : zX} {f : JFrame} {w w' : zWd} {S : State} {k : Nat} {a b : Nat} {i : Nat} (hI : zI X f w S) {kA : Class} {comp : ClassId} (h1 : X.1.2.2.2.2.vm.classes[X.2.2.2.2.2.1 k]? = some kA) (h2 : kA.kind = .array comp (zAt k)) (e : zSt w k (some a) i (some b) = some w') :
    ∃ c, S.heap[a]? = some c ∧ c.vm ≠ .unknown ∧ i < c.slots.size ∧ S.fitsSlot c.cls c.vm i (.ref b) = true ∧ zI X f w' (S.setCell a (c.setSlot i (.ref b))) := by
  obtain ⟨T, locs, cells, slots, rfl, XS, hR, hlo, hc, hs⟩ := hI
  simp only [zSt] at e
  split at e
  next k' n g hca =>
    split at e
    next hki =>
      obtain ⟨rfl, hin⟩ := hki
      cases e
      obtain ⟨⟨hk9, hrf, h3⟩, hw⟩ := hR.2.1 a _ _ hca
      obtain ⟨kA', g1, g2⟩ := XS.warmed.alike.2.2 _ _ h1
      have hl : a < T.heap.size := (Array.getElem?_eq_some_iff.mp h3).1
      refine ⟨_, h3, (fun q => by cases q), by show i < (arrV _ _ _).slots.size; rw [arrV_size]; exact hin, ?_, _, _, cells, slots, rfl, XS.stored h3 i (.ref b), ?_, zFr_app hlo (hw rfl), hc, hs⟩
      · rw [State.fitsSlot_setTop]
        have hsl : T.slotType? (vp_cell (X.2.2.2.2.2.1 k') (n, zAc (.inr (.inr g)))).cls .none i = some (zAt k') := by
          show T.slotType? (X.2.2.2.2.2.1 k') .none i = some (zAt k')
          simp only [State.slotType?]
          rw [g1]
          have h3 : kA'.kind = .array comp (zAt k') := by rw [g2]; exact h2
          simp [h3]
        show T.fitsSlot (X.2.2.2.2.2.1 k') .none i (.ref b) = true
        simp only [State.fitsSlot]
        rw [show T.slotType? (X.2.2.2.2.2.1 k') .none i = some (zAt k') from hsl]
        exact Jvm.Free.Multi.refFits hrf _ (Or.inr ⟨b, rfl⟩)
      · refine zRp_up hR (hw rfl) ?_ ?_ ⟨hk9, hrf, ?_⟩
        · show (T.heap.setIfInBounds a _).size = _
          simp
        · intro q hq
          show (T.heap.setIfInBounds a _)[q]? = _
          simp [Array.getElem?_setIfInBounds, Ne.symm hq]
        · show (T.heap.setIfInBounds a _)[a]? = _
          rw [Array.getElem?_setIfInBounds]
          rw [if_pos rfl, if_pos hl]
          exact congrArg some (zSto va_rf _ n g i (some b))
    next => cases e
  next => cases e
theorem zMk_wp {X : zX} {f : JFrame} {E : CtlPost} : ∀ (ks : List Nat) (k : Nat) (ns : List Int32) (n : Int32) (w w' : zWd) (x : Option Nat) (S : State) (dd : Bool) (acts : List Action) (Q : Addr → Pre), (k :: ks).length = (n :: ns).length → (∀ n' ∈ n :: ns, ¬ (n' < 0 ∨ 100000 < n'.toNatClampNeg)) →
    zCh X.2.2.2.2.2.1 X.1.2.2.2.2 (k :: ks) → zMk (k :: ks) ((n :: ns).map (·.toNatClampNeg)) w = some (x, w') → zI X f w S → (∀ (a : Addr) (S' : State) (dd' : Bool) (acts' : List Action), x = some a → zI X f w' S' → Q a dd' acts' S') →
    wp (Op.multianewarray.make (X.2.2.2.2.2.1 k) (n :: ns)) Q E X.1.2.2.1 dd acts S := by
  intro ks
  induction ks with
  | nil =>
    intro k ns n w w' x S dd acts Q hlen hns hch e hI hq
    have hns0 : ns = [] := by
      cases ns with
      | nil => rfl
      | cons a b => simp at hlen
    subst hns0
    obtain ⟨hk1, kA, comp, h1, h2⟩ := hch
    have hn := hns n (by simp)
    have hn0 : ¬ n < 0 := fun q => hn (Or.inl q)
    have hn1 : n.toNatClampNeg ≤ 100000 := Nat.not_lt.mp fun q => hn (Or.inr q)
    have hcls : ∀ kA', S.vm.classes[X.2.2.2.2.2.1 k]? = some kA' → kA'.kind = .array comp (zAt k) := by
      obtain ⟨T, locs, cells, slots, rfl, XS, -⟩ := hI
      obtain ⟨kA', g1, g2⟩ := XS.warmed.alike.2.2 _ _ h1
      intro kB hB
      cases g1.symm.trans hB
      rw [g2]; exact h2
    have hex : ∃ kA', S.vm.classes[X.2.2.2.2.2.1 k]? = some kA' := by
      obtain ⟨T, locs, cells, slots, rfl, XS, -⟩ := hI
      obtain ⟨kA', g1, g2⟩ := XS.warmed.alike.2.2 _ _ h1
      exact ⟨kA', g1⟩
    obtain ⟨kA', g1⟩ := hex
    rw [Op.multianewarray.make]
    simp only [Sem.wp_bind', _root_.Jvm.W.ite, hn0, if_false, Sem.wp_pure', _root_.Jvm.W.theClass, g1, hcls _ g1, Option.some.injEq, exists_eq_left']
    have hk01 : k = 0 ∨ k = 1 := by omega
    rcases hk01 with rfl | rfl
    · exact zI_new hI (by decide) trivial hn1 h1 h2 (by decide) (.int 0) rfl rfl rfl e (fun a S' ha hI' => hq a S' dd acts ha hI')
    · exact zI_new hI (by decide) trivial hn1 h1 h2 (by decide) (.long 0) rfl rfl rfl e (fun a S' ha hI' => hq a S' dd acts ha hI')
  | cons j ks ih =>
    intro k ns n w w' x S dd acts Q hlen hns hch e hI hq
    cases ns with
    | nil => simp at hlen
    | cons n2 ns =>
    obtain ⟨⟨kA, h1, h2⟩, href, hby, hk9, hch2⟩ := hch
    have hn := hns n (by simp)
    have hn0 : ¬ n < 0 := fun q => hn (Or.inl q)
    have hn1 : n.toNatClampNeg ≤ 100000 := Nat.not_lt.mp fun q => hn (Or.inr q)
    have hcls : ∀ S', zI X f w S' ∨ True → (∃ w9, zI X f w9 S') → ∃ kA', S'.vm.classes[X.2.2.2.2.2.1 k]? = some kA' ∧ kA'.kind = .array (X.2.2.2.2.2.1 j) (zAt k) := by
      rintro S' - ⟨w9, T, locs, cells, slots, rfl, XS, -⟩
      obtain ⟨kA', g1, g2⟩ := XS.warmed.alike.2.2 _ _ h1
      exact ⟨kA', g1, by rw [g2]; exact h2⟩
    obtain ⟨kA', g1, g2⟩ := hcls S (Or.inr trivial) ⟨w, hI⟩
    rw [Op.multianewarray.make]
    simp only [Sem.wp_bind', _root_.Jvm.W.ite, hn0, if_false, Sem.wp_pure', _root_.Jvm.W.theClass, g1, g2, Option.some.injEq, exists_eq_left']
    obtain ⟨⟨x1, w1⟩, e1, e⟩ := zob (show ((zNew w n.toNatClampNeg (.inl (k, n.toNatClampNeg, .inr (.inr fun _ => none)))).bind fun p => (zMkL (zMk (j :: ks) ((n2 :: ns).map (·.toNatClampNeg))) k p.1 n.toNatClampNeg 0 p.2).bind fun w' => some (p.1, w')) = some (x, w') from e)
    obtain ⟨w2, e2, e3⟩ := zob e
    cases e3
    refine zI_new hI hk9 href hn1 h1 h2 hby .null (Jvm.Free.Multi.refFits href _ (Or.inl rfl)) rfl rfl e1 (fun a S1 ha hI1 => ?_)
    subst ha
    have hfind : ((n2 :: ns).find? (· < 0)) = none := by
      rw [List.find?_eq_none]
      intro z hz hz0
      exact hns z (List.mem_cons_of_mem _ hz) (Or.inl (by simpa using hz0))
    simp only [hfind]
    rw [ite_self, Sem.wp_bind', Std.Legacy.Range.forIn_eq_forIn_range']
    have hsz : ([:n.toNatClampNeg] : Std.Legacy.Range).size = n.toNatClampNeg := by simp [Std.Legacy.Range.size]
    rw [hsz]
    show wp (forIn (List.range' 0 n.toNatClampNeg 1) PUnit.unit _) _ E X.1.2.2.1 dd acts _
    refine wp_forIn_inv (fun rest S' => ∃ (i j9 : Nat) (w9 : zWd), i + j9 = n.toNatClampNeg ∧ rest = List.range' i j9 ∧ zI X f w9 S' ∧ zMkL (zMk (j :: ks) ((n2 :: ns).map (·.toNatClampNeg))) k (some a) j9 i w9 = some w') _ _ ⟨0, n.toNatClampNeg, w1, by omega, rfl, hI1, e2⟩ ?_ ?_
    · rintro x9 rest S' d' acts' Q' ⟨i, j9, w9, hij, hl, hI9, e9⟩ hnext
      cases j9 with
      | zero => simp at hl
      | succ j9 =>
      obtain ⟨rfl, hrest⟩ : x9 = i ∧ rest = List.range' (i + 1) j9 := by
        rw [List.range'_succ] at hl
        exact ⟨(List.cons.inj hl).1, (List.cons.inj hl).2⟩
      obtain ⟨⟨y, w10⟩, e10, e11⟩ := zob (show ((zMk (j :: ks) ((n2 :: ns).map (·.toNatClampNeg)) w9).bind fun p => (zSt p.2 k (some a) x9 p.1).bind fun w' => zMkL (zMk (j :: ks) ((n2 :: ns).map (·.toNatClampNeg))) k (some a) j9 (x9 + 1) w') = some w' from e9)
      obtain ⟨w11, e12, e13⟩ := zob e11
      simp only [Sem.wp_bind']
      refine ih j ns n2 w9 w10 y S' d' acts' _ (by simpa using hlen) (fun z hz => hns z (List.mem_cons_of_mem _ hz)) hch2 e10 hI9 (fun b S2 d2 acts2 hb hI2 => ?_)
      subst hb
      simp only [Sem.wp_bind', _root_.Jvm.W.writeLoc, Sem.wp_pure']
      obtain ⟨c, c1, c2, c3, c4, c5⟩ := zI_st hI2 h1 h2 e12
      exact ⟨c, c1, c2, c3, c4, hnext _ _ _ ⟨x9 + 1, j9, w11, by omega, hrest, c5, e13⟩⟩
    · rintro S' d' acts' ⟨i, j9, w9, hij, hl, hI9, e9⟩
      cases j9 with
      | succ j9 => rw [List.range'_succ] at hl; cases hl
      | zero =>
      cases e9
      simp only [Sem.wp_pure']
      exact hq _ _ _ _ rfl hI9
theorem zInstr {tb : Tables} [Ours tb] {e : Env} {below : List Frame} {s : State} {f : JFrame} {c : Code} {i : Instr} {len : Nat} {P : State → Prop} (h : At s f.method c below) (hd : decode c.code f.pc = .ok (i, len))
    (hw : wpRun (tb.exec i) (fun _ s₁ _ => ∀ acts, ∃ t, Steps tb e below (afterInstr e len (.ok () s₁ acts)).1 t ∧ P t) (fun _ _ _ => False) e (s.setTop f)) : ∃ t, Steps tb e below (s.setTop f) t ∧ P t := by
  have hw := (wpRun_iff_run _ _ _ _ _).mp hw
  have hh : ∀ t, Steps tb e below (stepThread tb e (s.setTop f)).1 t → Steps tb e below (s.setTop f) t := fun t => Steps.head ⟨h.running, by rw [State.curStatus?_setTop]; exact h.runnable, by rw [State.alone_setTop]; exact h.alone⟩ (h.within f)
  rw [stepThread_java (State.frames_setTop' f h.top) h.plain h.code hd] at hh
  cases hr : (tb.exec i).run e (s.setTop f) with
  | ok a s₁ acts =>
    rw [hr] at hw hh
    obtain ⟨t, a1, b1⟩ := hw acts
    exact ⟨t, hh t a1, b1⟩
  | ctl x s₁ acts =>
    rw [hr] at hw
    cases x <;> exact hw.elim
section R11
variable {X : zX} {own : String} {cc : ByteArray} {nL : Nat} {ret : Option FieldType} {h : Nat} {pc : Nat} {lv : List (Option zLV)} {st : List zLV} {w : zWd} {index : Nat} {r : Option Nat}
theorem j_anewarr (hX : zGd X own cc nL ret h) {n : Int32} (q : Cond.classLink own index "java/lang/Object" ∈ lw_all) (d : decode cc pc = .ok (.anewarray index, 3))
    {α : Type} {f : Option Nat × zWd → Option α} {o : α} (hf : (nA_ w n).bind f = some o) (kk : ∀ x w', f (x, w') = some o → zJ X (pc + 3) lv (vA x :: st) w') : zJ X pc lv (vI n :: st) w := by
  obtain ⟨⟨x, w'⟩, e1, e2⟩ := zob hf
  unfold nA_ at e1
  split at e1
  · cases e1
  next hb =>
    have hb0 : ¬ n < 0 := fun q => hb (Or.inl q)
    have hb1 : n.toNatClampNeg ≤ 100000 := Nat.not_lt.mp fun q => hb (Or.inr q)
    obtain ⟨hr1, hr2⟩ := zNew_room e1
    intro H ls locs cells slots hR hl hlo hc9 hs
    refine W.anew hX.1.1 hX.1.2.1 hX.1.2.2.2.2.2.2 (hX.2.1.1 _ q) (va_AO.use hX.2.1.2.1.2.2.2.2.2.2.2.2.2.2.1.1) rfl d rfl hb0 (by omega) (by omega) (by omega) fun cA kA comp hnm _ _ _ => ?_
    have hcA : cA = X.2.2.2.2.2.1 2 := Option.some.inj (hnm.symm.trans (hX.2.1.2.1.2.1 2 (by decide)).2)
    subst hcA
    obtain ⟨rfl, g2, g3, g4⟩ := zRp_new (H1 := H.push { cls := X.2.2.2.2.2.1 2, slots := Array.replicate n.toNatClampNeg .null, vm := .none }) hR e1 (by rw [Array.size_push]) (fun q hq => by rw [Array.getElem?_push, if_neg (Nat.ne_of_lt hq)]) ⟨by decide, rfl, by rw [Array.getElem?_push_size]; show some _ = some (arrV _ _ (fun _ => .null)); rw [← arrV_new]⟩
    exact kk _ _ e2 _ ls locs _ _ g2 hl hlo (by omega) (by omega)

theorem zLeaf (hX : zGd X own cc nL ret h) (k : Nat) (hk : k ≤ 8) : ∃ (kA : Class) (comp : ClassId), X.1.2.2.2.2.vm.classes[X.2.2.2.2.2.1 k]? = some kA ∧ kA.kind = .array comp (zAt k) := by
  obtain ⟨-, kA, h1, comp, h2⟩ := (hX.2.1.2.1.2.1 k hk).1 0 (fun _ => .null)
  exact ⟨kA, comp, h1, h2⟩

theorem j_multiI2 (hX : zGd X own cc nL ret h) {a b : Int32} (q : Cond.classLink own index "[[I" ∈ lw_all) (d : decode cc pc = .ok (.multianewarray index 2, 4))
    {α : Type} {f : Option Nat × zWd → Option α} {o : α} (hf : (nMI2 w a b).bind f = some o) (kk : ∀ x w', f (x, w') = some o → zJ X (pc + 4) lv (vA x :: st) w') : zJ X pc lv (vI b :: vI a :: st) w := by
  obtain ⟨⟨x, w'⟩, e1, e2⟩ := zob hf
  unfold nMI2 zMul at e1
  split at e1
  · cases e1
  next hb =>
    have hb : ∀ n ∈ [a, b], ¬ (n < 0 ∨ 100000 < n.toNatClampNeg) := fun n hn hq => hb ⟨n, hn, hq⟩
    have hch : zCh X.2.2.2.2.2.1 X.1.2.2.2.2 [4, 0] := ⟨hX.2.1.2.1.2.2.2.2.2.2.2.2.2.2.2 (4, 0) (by simp), rfl, by decide, by decide, ⟨by decide, zLeaf hX 0 (by decide)⟩⟩
    intro H ls locs cells slots hR hl hlo hc9 hs T hT XS
    subst hT
    have hpl : X.1.2.2.1.platform.magicAccessors = ({} : Platform).magicAccessors := by rw [XS.admits.platform]
    obtain ⟨c0, hfc0, hcl⟩ := Cond.classLink_spec hX.1.2.2.2.2.2.2 (hX.2.1.1 _ q) X.1.2.2.1.platform hpl
    have hc0 : c0 = X.2.2.2.2.2.1 4 := Option.some.inj (hfc0.symm.trans (hX.2.1.2.1.2.1 4 (by decide)).2)
    subst hc0
    have hdg : decode X.2.1.2.2.2.2.code (F0 X.2.1.1 pc ls ((vI b :: vI a :: st).map tv)).pc = .ok (.multianewarray index 2, 4) := by rw [hX.1.2.1]; exact d
    have hm0 : (F0 X.2.1.1 pc ls ((vI b :: vI a :: st).map tv)).method = X.2.1.1 := rfl
    obtain ⟨hg₁, hwarm₁, hready₁⟩ := State.classEntry (e := X.1.2.2.1) XS.warmed hcl
    generalize hvm : T.vm.noted X.2.1.1.cls index (.cls (X.2.2.2.2.2.1 4)) = vm₁ at hg₁ hwarm₁ hready₁
    have X₁ := XS.noted hwarm₁
    refine zInstr (by simpa using XS.here) hdg ?_
    rw [hX.1.1]
    simp only [jvm, wpRun, exec, Op.multianewarray.sem, Sem.wp_bind', _root_.Jvm.W.resolveClassAt_links (State.method?_setTop (F0 X.2.1.1 pc ls ((vI b :: vI a :: st).map tv)) XS.here.top) hg₁]
    rw [_root_.Jvm.W.popN, if_neg (by decide)]
    refine ⟨F0 X.2.1.1 pc ls ((vI b :: vI a :: st).map tv), State.topJava?_setTop' (s := T.setVm vm₁) _ XS.here.top, [.int a, .int b], st.map tv, rfl, rfl, ?_⟩
    simp only [List.mapM_cons, List.mapM_nil, Sem.wp_bind', Sem.wp_pure']
    refine zMk_wp (X := X) (f := F0 X.2.1.1 pc ls (st.map tv)) [0] 4 [b] a w w' x _ _ _ _ rfl hb hch e1 ⟨T.setVm vm₁, locs, cells, slots, (by show ((T.setVm vm₁).setTop _).setTop _ = _; rw [State.setTop_setTop]), X₁, hR, hlo, hc9, hs⟩ (fun a' S' dd' acts' hx hI' => ?_)
    subst hx
    obtain ⟨T', locs', cells', slots', rfl, XF, hR', hlo', hc', hs'⟩ := hI'
    obtain ⟨t, a1, b1⟩ := kk _ _ e2 T'.heap ls locs' cells' slots' hR' hl hlo' hc' hs' T' rfl XF
    simp only [Sem.wp_bind', _root_.Jvm.W.mark, _root_.Jvm.W.pushRef, State.topJava?_setTop' _ XF.here.top, Option.some.injEq, exists_eq_left', State.setTop_setTop, State.heap_setTop]
    intro acts
    refine ⟨t, ?_, b1⟩
    simp [jvm, XF.here.top]
    exact a1

theorem j_multiI3 (hX : zGd X own cc nL ret h) {a b c : Int32} (q : Cond.classLink own index "[[[I" ∈ lw_all) (d : decode cc pc = .ok (.multianewarray index 3, 4))
    {α : Type} {f : Option Nat × zWd → Option α} {o : α} (hf : (nMI3 w a b c).bind f = some o) (kk : ∀ x w', f (x, w') = some o → zJ X (pc + 4) lv (vA x :: st) w') : zJ X pc lv (vI c :: vI b :: vI a :: st) w := by
  obtain ⟨⟨x, w'⟩, e1, e2⟩ := zob hf
  unfold nMI3 zMul at e1
  split at e1
  · cases e1
  next hb =>
    have hb : ∀ n ∈ [a, b, c], ¬ (n < 0 ∨ 100000 < n.toNatClampNeg) := fun n hn hq => hb ⟨n, hn, hq⟩
    have hch : zCh X.2.2.2.2.2.1 X.1.2.2.2.2 [5, 4, 0] := ⟨hX.2.1.2.1.2.2.2.2.2.2.2.2.2.2.2 (5, 4) (by simp), rfl, by decide, by decide, ⟨hX.2.1.2.1.2.2.2.2.2.2.2.2.2.2.2 (4, 0) (by simp), rfl, by decide, by decide, ⟨by decide, zLeaf hX 0 (by decide)⟩⟩⟩
    intro H ls locs cells slots hR hl hlo hc9 hs T hT XS
    subst hT
    have hpl : X.1.2.2.1.platform.magicAccessors = ({} : Platform).magicAccessors := by rw [XS.admits.platform]
    obtain ⟨c0, hfc0, hcl⟩ := Cond.classLink_spec hX.1.2.2.2.2.2.2 (hX.2.1.1 _ q) X.1.2.2.1.platform hpl
    have hc0 : c0 = X.2.2.2.2.2.1 5 := Option.some.inj (hfc0.symm.trans (hX.2.1.2.1.2.1 5 (by decide)).2)
    subst hc0
    have hdg : decode X.2.1.2.2.2.2.code (F0 X.2.1.1 pc ls ((vI c :: vI b :: vI a :: st).map tv)).pc = .ok (.multianewarray index 3, 4) := by rw [hX.1.2.1]; exact d
    have hm0 : (F0 X.2.1.1 pc ls ((vI c :: vI b :: vI a :: st).map tv)).method = X.2.1.1 := rfl
    obtain ⟨hg₁, hwarm₁, hready₁⟩ := State.classEntry (e := X.1.2.2.1) XS.warmed hcl
    generalize hvm : T.vm.noted X.2.1.1.cls index (.cls (X.2.2.2.2.2.1 5)) = vm₁ at hg₁ hwarm₁ hready₁
    have X₁ := XS.noted hwarm₁
    refine zInstr (by simpa using XS.here) hdg ?_
    rw [hX.1.1]
    simp only [jvm, wpRun, exec, Op.multianewarray.sem, Sem.wp_bind', _root_.Jvm.W.resolveClassAt_links (State.method?_setTop (F0 X.2.1.1 pc ls ((vI c :: vI b :: vI a :: st).map tv)) XS.here.top) hg₁]
    rw [_root_.Jvm.W.popN, if_neg (by decide)]
    refine ⟨F0 X.2.1.1 pc ls ((vI c :: vI b :: vI a :: st).map tv), State.topJava?_setTop' (s := T.setVm vm₁) _ XS.here.top, [.int a, .int b, .int c], st.map tv, rfl, rfl, ?_⟩
    simp only [List.mapM_cons, List.mapM_nil, Sem.wp_bind', Sem.wp_pure']
    refine zMk_wp (X := X) (f := F0 X.2.1.1 pc ls (st.map tv)) [4, 0] 5 [b, c] a w w' x _ _ _ _ rfl hb hch e1 ⟨T.setVm vm₁, locs, cells, slots, (by show ((T.setVm vm₁).setTop _).setTop _ = _; rw [State.setTop_setTop]), X₁, hR, hlo, hc9, hs⟩ (fun a' S' dd' acts' hx hI' => ?_)
    subst hx
    obtain ⟨T', locs', cells', slots', rfl, XF, hR', hlo', hc', hs'⟩ := hI'
    obtain ⟨t, a1, b1⟩ := kk _ _ e2 T'.heap ls locs' cells' slots' hR' hl hlo' hc' hs' T' rfl XF
    simp only [Sem.wp_bind', _root_.Jvm.W.mark, _root_.Jvm.W.pushRef, State.topJava?_setTop' _ XF.here.top, Option.some.injEq, exists_eq_left', State.setTop_setTop, State.heap_setTop]
    intro acts
    refine ⟨t, ?_, b1⟩
    simp [jvm, XF.here.top]
    exact a1

theorem j_multiL3 (hX : zGd X own cc nL ret h) {a b c : Int32} (q : Cond.classLink own index "[[[J" ∈ lw_all) (d : decode cc pc = .ok (.multianewarray index 3, 4))
    {α : Type} {f : Option Nat × zWd → Option α} {o : α} (hf : (nML3 w a b c).bind f = some o) (kk : ∀ x w', f (x, w') = some o → zJ X (pc + 4) lv (vA x :: st) w') : zJ X pc lv (vI c :: vI b :: vI a :: st) w := by
  obtain ⟨⟨x, w'⟩, e1, e2⟩ := zob hf
  unfold nML3 zMul at e1
  split at e1
  · cases e1
  next hb =>
    have hb : ∀ n ∈ [a, b, c], ¬ (n < 0 ∨ 100000 < n.toNatClampNeg) := fun n hn hq => hb ⟨n, hn, hq⟩
    have hch : zCh X.2.2.2.2.2.1 X.1.2.2.2.2 [7, 6, 1] := ⟨hX.2.1.2.1.2.2.2.2.2.2.2.2.2.2.2 (7, 6) (by simp), rfl, by decide, by decide, ⟨hX.2.1.2.1.2.2.2.2.2.2.2.2.2.2.2 (6, 1) (by simp), rfl, by decide, by decide, ⟨by decide, zLeaf hX 1 (by decide)⟩⟩⟩
    intro H ls locs cells slots hR hl hlo hc9 hs T hT XS
    subst hT
    have hpl : X.1.2.2.1.platform.magicAccessors = ({} : Platform).magicAccessors := by rw [XS.admits.platform]
    obtain ⟨c0, hfc0, hcl⟩ := Cond.classLink_spec hX.1.2.2.2.2.2.2 (hX.2.1.1 _ q) X.1.2.2.1.platform hpl
    have hc0 : c0 = X.2.2.2.2.2.1 7 := Option.some.inj (hfc0.symm.trans (hX.2.1.2.1.2.1 7 (by decide)).2)
    subst hc0
    have hdg : decode X.2.1.2.2.2.2.code (F0 X.2.1.1 pc ls ((vI c :: vI b :: vI a :: st).map tv)).pc = .ok (.multianewarray index 3, 4) := by rw [hX.1.2.1]; exact d
    have hm0 : (F0 X.2.1.1 pc ls ((vI c :: vI b :: vI a :: st).map tv)).method = X.2.1.1 := rfl
    obtain ⟨hg₁, hwarm₁, hready₁⟩ := State.classEntry (e := X.1.2.2.1) XS.warmed hcl
    generalize hvm : T.vm.noted X.2.1.1.cls index (.cls (X.2.2.2.2.2.1 7)) = vm₁ at hg₁ hwarm₁ hready₁
    have X₁ := XS.noted hwarm₁
    refine zInstr (by simpa using XS.here) hdg ?_
    rw [hX.1.1]
    simp only [jvm, wpRun, exec, Op.multianewarray.sem, Sem.wp_bind', _root_.Jvm.W.resolveClassAt_links (State.method?_setTop (F0 X.2.1.1 pc ls ((vI c :: vI b :: vI a :: st).map tv)) XS.here.top) hg₁]
    rw [_root_.Jvm.W.popN, if_neg (by decide)]
    refine ⟨F0 X.2.1.1 pc ls ((vI c :: vI b :: vI a :: st).map tv), State.topJava?_setTop' (s := T.setVm vm₁) _ XS.here.top, [.int a, .int b, .int c], st.map tv, rfl, rfl, ?_⟩
    simp only [List.mapM_cons, List.mapM_nil, Sem.wp_bind', Sem.wp_pure']
    refine zMk_wp (X := X) (f := F0 X.2.1.1 pc ls (st.map tv)) [6, 1] 7 [b, c] a w w' x _ _ _ _ rfl hb hch e1 ⟨T.setVm vm₁, locs, cells, slots, (by show ((T.setVm vm₁).setTop _).setTop _ = _; rw [State.setTop_setTop]), X₁, hR, hlo, hc9, hs⟩ (fun a' S' dd' acts' hx hI' => ?_)
    subst hx
    obtain ⟨T', locs', cells', slots', rfl, XF, hR', hlo', hc', hs'⟩ := hI'
    obtain ⟨t, a1, b1⟩ := kk _ _ e2 T'.heap ls locs' cells' slots' hR' hl hlo' hc' hs' T' rfl XF
    simp only [Sem.wp_bind', _root_.Jvm.W.mark, _root_.Jvm.W.pushRef, State.topJava?_setTop' _ XF.here.top, Option.some.injEq, exists_eq_left', State.setTop_setTop, State.heap_setTop]
    intro acts
    refine ⟨t, ?_, b1⟩
    simp [jvm, XF.here.top]
    exact a1

end R11
