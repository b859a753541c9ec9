/-! BASE 2: what is known of the tables; worlds and heaps; the judgement zJ -/
set_option maxRecDepth 100000
def zT16 : u_T := fun _ => ("", "", "", false)
def zCL : List vw_C := [(RX1, TX1, 20), (RX2, TX2, 2), (RX3, TX3, 2), (RX4, TX4, 70), (RX5, TX5, 10), (RX6, TX6, 2), (RX7, TX7, 4), (RX8, TX8, 3), (RX9, TX9, 1), (RX10, TX10, 1), (RX11, TX11, 1), (RX12, TX12, 2), (RX13, TX13, 2), (RX14, TX14, 18), (RX15, TX15, 7), (RX16, zT16, 0), (RX17, TX17, 3), (RX18, TX18, 4), (RJ2, TJ2, 3), (RJ5, TJ5, 9), (RJ10, TJ10, 1), (RJ24, TJ24, 6), (RJ26, TJ26, 4), (RJ28, TJ28, 4), (RJ16, TJ16, 4)]
/-- kinds of arrays -/
def zAt : Nat → FieldType := fun k => match k with
  | 0 => .int
  | 1 => .long
  | 2 => .object "java/lang/Object"
  | 3 => .byte
  | 4 => .array .int
  | 5 => .array (.array .int)
  | 6 => .array .long
  | 7 => .array (.array .long)
  | _ => .object "java/lang/Integer"
/-- the classes' numbers and slots, the arrays' classes, the law's first heap, the statics and strings -/
abbrev zK : Type := va_G × (Nat → ClassId) × Heap × (Nat → zLV)
def zOld (K : zK) (H : Heap) : Prop := K.2.2.1.size ≤ H.size ∧ ∀ a : Nat, a < K.2.2.1.size → H[a]? = K.2.2.1[a]?
/-- words of the tables that hold all through a run, though not good ones -/
def zMv : Cond → Bool
  | .fieldLinkNest .. => true
  | .methodLinkNest .. => true
  | .castable .. => true
  | .declares .. => true
  | _ => false
/-- cells of class c may be stored in arrays of kind k -/
def zAs (dA : Nat → ClassId) (k : Nat) (cls : ClassId) (s : State) : Prop := ∃ (kA : Class) (comp : ClassId) (kcomp kv : Class), s.vm.classes[dA k]? = some kA ∧ kA.kind = .array comp (zAt k) ∧ s.vm.classes[comp]? = some kcomp ∧ s.vm.classes[cls]? = some kv ∧ s.vm.assignable cls comp = true
def zArr (dA : Nat → ClassId) (s : State) : Prop := ∀ k : Nat, k ≤ 8 → ArrOfT s (dA k) (zAt k) ∧ s.vm.findClass ("[" ++ (zAt k).toString) = some (dA k)
def zFr (K : zK) : Nat → Prop := fun q => K.2.2.1.size ≤ q
def zFwl : List (String × MethodName × MethodName) := [("java/util/ArrayList", ⟨"java/util/List", "add", "(ILjava/lang/Object;)V"⟩, ⟨"java/util/ArrayList", "add", "(ILjava/lang/Object;)V"⟩), ("java/util/ArrayList", ⟨"java/util/List", "add", "(Ljava/lang/Object;)Z"⟩, ⟨"java/util/ArrayList", "add", "(Ljava/lang/Object;)Z"⟩), ("java/util/ArrayList", ⟨"java/util/List", "addAll", "(Ljava/util/Collection;)Z"⟩, ⟨"java/util/ArrayList", "addAll", "(Ljava/util/Collection;)Z"⟩), ("java/util/ArrayList", ⟨"java/util/List", "get", "(I)Ljava/lang/Object;"⟩, ⟨"java/util/ArrayList", "get", "(I)Ljava/lang/Object;"⟩), ("java/util/ArrayList", ⟨"java/util/List", "iterator", "()Ljava/util/Iterator;"⟩, ⟨"java/util/ArrayList", "iterator", "()Ljava/util/Iterator;"⟩), ("java/util/ArrayList", ⟨"java/util/List", "set", "(ILjava/lang/Object;)Ljava/lang/Object;"⟩, ⟨"java/util/ArrayList", "set", "(ILjava/lang/Object;)Ljava/lang/Object;"⟩), ("java/util/ArrayList", ⟨"java/util/List", "size", "()I"⟩, ⟨"java/util/ArrayList", "size", "()I"⟩), ("java/util/ArrayList", ⟨"java/util/Collection", "toArray", "()[Ljava/lang/Object;"⟩, ⟨"java/util/ArrayList", "toArray", "()[Ljava/lang/Object;"⟩), ("java/util/ArrayList$Itr", ⟨"java/util/Iterator", "hasNext", "()Z"⟩, ⟨"java/util/ArrayList$Itr", "hasNext", "()Z"⟩), ("java/util/ArrayList$Itr", ⟨"java/util/Iterator", "next", "()Ljava/lang/Object;"⟩, ⟨"java/util/ArrayList$Itr", "next", "()Ljava/lang/Object;"⟩), ("Taxmaze$ByRank", ⟨"java/util/Comparator", "compare", "(Ljava/lang/Object;Ljava/lang/Object;)I"⟩, ⟨"Taxmaze$ByRank", "compare", "(Ljava/lang/Object;Ljava/lang/Object;)I"⟩), ("java/lang/Integer", ⟨"java/lang/Comparable", "compareTo", "(Ljava/lang/Object;)I"⟩, ⟨"java/lang/Integer", "compareTo", "(Ljava/lang/Object;)I"⟩)]
def zNcl : List (String × String) := [("Taxmaze$Plain", "Taxmaze$Asking"), ("Taxmaze$Plain", "Taxmaze$Whole"), ("Taxmaze$Asking", "Taxmaze$Plain"), ("Taxmaze$Asking", "Taxmaze$Whole"), ("Taxmaze$Whole", "Taxmaze$Plain"), ("Taxmaze$Whole", "Taxmaze$Asking"), ("java/lang/IndexOutOfBoundsException", "java/lang/IllegalArgumentException"), ("java/lang/IndexOutOfBoundsException", "java/lang/IllegalStateException"), ("java/lang/IllegalArgumentException", "java/lang/IndexOutOfBoundsException"), ("java/lang/IllegalArgumentException", "java/lang/IllegalStateException"), ("java/lang/IllegalStateException", "java/lang/IndexOutOfBoundsException"), ("java/lang/IllegalStateException", "java/lang/IllegalArgumentException")]
def zSrl : List (Nat × String) := [(236, "no such thing"), (243, "out of range"), (248, "not now"), (261, "no such day"), (17, "plus"), (19, "minus"), (21, "times"), (23, "permille"), (25, "lesser"), (27, "greater"), (412, "no such part")]
/-- grids: the outer class's component is the inner class -/
def zAl (dA : Nat → ClassId) (s : State) : Prop := ∀ q ∈ [(4, 0), (5, 4), (6, 1), (7, 6)], ∃ kA : Class, s.vm.classes[dA q.1]? = some kA ∧ kA.kind = .array (dA q.2) (zAt q.1)
theorem zAl_moved {dA : Nat → ClassId} {u U : State} (hvm : u.vm.Alike U.vm) (h : zAl dA u) : zAl dA U := by
  intro q hq
  obtain ⟨kA, h1, h2⟩ := h q hq
  obtain ⟨k1, a1, b1⟩ := hvm.2.2 _ _ h1
  exact ⟨k1, a1, by rw [b1]; exact h2⟩
/-- interfaces' entries, pairs not castable, the texts, the Class object of Object[] -/
def zKt (K : zK) (s : State) : Prop := (∀ q ∈ zFwl, va_Fw q.1 q.2.1 q.2.2 s) ∧ (∀ q ∈ zNcl, va_Nc q.1 q.2 s) ∧ (∀ (j : Nat) (q : Nat × String), zSrl[j]? = some q → ∃ sa : Nat, K.2.2.2 (10 + j) = vA (some sa) ∧ vk_R "Taxmaze" q.1 q.2 sa s) ∧ (∃ mi : Nat, K.2.2.2 4 = vA (some mi) ∧ va_Mi "[Ljava/lang/Object;" mi s) ∧ (va_AO "java/lang/Object" s ∧ va_RA s (K.2.1 2) (.object "java/lang/Object")) ∧ zAl K.2.1 s
theorem zFwl_ok : ∀ q ∈ zFwl, q.2.1.cls ≠ "java/lang/invoke/MethodHandle" ∧ q.2.1.cls ≠ "java/lang/invoke/VarHandle" := by decide +kernel
theorem zKt_moved {K : zK} {s U : State} (hW : s.WarmedH U.vm) (h : zKt K s) : zKt K U := by
  obtain ⟨h1, h2, h3, ⟨mi, h4, h5⟩, ⟨h6, h7⟩, h8⟩ := h
  refine ⟨fun q hq => va_Fw.moved (zFwl_ok q hq) hW.alike (h1 q hq), fun q hq => va_Nc.moved hW.alike (h2 q hq), fun j q hq => ?_, ⟨mi, h4, va_Mi.moved hW.alike h5⟩, ⟨va_AO.moved hW.alike h6, va_RA.moved hW.alike h7⟩, zAl_moved hW.alike h8⟩
  obtain ⟨sa, a1, a2⟩ := h3 j q hq
  exact ⟨sa, a1, vk_R.warm hW a2⟩
/-- what the tables tell, as far as a run keeps it -/
def zKs (K : zK) (s : State) : Prop :=
  va_K K.1 zCL [] s ∧ zArr K.2.1 s ∧ (∀ w ∈ lw_tbl, zMv w = true → va_Nw w s) ∧
  ((∀ (ci : Nat) (q : vw_C), zCL[ci]? = some q → zAs K.2.1 2 (K.1.1 ci) s) ∧ zAs K.2.1 6 (K.2.1 1) s ∧ zAs K.2.1 7 (K.2.1 6) s ∧ zAs K.2.1 4 (K.2.1 0) s ∧ zAs K.2.1 5 (K.2.1 4) s) ∧
  (vx_Zq Bundle.tN "UNASSIGNED_STACK" Bundle.steD (zFr K) s K.2.2.1 ∧ vx_Zq Bundle.tN "SUPPRESSED_SENTINEL" Bundle.listD (zFr K) s K.2.2.1) ∧
  ((va_Z "java/lang/Integer$IntegerCache" "high" "I" (tv (K.2.2.2 0)) (zFr K) s K.2.2.1 ∧ va_Z "java/lang/Integer$IntegerCache" "cache" "[Ljava/lang/Integer;" (tv (K.2.2.2 1)) (zFr K) s K.2.2.1 ∧
    va_Z "java/util/ArrayList" "DEFAULTCAPACITY_EMPTY_ELEMENTDATA" "[Ljava/lang/Object;" (tv (K.2.2.2 2)) (zFr K) s K.2.2.1 ∧ va_Z "java/lang/String" "COMPACT_STRINGS" "Z" (tv (K.2.2.2 3)) (zFr K) s K.2.2.1) ∧ zKt K s)
theorem zAs_moved {dA : Nat → ClassId} {k : Nat} {cls : ClassId} {u U : State} (hvm : u.vm.Alike U.vm) (h : zAs dA k cls u) : zAs dA k cls U := by
  obtain ⟨kA, comp, kc, kv, h1, h2, h3, h4, h5⟩ := h
  obtain ⟨k1, a1, b1⟩ := hvm.2.2 _ _ h1
  obtain ⟨k2, a2, b2⟩ := hvm.2.2 _ _ h3
  obtain ⟨k3, a3, b3⟩ := hvm.2.2 _ _ h4
  exact ⟨k1, comp, k2, k3, a1, by rw [b1]; exact h2, a2, a3, by rw [← h5]; exact (hvm.assignable _ _)⟩
theorem zMv_warm {w : Cond} (hw : zMv w = true) {s U : State} (hW : s.WarmedH U.vm) (h : va_Nw w s) : va_Nw w U := by
  cases w <;> first
    | exact va_Nw.warmF hW h
    | exact va_Nw.warmM hW h
    | exact va_Nw.warmC hW h
    | exact va_Nw.warmD hW h
    | exact absurd hw (by simp [zMv])
theorem zKs_moved {K : zK} {s U : State} (hW : s.WarmedH U.vm) (h : zKs K s) : zKs K U := by
  obtain ⟨h1, h2, h3, ⟨h4, h5, h6, h7, h8⟩, ⟨h9, h10⟩, ⟨h11, h12, h13, h14⟩, h15⟩ := h
  have a := hW.alike
  refine ⟨va_K.moved a h1, fun k hk => ⟨arrOfT_moved a (h2 k hk).1, ?_⟩, fun w hw hm => zMv_warm hm hW (h3 w hw hm), ⟨fun ci q hq => zAs_moved a (h4 ci q hq), zAs_moved a h5, zAs_moved a h6, zAs_moved a h7, zAs_moved a h8⟩, ⟨vx_Zq.moved a h9, vx_Zq.moved a h10⟩, ⟨va_Z.moved a h11, va_Z.moved a h12, va_Z.moved a h13, va_Z.moved a h14⟩, zKt_moved hW h15⟩
  rw [a.findClass]
  exact (h2 k hk).2
/-- contents of an array, as the kit has them -/
def zAc : zAC → ((Nat → Int32) ⊕ (Nat → Int64) ⊕ (Nat → UInt32) ⊕ (Nat → UInt64) ⊕ (Nat → Option Nat))
  | .inl f => .inl f
  | .inr (.inl f) => .inr (.inl f)
  | .inr (.inr f) => .inr (.inr (.inr (.inr f)))
/-- the heap holds the cell at a -/
def zCell (K : zK) (a : Nat) (e : zLC) (H : Heap) : Prop := match e with
  | .inl (k, n, x) => k ≤ 8 ∧ (match x with | .inr (.inr _) => (zAt k).isReference = true | _ => True) ∧ H[a]? = some (vp_cell (K.2.1 k) (n, zAc x))
  | .inr (ci, fs) => va_at K.1 zCL (a, .inr (ci, fs.map tv)) H
def zRp (K : zK) (w : zWd) (H : Heap) : Prop := H.size = w.2.1 ∧ (∀ (a : Nat) (fl : Bool) (e : zLC), w.1 a = some (fl, e) → zCell K a e H ∧ (fl = true → K.2.2.1.size ≤ a)) ∧ zOld K H ∧ w.2.2.2.2 = K.2.2.2
/-- a walk's context: machine; method; number of locals, what is sought, what is known -/
abbrev zX : Type := (Program × Launch × Env × Room × State) × (MethodId × Array Value × List Frame × Method × Code) × (Nat × (State → Prop) × zK)
def zJ (X : zX) (pc : Nat) (lv : List (Option zLV)) (st : List zLV) (w : zWd) : Prop :=
  ∀ (H : Heap) (ls : Array Slot) (locs : List Loc) (cells slots : Nat), zRp X.2.2.2.2 w H → lv_has ls X.2.2.1 (zPr 0 lv) → (∀ q ∈ locs, zFr X.2.2.2.2 q.base) → cells + w.2.2.1 = X.1.2.2.2.1.cells → slots + w.2.2.2.1 = X.1.2.2.2.1.slots →
    W X.1.1 X.1.2.1 X.1.2.2.1 X.1.2.2.2.1 X.1.2.2.2.2 X.2.1.1 X.2.1.2.1 X.2.1.2.2.1 X.2.1.2.2.2.1 X.2.1.2.2.2.2 H locs cells slots X.2.2.2.1 (F0 X.2.1.1 pc ls (st.map tv))
/-- what holds of the context: the class own's method with code cc, nL locals, answer ret, of height h -/
def zGd (X : zX) (own : String) (cc : ByteArray) (nL : Nat) (ret : Option FieldType) (h : Nat) : Prop :=
  (X.1.1.tables.exec = Jvm.exec ∧ X.2.1.2.2.2.2.code = cc ∧ X.2.1.2.2.2.1.sig.returnType = ret ∧ X.2.1.2.2.2.1.locks = false ∧ X.2.1.2.2.2.2.maxLocals = nL ∧ X.2.2.1 = nL ∧ X.1.2.2.2.2.vm.findClass own = some X.2.1.1.cls) ∧
  ((∀ w ∈ lw_all, w.before X.2.1.2.1 X.1.2.2.2.2 = true) ∧ zKs X.2.2.2.2 X.1.2.2.2.2 ∧ zOld X.2.2.2.2 X.1.2.2.2.2.heap) ∧
  (X.1.2.1.stackTraces = false ∧ h ≤ X.1.2.2.2.1.frames ∧ 64 * h ≤ X.1.2.2.2.1.locals)
section R1
variable {X : zX} {own : String} {cc : ByteArray} {nL : Nat} {ret : Option FieldType} {h : Nat} {pc : Nat} {lv : List (Option zLV)} {st : List zLV} {w : zWd}
theorem j_iconst (hX : zGd X own cc nL ret h) {n : Int} (v : Int32) (d : decode cc pc = .ok (.iconst n, 1)) (hv : Int32.ofInt n = v) (k : zJ X (pc + 1) lv (vI v :: st) w) : zJ X pc lv st w := by
  intro H ls locs cells slots hR hl hlo hc hs
  exact lv_iconst hX.1.1 hX.1.2.1 d hv (k H ls locs cells slots hR hl hlo hc hs)
theorem j_bipush (hX : zGd X own cc nL ret h) {n : Int} (v : Int32) (d : decode cc pc = .ok (.bipush n, 2)) (hv : (Int8.ofInt n).toInt32 = v) (k : zJ X (pc + 2) lv (vI v :: st) w) : zJ X pc lv st w := by
  intro H ls locs cells slots hR hl hlo hc hs
  exact lv_bipush hX.1.1 hX.1.2.1 d hv (k H ls locs cells slots hR hl hlo hc hs)
theorem j_sipush (hX : zGd X own cc nL ret h) {n : Int} (v : Int32) (d : decode cc pc = .ok (.sipush n, 3)) (hv : (Int16.ofInt n).toInt32 = v) (k : zJ X (pc + 3) lv (vI v :: st) w) : zJ X pc lv st w := by
  intro H ls locs cells slots hR hl hlo hc hs
  exact lv_sipush hX.1.1 hX.1.2.1 d hv (k H ls locs cells slots hR hl hlo hc hs)
theorem j_lconst (hX : zGd X own cc nL ret h) {n : Fin 2} (v : Int64) (d : decode cc pc = .ok (.lconst n, 1)) (hv : Int64.ofNat (n : Nat) = v) (k : zJ X (pc + 1) lv (vL v :: st) w) : zJ X pc lv st w := by
  intro H ls locs cells slots hR hl hlo hc hs
  exact lv_lconst hX.1.1 hX.1.2.1 d hv (k H ls locs cells slots hR hl hlo hc hs)
theorem j_ldc (hX : zGd X own cc nL ret h) {i : Nat} {v : Int32} (q : Jvm.Cond.constant own i v ∈ lw_all) (d : decode cc pc = .ok (.ldc i, 2)) (k : zJ X (pc + 2) lv (vI v :: st) w) : zJ X pc lv st w := by
  intro H ls locs cells slots hR hl hlo hc hs
  exact lv_ldc hX.1.1 hX.1.2.1 hX.1.2.2.2.2.2.2 (hX.2.1.1 _ q) d (k H ls locs cells slots hR hl hlo hc hs)
theorem j_ldcw (hX : zGd X own cc nL ret h) {i : Nat} {v : Int32} (q : Jvm.Cond.constant own i v ∈ lw_all) (d : decode cc pc = .ok (.ldc_w i, 3)) (k : zJ X (pc + 3) lv (vI v :: st) w) : zJ X pc lv st w := by
  intro H ls locs cells slots hR hl hlo hc hs
  exact lv_ldcw hX.1.1 hX.1.2.1 hX.1.2.2.2.2.2.2 (hX.2.1.1 _ q) d (k H ls locs cells slots hR hl hlo hc hs)
theorem j_ldc2 (hX : zGd X own cc nL ret h) {i : Nat} {v : Int64} (q : Jvm.Cond.constantLong own i v ∈ lw_all) (d : decode cc pc = .ok (.ldc2_w i, 3)) (k : zJ X (pc + 3) lv (vL v :: st) w) : zJ X pc lv st w := by
  intro H ls locs cells slots hR hl hlo hc hs
  exact lv_ldc2 hX.1.1 hX.1.2.1 hX.1.2.2.2.2.2.2 (hX.2.1.1 _ q) d (k H ls locs cells slots hR hl hlo hc hs)
theorem j_null (hX : zGd X own cc nL ret h) (d : decode cc pc = .ok (.aconst_null, 1)) (k : zJ X (pc + 1) lv (vA none :: st) w) : zJ X pc lv st w := by
  intro H ls locs cells slots hR hl hlo hc hs
  exact lv_null hX.1.1 hX.1.2.1 d (k H ls locs cells slots hR hl hlo hc hs)
theorem j_iload_n (hX : zGd X own cc nL ret h) {i : Fin 4} {x : Int32} (d : decode cc pc = .ok (.iload_n i, 1)) (hi : lv[(i : Nat)]? = some (some (vI x))) (k : zJ X (pc + 1) lv (vI x :: st) w) : zJ X pc lv st w := by
  intro H ls locs cells slots hR hl hlo hc hs
  exact lv_iload_n hX.1.1 hX.1.2.1 d rfl (zLv_at hl hi) (k H ls locs cells slots hR hl hlo hc hs)
theorem j_iload (hX : zGd X own cc nL ret h) {i : Nat} {x : Int32} (d : decode cc pc = .ok (.iload i, 2)) (hi : lv[i]? = some (some (vI x))) (k : zJ X (pc + 2) lv (vI x :: st) w) : zJ X pc lv st w := by
  intro H ls locs cells slots hR hl hlo hc hs
  exact lv_iload hX.1.1 hX.1.2.1 d (zLv_at hl hi) (k H ls locs cells slots hR hl hlo hc hs)
theorem j_lload_n (hX : zGd X own cc nL ret h) {i : Fin 4} {x : Int64} (d : decode cc pc = .ok (.lload_n i, 1)) (hi : lv[(i : Nat)]? = some (some (vL x))) (k : zJ X (pc + 1) lv (vL x :: st) w) : zJ X pc lv st w := by
  intro H ls locs cells slots hR hl hlo hc hs
  exact lv_lload_n hX.1.1 hX.1.2.1 d rfl (zLv_at hl hi) (k H ls locs cells slots hR hl hlo hc hs)
theorem j_lload (hX : zGd X own cc nL ret h) {i : Nat} {x : Int64} (d : decode cc pc = .ok (.lload i, 2)) (hi : lv[i]? = some (some (vL x))) (k : zJ X (pc + 2) lv (vL x :: st) w) : zJ X pc lv st w := by
  intro H ls locs cells slots hR hl hlo hc hs
  exact lv_lload hX.1.1 hX.1.2.1 d (zLv_at hl hi) (k H ls locs cells slots hR hl hlo hc hs)
theorem j_aload_n (hX : zGd X own cc nL ret h) {i : Fin 4} {x : Option Nat} (d : decode cc pc = .ok (.aload_n i, 1)) (hi : lv[(i : Nat)]? = some (some (vA x))) (k : zJ X (pc + 1) lv (vA x :: st) w) : zJ X pc lv st w := by
  intro H ls locs cells slots hR hl hlo hc hs
  cases x with
  | none => exact lv_aload_nN hX.1.1 hX.1.2.1 d rfl (zLv_at hl hi) (k H ls locs cells slots hR hl hlo hc hs)
  | some x => exact lv_aload_n hX.1.1 hX.1.2.1 d rfl (zLv_at hl hi) (k H ls locs cells slots hR hl hlo hc hs)
theorem j_aload (hX : zGd X own cc nL ret h) {i : Nat} {x : Option Nat} (d : decode cc pc = .ok (.aload i, 2)) (hi : lv[i]? = some (some (vA x))) (k : zJ X (pc + 2) lv (vA x :: st) w) : zJ X pc lv st w := by
  intro H ls locs cells slots hR hl hlo hc hs
  cases x with
  | none => exact lv_aloadN hX.1.1 hX.1.2.1 d (zLv_at hl hi) (k H ls locs cells slots hR hl hlo hc hs)
  | some x => exact lv_aload hX.1.1 hX.1.2.1 d (zLv_at hl hi) (k H ls locs cells slots hR hl hlo hc hs)
theorem j_istore_n (hX : zGd X own cc nL ret h) {i : Fin 4} {x : Int32} (d : decode cc pc = .ok (.istore_n i, 1)) (hi : (i : Nat) < nL) (lv' : List (Option zLV)) (e9 : zS1 lv i (vI x) = lv') (k : zJ X (pc + 1) lv' st w) : zJ X pc lv (vI x :: st) w := by
  subst e9
  intro H ls locs cells slots hR hl hlo hc hs
  exact lv_istore_n hX.1.1 hX.1.2.1 d rfl hl (by rw [hX.1.2.2.2.2.2.1]; exact hi) rfl fun ls' h' => k H ls' locs cells slots hR (zS1_has (v := vI x) h') hlo hc hs
theorem j_istore (hX : zGd X own cc nL ret h) {i : Nat} {x : Int32} (d : decode cc pc = .ok (.istore i, 2)) (hi : i < nL) (lv' : List (Option zLV)) (e9 : zS1 lv i (vI x) = lv') (k : zJ X (pc + 2) lv' st w) : zJ X pc lv (vI x :: st) w := by
  subst e9
  intro H ls locs cells slots hR hl hlo hc hs
  exact lv_istore hX.1.1 hX.1.2.1 d hl (by rw [hX.1.2.2.2.2.2.1]; exact hi) rfl fun ls' h' => k H ls' locs cells slots hR (zS1_has (v := vI x) h') hlo hc hs
theorem j_lstore_n (hX : zGd X own cc nL ret h) {i : Fin 4} {x : Int64} (d : decode cc pc = .ok (.lstore_n i, 1)) (hi : (i : Nat) + 1 < nL) (lv' : List (Option zLV)) (e9 : zS2 lv i (vL x) = lv') (k : zJ X (pc + 1) lv' st w) : zJ X pc lv (vL x :: st) w := by
  subst e9
  intro H ls locs cells slots hR hl hlo hc hs
  exact lv_lstore_n hX.1.1 hX.1.2.1 d rfl hl (by rw [hX.1.2.2.2.2.2.1]; exact hi) rfl fun ls' h' => k H ls' locs cells slots hR (zS2_has (v := vL x) h') hlo hc hs
theorem j_lstore (hX : zGd X own cc nL ret h) {i : Nat} {x : Int64} (d : decode cc pc = .ok (.lstore i, 2)) (hi : i + 1 < nL) (lv' : List (Option zLV)) (e9 : zS2 lv i (vL x) = lv') (k : zJ X (pc + 2) lv' st w) : zJ X pc lv (vL x :: st) w := by
  subst e9
  intro H ls locs cells slots hR hl hlo hc hs
  exact lv_lstore hX.1.1 hX.1.2.1 d hl (by rw [hX.1.2.2.2.2.2.1]; exact hi) rfl fun ls' h' => k H ls' locs cells slots hR (zS2_has (v := vL x) h') hlo hc hs
theorem j_astore_n (hX : zGd X own cc nL ret h) {i : Fin 4} {x : Option Nat} (d : decode cc pc = .ok (.astore_n i, 1)) (hi : (i : Nat) < nL) (lv' : List (Option zLV)) (e9 : zS1 lv i (vA x) = lv') (k : zJ X (pc + 1) lv' st w) : zJ X pc lv (vA x :: st) w := by
  subst e9
  intro H ls locs cells slots hR hl hlo hc hs
  cases x with
  | none => exact lv_astore_nN hX.1.1 hX.1.2.1 d rfl hl (by rw [hX.1.2.2.2.2.2.1]; exact hi) rfl fun ls' h' => k H ls' locs cells slots hR (zS1_has (v := vA none) h') hlo hc hs
  | some x => exact lv_astore_n hX.1.1 hX.1.2.1 d rfl hl (by rw [hX.1.2.2.2.2.2.1]; exact hi) rfl fun ls' h' => k H ls' locs cells slots hR (zS1_has (v := vA (some x)) h') hlo hc hs
theorem j_astore (hX : zGd X own cc nL ret h) {i : Nat} {x : Option Nat} (d : decode cc pc = .ok (.astore i, 2)) (hi : i < nL) (lv' : List (Option zLV)) (e9 : zS1 lv i (vA x) = lv') (k : zJ X (pc + 2) lv' st w) : zJ X pc lv (vA x :: st) w := by
  subst e9
  intro H ls locs cells slots hR hl hlo hc hs
  cases x with
  | none => exact lv_astoreN hX.1.1 hX.1.2.1 d hl (by rw [hX.1.2.2.2.2.2.1]; exact hi) rfl fun ls' h' => k H ls' locs cells slots hR (zS1_has (v := vA none) h') hlo hc hs
  | some x => exact lv_astore hX.1.1 hX.1.2.1 d hl (by rw [hX.1.2.2.2.2.2.1]; exact hi) rfl fun ls' h' => k H ls' locs cells slots hR (zS1_has (v := vA (some x)) h') hlo hc hs
theorem zPr_idx {x : zLV} {i : Nat} (hi : lv[i]? = some (some x)) : ∃ k : Nat, (zPr 0 lv)[k]? = some (i, tv x) := List.getElem?_of_mem ((zPr_mem _ _ _ _).mpr ⟨i, x, hi, (Nat.zero_add i).symm, rfl⟩)
theorem j_iinc (hX : zGd X own cc nL ret h) {i : Nat} {n : Int} {x : Int32} (v : Int32) (d : decode cc pc = .ok (.iinc i n, 3)) (hi : lv[i]? = some (some (vI x))) (hv : Int32.ofInt n = v) (hn : i < nL) (lv' : List (Option zLV)) (e9 : zS1 lv i (vI (x + v)) = lv') (k : zJ X (pc + 3) lv' st w) : zJ X pc lv st w := by
  subst e9
  intro H ls locs cells slots hR hl hlo hc hs
  obtain ⟨k9, hk9⟩ := zPr_idx hi
  exact lv_iinc hX.1.1 hX.1.2.1 d hl hk9 (by rw [hv]) (by rw [hX.1.2.2.2.2.2.1]; exact hn) rfl fun ls' h' => k H ls' locs cells slots hR (zS1_has (v := vI (x + v)) h') hlo hc hs
theorem j_iadd (hX : zGd X own cc nL ret h) {x y : Int32} (d : decode cc pc = .ok (.iadd, 1)) (k : zJ X (pc + 1) lv (vI (x + y) :: st) w) : zJ X pc lv (vI y :: vI x :: st) w := by
  intro H ls locs cells slots hR hl hlo hc hs
  exact lv_iadd hX.1.1 hX.1.2.1 d (k H ls locs cells slots hR hl hlo hc hs)
theorem j_isub (hX : zGd X own cc nL ret h) {x y : Int32} (d : decode cc pc = .ok (.isub, 1)) (k : zJ X (pc + 1) lv (vI (x - y) :: st) w) : zJ X pc lv (vI y :: vI x :: st) w := by
  intro H ls locs cells slots hR hl hlo hc hs
  exact lv_isub hX.1.1 hX.1.2.1 d (k H ls locs cells slots hR hl hlo hc hs)
theorem j_imul (hX : zGd X own cc nL ret h) {x y : Int32} (d : decode cc pc = .ok (.imul, 1)) (k : zJ X (pc + 1) lv (vI (x * y) :: st) w) : zJ X pc lv (vI y :: vI x :: st) w := by
  intro H ls locs cells slots hR hl hlo hc hs
  exact lv_imul hX.1.1 hX.1.2.1 d (k H ls locs cells slots hR hl hlo hc hs)
theorem j_iand (hX : zGd X own cc nL ret h) {x y : Int32} (d : decode cc pc = .ok (.iand, 1)) (k : zJ X (pc + 1) lv (vI (x &&& y) :: st) w) : zJ X pc lv (vI y :: vI x :: st) w := by
  intro H ls locs cells slots hR hl hlo hc hs
  exact lv_iand hX.1.1 hX.1.2.1 d (k H ls locs cells slots hR hl hlo hc hs)
theorem j_ior (hX : zGd X own cc nL ret h) {x y : Int32} (d : decode cc pc = .ok (.ior, 1)) (k : zJ X (pc + 1) lv (vI (x ||| y) :: st) w) : zJ X pc lv (vI y :: vI x :: st) w := by
  intro H ls locs cells slots hR hl hlo hc hs
  exact lv_ior hX.1.1 hX.1.2.1 d (k H ls locs cells slots hR hl hlo hc hs)
theorem j_ixor (hX : zGd X own cc nL ret h) {x y : Int32} (d : decode cc pc = .ok (.ixor, 1)) (k : zJ X (pc + 1) lv (vI (x ^^^ y) :: st) w) : zJ X pc lv (vI y :: vI x :: st) w := by
  intro H ls locs cells slots hR hl hlo hc hs
  exact lv_ixor hX.1.1 hX.1.2.1 d (k H ls locs cells slots hR hl hlo hc hs)
theorem j_ladd (hX : zGd X own cc nL ret h) {x y : Int64} (d : decode cc pc = .ok (.ladd, 1)) (k : zJ X (pc + 1) lv (vL (x + y) :: st) w) : zJ X pc lv (vL y :: vL x :: st) w := by
  intro H ls locs cells slots hR hl hlo hc hs
  exact lv_ladd hX.1.1 hX.1.2.1 d (k H ls locs cells slots hR hl hlo hc hs)
theorem j_lsub (hX : zGd X own cc nL ret h) {x y : Int64} (d : decode cc pc = .ok (.lsub, 1)) (k : zJ X (pc + 1) lv (vL (x - y) :: st) w) : zJ X pc lv (vL y :: vL x :: st) w := by
  intro H ls locs cells slots hR hl hlo hc hs
  exact lv_lsub hX.1.1 hX.1.2.1 d (k H ls locs cells slots hR hl hlo hc hs)
theorem j_lmul (hX : zGd X own cc nL ret h) {x y : Int64} (d : decode cc pc = .ok (.lmul, 1)) (k : zJ X (pc + 1) lv (vL (x * y) :: st) w) : zJ X pc lv (vL y :: vL x :: st) w := by
  intro H ls locs cells slots hR hl hlo hc hs
  exact lv_lmul hX.1.1 hX.1.2.1 d (k H ls locs cells slots hR hl hlo hc hs)
theorem j_land (hX : zGd X own cc nL ret h) {x y : Int64} (d : decode cc pc = .ok (.land, 1)) (k : zJ X (pc + 1) lv (vL (x &&& y) :: st) w) : zJ X pc lv (vL y :: vL x :: st) w := by
  intro H ls locs cells slots hR hl hlo hc hs
  exact lv_land hX.1.1 hX.1.2.1 d (k H ls locs cells slots hR hl hlo hc hs)
theorem j_lor (hX : zGd X own cc nL ret h) {x y : Int64} (d : decode cc pc = .ok (.lor, 1)) (k : zJ X (pc + 1) lv (vL (x ||| y) :: st) w) : zJ X pc lv (vL y :: vL x :: st) w := by
  intro H ls locs cells slots hR hl hlo hc hs
  exact lv_lor hX.1.1 hX.1.2.1 d (k H ls locs cells slots hR hl hlo hc hs)
theorem j_lxor (hX : zGd X own cc nL ret h) {x y : Int64} (d : decode cc pc = .ok (.lxor, 1)) (k : zJ X (pc + 1) lv (vL (x ^^^ y) :: st) w) : zJ X pc lv (vL y :: vL x :: st) w := by
  intro H ls locs cells slots hR hl hlo hc hs
  exact lv_lxor hX.1.1 hX.1.2.1 d (k H ls locs cells slots hR hl hlo hc hs)
theorem j_idiv (hX : zGd X own cc nL ret h) {x y : Int32} (d : decode cc pc = .ok (.idiv, 1)) (hne : ¬ y = 0) (k : zJ X (pc + 1) lv (vI (x / y) :: st) w) : zJ X pc lv (vI y :: vI x :: st) w := by
  intro H ls locs cells slots hR hl hlo hc hs
  exact lv_idiv hX.1.1 hX.1.2.1 d hne (k H ls locs cells slots hR hl hlo hc hs)
theorem j_irem (hX : zGd X own cc nL ret h) {x y : Int32} (d : decode cc pc = .ok (.irem, 1)) (hne : ¬ y = 0) (k : zJ X (pc + 1) lv (vI (x - x / y * y) :: st) w) : zJ X pc lv (vI y :: vI x :: st) w := by
  intro H ls locs cells slots hR hl hlo hc hs
  exact lv_irem hX.1.1 hX.1.2.1 d hne (k H ls locs cells slots hR hl hlo hc hs)
theorem j_ldiv (hX : zGd X own cc nL ret h) {x y : Int64} (d : decode cc pc = .ok (.ldiv, 1)) (hne : ¬ y = 0) (k : zJ X (pc + 1) lv (vL (x / y) :: st) w) : zJ X pc lv (vL y :: vL x :: st) w := by
  intro H ls locs cells slots hR hl hlo hc hs
  exact lv_ldiv hX.1.1 hX.1.2.1 d hne (k H ls locs cells slots hR hl hlo hc hs)
theorem j_lrem (hX : zGd X own cc nL ret h) {x y : Int64} (d : decode cc pc = .ok (.lrem, 1)) (hne : ¬ y = 0) (k : zJ X (pc + 1) lv (vL (x - x / y * y) :: st) w) : zJ X pc lv (vL y :: vL x :: st) w := by
  intro H ls locs cells slots hR hl hlo hc hs
  exact lv_lrem hX.1.1 hX.1.2.1 d hne (k H ls locs cells slots hR hl hlo hc hs)
theorem j_ineg (hX : zGd X own cc nL ret h) {x : Int32} (d : decode cc pc = .ok (.ineg, 1)) (k : zJ X (pc + 1) lv (vI (-x) :: st) w) : zJ X pc lv (vI x :: st) w := by
  intro H ls locs cells slots hR hl hlo hc hs
  exact lv_ineg hX.1.1 hX.1.2.1 d (k H ls locs cells slots hR hl hlo hc hs)
theorem j_ishl (hX : zGd X own cc nL ret h) {x y : Int32} (d : decode cc pc = .ok (.ishl, 1)) (k : zJ X (pc + 1) lv (vI (x <<< (y &&& 31)) :: st) w) : zJ X pc lv (vI y :: vI x :: st) w := by
  intro H ls locs cells slots hR hl hlo hc hs
  exact lv_ishl hX.1.1 hX.1.2.1 d (k H ls locs cells slots hR hl hlo hc hs)
theorem j_ishr (hX : zGd X own cc nL ret h) {x y : Int32} (d : decode cc pc = .ok (.ishr, 1)) (k : zJ X (pc + 1) lv (vI (x >>> (y &&& 31)) :: st) w) : zJ X pc lv (vI y :: vI x :: st) w := by
  intro H ls locs cells slots hR hl hlo hc hs
  exact lv_ishr hX.1.1 hX.1.2.1 d (k H ls locs cells slots hR hl hlo hc hs)
theorem j_iushr (hX : zGd X own cc nL ret h) {x y : Int32} (d : decode cc pc = .ok (.iushr, 1)) (k : zJ X (pc + 1) lv (vI ((x.toUInt32 >>> (y.toUInt32 &&& Int32.toUInt32 31)).toInt32) :: st) w) : zJ X pc lv (vI y :: vI x :: st) w := by
  intro H ls locs cells slots hR hl hlo hc hs
  exact lv_iushr hX.1.1 hX.1.2.1 d rfl (k H ls locs cells slots hR hl hlo hc hs)
theorem j_lshl (hX : zGd X own cc nL ret h) {x : Int64} {y : Int32} (d : decode cc pc = .ok (.lshl, 1)) (k : zJ X (pc + 1) lv (vL (x <<< (y.toInt64 &&& 63)) :: st) w) : zJ X pc lv (vI y :: vL x :: st) w := by
  intro H ls locs cells slots hR hl hlo hc hs
  exact lv_lshl hX.1.1 hX.1.2.1 d rfl (k H ls locs cells slots hR hl hlo hc hs)
theorem j_i2l (hX : zGd X own cc nL ret h) {x : Int32} (d : decode cc pc = .ok (.i2l, 1)) (k : zJ X (pc + 1) lv (vL x.toInt64 :: st) w) : zJ X pc lv (vI x :: st) w := by
  intro H ls locs cells slots hR hl hlo hc hs
  exact lv_i2l hX.1.1 hX.1.2.1 d rfl (k H ls locs cells slots hR hl hlo hc hs)
theorem j_l2i (hX : zGd X own cc nL ret h) {x : Int64} (d : decode cc pc = .ok (.l2i, 1)) (k : zJ X (pc + 1) lv (vI x.toInt32 :: st) w) : zJ X pc lv (vL x :: st) w := by
  intro H ls locs cells slots hR hl hlo hc hs
  exact lv_l2i hX.1.1 hX.1.2.1 d rfl (k H ls locs cells slots hR hl hlo hc hs)
theorem j_lcmp (hX : zGd X own cc nL ret h) {x y : Int64} (d : decode cc pc = .ok (.lcmp, 1)) (k : zJ X (pc + 1) lv (vI (lg_cmp x y) :: st) w) : zJ X pc lv (vL y :: vL x :: st) w := by
  intro H ls locs cells slots hR hl hlo hc hs
  exact W.lcmp hX.1.1 hX.1.2.1 d (k H ls locs cells slots hR hl hlo hc hs)
theorem j_dup (hX : zGd X own cc nL ret h) {a : zLV} (ha : (match a with | .inr (.inl _) => 2 | _ => 1) = 1) (d : decode cc pc = .ok (.dup, 1)) (k : zJ X (pc + 1) lv (a :: a :: st) w) : zJ X pc lv (a :: st) w := by
  intro H ls locs cells slots hR hl hlo hc hs
  exact lv_dup hX.1.1 hX.1.2.1 d (by rw [tv_cat]; exact ha) (k H ls locs cells slots hR hl hlo hc hs)
theorem j_pop (hX : zGd X own cc nL ret h) {a : zLV} (ha : (match a with | .inr (.inl _) => 2 | _ => 1) = 1) (d : decode cc pc = .ok (.pop, 1)) (k : zJ X (pc + 1) lv (st) w) : zJ X pc lv (a :: st) w := by
  intro H ls locs cells slots hR hl hlo hc hs
  exact lv_pop hX.1.1 hX.1.2.1 d (by rw [tv_cat]; exact ha) (k H ls locs cells slots hR hl hlo hc hs)
theorem j_dup2 (hX : zGd X own cc nL ret h) {a b : zLV} (ha : (match a with | .inr (.inl _) => 2 | _ => 1) = 1) (hb : (match b with | .inr (.inl _) => 2 | _ => 1) = 1) (d : decode cc pc = .ok (.dup2, 1)) (k : zJ X (pc + 1) lv (a :: b :: a :: b :: st) w) : zJ X pc lv (a :: b :: st) w := by
  intro H ls locs cells slots hR hl hlo hc hs
  exact lv_dup2_11 hX.1.1 hX.1.2.1 d (by rw [tv_cat]; exact ha) (by rw [tv_cat]; exact hb) (k H ls locs cells slots hR hl hlo hc hs)
theorem j_dup2L (hX : zGd X own cc nL ret h) {a : zLV} (ha : (match a with | .inr (.inl _) => 2 | _ => 1) = 2) (d : decode cc pc = .ok (.dup2, 1)) (k : zJ X (pc + 1) lv (a :: a :: st) w) : zJ X pc lv (a :: st) w := by
  intro H ls locs cells slots hR hl hlo hc hs
  exact lv_dup2_2 hX.1.1 hX.1.2.1 d (by rw [tv_cat]; exact ha) (k H ls locs cells slots hR hl hlo hc hs)
theorem j_dup_x1 (hX : zGd X own cc nL ret h) {a b : zLV} (ha : (match a with | .inr (.inl _) => 2 | _ => 1) = 1) (hb : (match b with | .inr (.inl _) => 2 | _ => 1) = 1) (d : decode cc pc = .ok (.dup_x1, 1)) (k : zJ X (pc + 1) lv (a :: b :: a :: st) w) : zJ X pc lv (a :: b :: st) w := by
  intro H ls locs cells slots hR hl hlo hc hs
  exact lv_dup_x1 hX.1.1 hX.1.2.1 d (by rw [tv_cat]; exact ha) (by rw [tv_cat]; exact hb) (k H ls locs cells slots hR hl hlo hc hs)
theorem j_pop2L (hX : zGd X own cc nL ret h) {a : zLV} (ha : (match a with | .inr (.inl _) => 2 | _ => 1) = 2) (d : decode cc pc = .ok (.pop2, 1)) (k : zJ X (pc + 1) lv (st) w) : zJ X pc lv (a :: st) w := by
  intro H ls locs cells slots hR hl hlo hc hs
  exact lv_pop2_2 hX.1.1 hX.1.2.1 d (by rw [tv_cat]; exact ha) (k H ls locs cells slots hR hl hlo hc hs)
theorem j_if_eq (hX : zGd X own cc nL ret h) {α : Type} {x : Int32} {off : Int} (tgt : Nat) {A B : Option α} {o : α} (d : decode cc pc = .ok (.ifCond .eq off, 3)) (ht : (pc : Int) + off = (tgt : Int)) (hf : (if x = 0 then A else B) = some o) (kt : x = 0 → A = some o → zJ X tgt lv st w) (kf : ¬ (x = 0) → B = some o → zJ X (pc + 3) lv st w) : zJ X pc lv (vI x :: st) w := by
  intro H ls locs cells slots hR hl hlo hc hs
  exact lv_if_eq hX.1.1 hX.1.2.1 d ht (fun q => kt q (by rw [if_pos q] at hf; exact hf) H ls locs cells slots hR hl hlo hc hs) (fun q => kf q (by rw [if_neg q] at hf; exact hf) H ls locs cells slots hR hl hlo hc hs)
theorem j_icmp_eq (hX : zGd X own cc nL ret h) {α : Type} {x y : Int32} {off : Int} (tgt : Nat) {A B : Option α} {o : α} (d : decode cc pc = .ok (.if_icmp .eq off, 3)) (ht : (pc : Int) + off = (tgt : Int)) (hf : (if x = y then A else B) = some o) (kt : x = y → A = some o → zJ X tgt lv st w) (kf : ¬ (x = y) → B = some o → zJ X (pc + 3) lv st w) : zJ X pc lv (vI y :: vI x :: st) w := by
  intro H ls locs cells slots hR hl hlo hc hs
  exact lv_icmp_eq hX.1.1 hX.1.2.1 d ht (fun q => kt q (by rw [if_pos q] at hf; exact hf) H ls locs cells slots hR hl hlo hc hs) (fun q => kf q (by rw [if_neg q] at hf; exact hf) H ls locs cells slots hR hl hlo hc hs)
theorem j_if_ne (hX : zGd X own cc nL ret h) {α : Type} {x : Int32} {off : Int} (tgt : Nat) {A B : Option α} {o : α} (d : decode cc pc = .ok (.ifCond .ne off, 3)) (ht : (pc : Int) + off = (tgt : Int)) (hf : (if x = 0 then B else A) = some o) (kt : ¬ (x = 0) → A = some o → zJ X tgt lv st w) (kf : x = 0 → B = some o → zJ X (pc + 3) lv st w) : zJ X pc lv (vI x :: st) w := by
  intro H ls locs cells slots hR hl hlo hc hs
  exact lv_if_ne hX.1.1 hX.1.2.1 d ht (fun q => kt q (by rw [if_neg q] at hf; exact hf) H ls locs cells slots hR hl hlo hc hs) (fun q => kf q (by rw [if_pos q] at hf; exact hf) H ls locs cells slots hR hl hlo hc hs)
theorem j_icmp_ne (hX : zGd X own cc nL ret h) {α : Type} {x y : Int32} {off : Int} (tgt : Nat) {A B : Option α} {o : α} (d : decode cc pc = .ok (.if_icmp .ne off, 3)) (ht : (pc : Int) + off = (tgt : Int)) (hf : (if x = y then B else A) = some o) (kt : ¬ (x = y) → A = some o → zJ X tgt lv st w) (kf : x = y → B = some o → zJ X (pc + 3) lv st w) : zJ X pc lv (vI y :: vI x :: st) w := by
  intro H ls locs cells slots hR hl hlo hc hs
  exact lv_icmp_ne hX.1.1 hX.1.2.1 d ht (fun q => kt q (by rw [if_neg q] at hf; exact hf) H ls locs cells slots hR hl hlo hc hs) (fun q => kf q (by rw [if_pos q] at hf; exact hf) H ls locs cells slots hR hl hlo hc hs)
theorem j_if_lt (hX : zGd X own cc nL ret h) {α : Type} {x : Int32} {off : Int} (tgt : Nat) {A B : Option α} {o : α} (d : decode cc pc = .ok (.ifCond .lt off, 3)) (ht : (pc : Int) + off = (tgt : Int)) (hf : (if x < 0 then A else B) = some o) (kt : x < 0 → A = some o → zJ X tgt lv st w) (kf : ¬ (x < 0) → B = some o → zJ X (pc + 3) lv st w) : zJ X pc lv (vI x :: st) w := by
  intro H ls locs cells slots hR hl hlo hc hs
  exact lv_if_lt hX.1.1 hX.1.2.1 d ht (fun q => kt q (by rw [if_pos q] at hf; exact hf) H ls locs cells slots hR hl hlo hc hs) (fun q => kf q (by rw [if_neg q] at hf; exact hf) H ls locs cells slots hR hl hlo hc hs)
theorem j_icmp_lt (hX : zGd X own cc nL ret h) {α : Type} {x y : Int32} {off : Int} (tgt : Nat) {A B : Option α} {o : α} (d : decode cc pc = .ok (.if_icmp .lt off, 3)) (ht : (pc : Int) + off = (tgt : Int)) (hf : (if x < y then A else B) = some o) (kt : x < y → A = some o → zJ X tgt lv st w) (kf : ¬ (x < y) → B = some o → zJ X (pc + 3) lv st w) : zJ X pc lv (vI y :: vI x :: st) w := by
  intro H ls locs cells slots hR hl hlo hc hs
  exact lv_icmp_lt hX.1.1 hX.1.2.1 d ht (fun q => kt q (by rw [if_pos q] at hf; exact hf) H ls locs cells slots hR hl hlo hc hs) (fun q => kf q (by rw [if_neg q] at hf; exact hf) H ls locs cells slots hR hl hlo hc hs)
theorem j_if_ge (hX : zGd X own cc nL ret h) {α : Type} {x : Int32} {off : Int} (tgt : Nat) {A B : Option α} {o : α} (d : decode cc pc = .ok (.ifCond .ge off, 3)) (ht : (pc : Int) + off = (tgt : Int)) (hf : (if 0 ≤ x then A else B) = some o) (kt : 0 ≤ x → A = some o → zJ X tgt lv st w) (kf : ¬ (0 ≤ x) → B = some o → zJ X (pc + 3) lv st w) : zJ X pc lv (vI x :: st) w := by
  intro H ls locs cells slots hR hl hlo hc hs
  exact lv_if_ge hX.1.1 hX.1.2.1 d ht (fun q => kt q (by rw [if_pos q] at hf; exact hf) H ls locs cells slots hR hl hlo hc hs) (fun q => kf q (by rw [if_neg q] at hf; exact hf) H ls locs cells slots hR hl hlo hc hs)
theorem j_icmp_ge (hX : zGd X own cc nL ret h) {α : Type} {x y : Int32} {off : Int} (tgt : Nat) {A B : Option α} {o : α} (d : decode cc pc = .ok (.if_icmp .ge off, 3)) (ht : (pc : Int) + off = (tgt : Int)) (hf : (if y ≤ x then A else B) = some o) (kt : y ≤ x → A = some o → zJ X tgt lv st w) (kf : ¬ (y ≤ x) → B = some o → zJ X (pc + 3) lv st w) : zJ X pc lv (vI y :: vI x :: st) w := by
  intro H ls locs cells slots hR hl hlo hc hs
  exact lv_icmp_ge hX.1.1 hX.1.2.1 d ht (fun q => kt q (by rw [if_pos q] at hf; exact hf) H ls locs cells slots hR hl hlo hc hs) (fun q => kf q (by rw [if_neg q] at hf; exact hf) H ls locs cells slots hR hl hlo hc hs)
theorem j_if_gt (hX : zGd X own cc nL ret h) {α : Type} {x : Int32} {off : Int} (tgt : Nat) {A B : Option α} {o : α} (d : decode cc pc = .ok (.ifCond .gt off, 3)) (ht : (pc : Int) + off = (tgt : Int)) (hf : (if 0 < x then A else B) = some o) (kt : 0 < x → A = some o → zJ X tgt lv st w) (kf : ¬ (0 < x) → B = some o → zJ X (pc + 3) lv st w) : zJ X pc lv (vI x :: st) w := by
  intro H ls locs cells slots hR hl hlo hc hs
  exact lv_if_gt hX.1.1 hX.1.2.1 d ht (fun q => kt q (by rw [if_pos q] at hf; exact hf) H ls locs cells slots hR hl hlo hc hs) (fun q => kf q (by rw [if_neg q] at hf; exact hf) H ls locs cells slots hR hl hlo hc hs)
theorem j_icmp_gt (hX : zGd X own cc nL ret h) {α : Type} {x y : Int32} {off : Int} (tgt : Nat) {A B : Option α} {o : α} (d : decode cc pc = .ok (.if_icmp .gt off, 3)) (ht : (pc : Int) + off = (tgt : Int)) (hf : (if y < x then A else B) = some o) (kt : y < x → A = some o → zJ X tgt lv st w) (kf : ¬ (y < x) → B = some o → zJ X (pc + 3) lv st w) : zJ X pc lv (vI y :: vI x :: st) w := by
  intro H ls locs cells slots hR hl hlo hc hs
  exact lv_icmp_gt hX.1.1 hX.1.2.1 d ht (fun q => kt q (by rw [if_pos q] at hf; exact hf) H ls locs cells slots hR hl hlo hc hs) (fun q => kf q (by rw [if_neg q] at hf; exact hf) H ls locs cells slots hR hl hlo hc hs)
theorem j_if_le (hX : zGd X own cc nL ret h) {α : Type} {x : Int32} {off : Int} (tgt : Nat) {A B : Option α} {o : α} (d : decode cc pc = .ok (.ifCond .le off, 3)) (ht : (pc : Int) + off = (tgt : Int)) (hf : (if x ≤ 0 then A else B) = some o) (kt : x ≤ 0 → A = some o → zJ X tgt lv st w) (kf : ¬ (x ≤ 0) → B = some o → zJ X (pc + 3) lv st w) : zJ X pc lv (vI x :: st) w := by
  intro H ls locs cells slots hR hl hlo hc hs
  exact lv_if_le hX.1.1 hX.1.2.1 d ht (fun q => kt q (by rw [if_pos q] at hf; exact hf) H ls locs cells slots hR hl hlo hc hs) (fun q => kf q (by rw [if_neg q] at hf; exact hf) H ls locs cells slots hR hl hlo hc hs)
theorem j_icmp_le (hX : zGd X own cc nL ret h) {α : Type} {x y : Int32} {off : Int} (tgt : Nat) {A B : Option α} {o : α} (d : decode cc pc = .ok (.if_icmp .le off, 3)) (ht : (pc : Int) + off = (tgt : Int)) (hf : (if x ≤ y then A else B) = some o) (kt : x ≤ y → A = some o → zJ X tgt lv st w) (kf : ¬ (x ≤ y) → B = some o → zJ X (pc + 3) lv st w) : zJ X pc lv (vI y :: vI x :: st) w := by
  intro H ls locs cells slots hR hl hlo hc hs
  exact lv_icmp_le hX.1.1 hX.1.2.1 d ht (fun q => kt q (by rw [if_pos q] at hf; exact hf) H ls locs cells slots hR hl hlo hc hs) (fun q => kf q (by rw [if_neg q] at hf; exact hf) H ls locs cells slots hR hl hlo hc hs)
theorem j_acmp_eq (hX : zGd X own cc nL ret h) {α : Type} {x y : Option Nat} {off : Int} (tgt : Nat) {A B : Option α} {o : α} (d : decode cc pc = .ok (.if_acmp .eq off, 3)) (ht : (pc : Int) + off = (tgt : Int)) (hf : (if x = y then A else B) = some o) (kt : x = y → A = some o → zJ X tgt lv st w) (kf : ¬ x = y → B = some o → zJ X (pc + 3) lv st w) : zJ X pc lv (vA y :: vA x :: st) w := by
  intro H ls locs cells slots hR hl hlo hc hs
  exact lv_acmp_eq hX.1.1 hX.1.2.1 d ht (fun q => kt q (by rw [if_pos q] at hf; exact hf) H ls locs cells slots hR hl hlo hc hs) (fun q => kf q (by rw [if_neg q] at hf; exact hf) H ls locs cells slots hR hl hlo hc hs)
theorem j_acmp_ne (hX : zGd X own cc nL ret h) {α : Type} {x y : Option Nat} {off : Int} (tgt : Nat) {A B : Option α} {o : α} (d : decode cc pc = .ok (.if_acmp .ne off, 3)) (ht : (pc : Int) + off = (tgt : Int)) (hf : (if x = y then B else A) = some o) (kt : ¬ x = y → A = some o → zJ X tgt lv st w) (kf : x = y → B = some o → zJ X (pc + 3) lv st w) : zJ X pc lv (vA y :: vA x :: st) w := by
  intro H ls locs cells slots hR hl hlo hc hs
  exact lv_acmp_ne hX.1.1 hX.1.2.1 d ht (fun q => kt q (by rw [if_neg q] at hf; exact hf) H ls locs cells slots hR hl hlo hc hs) (fun q => kf q (by rw [if_pos q] at hf; exact hf) H ls locs cells slots hR hl hlo hc hs)
theorem j_ifnull (hX : zGd X own cc nL ret h) {α : Type} {x : Option Nat} {off : Int} (tgt : Nat) {A B : Option α} {o : α} (d : decode cc pc = .ok (.ifnull off, 3)) (ht : (pc : Int) + off = (tgt : Int)) (hf : (if x = none then A else B) = some o) (kt : x = none → A = some o → zJ X tgt lv st w) (kf : ¬ x = none → B = some o → zJ X (pc + 3) lv st w) : zJ X pc lv (vA x :: st) w := by
  intro H ls locs cells slots hR hl hlo hc hs
  cases x with
  | none => exact lv_ifnullN hX.1.1 hX.1.2.1 d ht (kt rfl (by rw [if_pos rfl] at hf; exact hf) H ls locs cells slots hR hl hlo hc hs)
  | some x => exact lv_ifnull hX.1.1 hX.1.2.1 d (kf (by simp) (by rw [if_neg (by simp)] at hf; exact hf) H ls locs cells slots hR hl hlo hc hs)
theorem j_ifnonnull (hX : zGd X own cc nL ret h) {α : Type} {x : Option Nat} {off : Int} (tgt : Nat) {A B : Option α} {o : α} (d : decode cc pc = .ok (.ifnonnull off, 3)) (ht : (pc : Int) + off = (tgt : Int)) (hf : (if x = none then B else A) = some o) (kt : ¬ x = none → A = some o → zJ X tgt lv st w) (kf : x = none → B = some o → zJ X (pc + 3) lv st w) : zJ X pc lv (vA x :: st) w := by
  intro H ls locs cells slots hR hl hlo hc hs
  cases x with
  | none => exact lv_ifnonnullN hX.1.1 hX.1.2.1 d (kf rfl (by rw [if_pos rfl] at hf; exact hf) H ls locs cells slots hR hl hlo hc hs)
  | some x => exact lv_ifnonnull hX.1.1 hX.1.2.1 d ht (kt (by simp) (by rw [if_neg (by simp)] at hf; exact hf) H ls locs cells slots hR hl hlo hc hs)
theorem j_goto (hX : zGd X own cc nL ret h) {off : Int} (tgt : Nat) (d : decode cc pc = .ok (.goto off, 3)) (ht : (pc : Int) + off = (tgt : Int)) (k : zJ X tgt lv st w) : zJ X pc lv st w := by
  intro H ls locs cells slots hR hl hlo hc hs
  exact lv_goto hX.1.1 hX.1.2.1 d ht (k H ls locs cells slots hR hl hlo hc hs)
end R1
