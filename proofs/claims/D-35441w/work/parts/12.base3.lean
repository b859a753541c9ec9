/-! BASE 3: what a walk does to a world, as functions; rows on objects and arrays -/
set_option maxRecDepth 100000
def zUp (w : zWd) (a : Nat) (e : zLC) : zWd := (fun q => if q = a then some (true, e) else w.1 q, w.2)
/-- the fields of the object r of class ci -/
def gObj (w : zWd) (ci : Nat) : Option Nat → Option (List zLV)
  | none => none
  | some a => match w.1 a with
    | some (_, .inr (c, fs)) => if c = ci then some fs else none
    | _ => none
def gI (w : zWd) (ci k : Nat) (r : Option Nat) : Option Int32 := (gObj w ci r).bind fun fs => match fs[k]? with
  | some (.inl x) => some x
  | _ => none
def gL (w : zWd) (ci k : Nat) (r : Option Nat) : Option Int64 := (gObj w ci r).bind fun fs => match fs[k]? with
  | some (.inr (.inl x)) => some x
  | _ => none
def gA (w : zWd) (ci k : Nat) (r : Option Nat) : Option (Option Nat) := (gObj w ci r).bind fun fs => match fs[k]? with
  | some (.inr (.inr x)) => some x
  | _ => none
/-- a field is set, in a cell that may be written -/
def pV (w : zWd) (ci k : Nat) (v : zLV) : Option Nat → Option zWd
  | none => none
  | some a => match w.1 a with
    | some (true, .inr (c, fs)) => if c = ci ∧ k < fs.length then some (zUp w a (.inr (ci, fs.set k v))) else none
    | _ => none
def pI (w : zWd) (ci k : Nat) (r : Option Nat) (x : Int32) : Option zWd := pV w ci k (vI x) r
def pZ (w : zWd) (ci k : Nat) (r : Option Nat) (x : Int32) : Option zWd := if x = 0 ∨ x = 1 then pV w ci k (vI x) r else none
def pL (w : zWd) (ci k : Nat) (r : Option Nat) (x : Int64) : Option zWd := pV w ci k (vL x) r
def pA (w : zWd) (ci k : Nat) (r x : Option Nat) : Option zWd := pV w ci k (vA x) r
def aI (w : zWd) : Option Nat → Int32 → Option Int32
  | none, _ => none
  | some a, i => match w.1 a with
    | some (_, .inl (0, n, .inl f)) => if i < 0 ∨ n ≤ i.toNatClampNeg then none else some (f i.toNatClampNeg)
    | _ => none
def aB (w : zWd) : Option Nat → Int32 → Option Int32
  | none, _ => none
  | some a, i => match w.1 a with
    | some (_, .inl (3, n, .inl f)) => if i < 0 ∨ n ≤ i.toNatClampNeg then none else some (f i.toNatClampNeg)
    | _ => none
def aL (w : zWd) : Option Nat → Int32 → Option Int64
  | none, _ => none
  | some a, i => match w.1 a with
    | some (_, .inl (1, n, .inr (.inl f))) => if i < 0 ∨ n ≤ i.toNatClampNeg then none else some (f i.toNatClampNeg)
    | _ => none
def aA (w : zWd) : Option Nat → Int32 → Option (Option Nat)
  | none, _ => none
  | some a, i => match w.1 a with
    | some (_, .inl (_, n, .inr (.inr f))) => if i < 0 ∨ n ≤ i.toNatClampNeg then none else some (f i.toNatClampNeg)
    | _ => none
def aN (w : zWd) : Option Nat → Option Int32
  | none => none
  | some a => match w.1 a with
    | some (_, .inl (_, n, _)) => some (Int32.ofNat n)
    | _ => none
def sI (w : zWd) : Option Nat → Int32 → Int32 → Option zWd
  | none, _, _ => none
  | some a, i, x => match w.1 a with
    | some (true, .inl (0, n, .inl f)) => if i < 0 ∨ n ≤ i.toNatClampNeg then none else some (zUp w a (.inl (0, n, .inl (va_up f i.toNatClampNeg x))))
    | _ => none
def sL (w : zWd) : Option Nat → Int32 → Int64 → Option zWd
  | none, _, _ => none
  | some a, i, x => match w.1 a with
    | some (true, .inl (1, n, .inr (.inl f))) => if i < 0 ∨ n ≤ i.toNatClampNeg then none else some (zUp w a (.inl (1, n, .inr (.inl (va_up f i.toNatClampNeg x)))))
    | _ => none
/-- may the value go into an array of kind k: null; an object into Object[]; a row into a grid -/
def zMay (w : zWd) (k : Nat) : Option Nat → Bool
  | none => k == 2
  | some v => match w.1 v with
    | some (_, .inr _) => k == 2
    | some (_, .inl (j, _, _)) => (k == 6 && j == 1) || (k == 4 && j == 0)
    | _ => false
def sA (w : zWd) : Option Nat → Int32 → Option Nat → Option zWd
  | none, _, _ => none
  | some a, i, x => match w.1 a with
    | some (true, .inl (k, n, .inr (.inr f))) => if i < 0 ∨ n ≤ i.toNatClampNeg ∨ zMay w k x = false then none else some (zUp w a (.inl (k, n, .inr (.inr (va_up f i.toNatClampNeg x)))))
    | _ => none
/-- a new cell of n slots -/
def zNew (w : zWd) (n : Nat) (e : zLC) : Option (Option Nat × zWd) := if w.2.2.1 = 0 ∨ w.2.2.2.1 < n then none else some (some w.2.1, (fun q => if q = w.2.1 then some (true, e) else w.1 q, w.2.1 + 1, w.2.2.1 - 1, w.2.2.2.1 - n, w.2.2.2.2))
def nI_ (w : zWd) (n : Int32) : Option (Option Nat × zWd) := if n < 0 ∨ 100000 < n.toNatClampNeg then none else zNew w n.toNatClampNeg (.inl (0, n.toNatClampNeg, .inl fun _ => 0))
def nL_ (w : zWd) (n : Int32) : Option (Option Nat × zWd) := if n < 0 ∨ 100000 < n.toNatClampNeg then none else zNew w n.toNatClampNeg (.inl (1, n.toNatClampNeg, .inr (.inl fun _ => 0)))
def nA_ (w : zWd) (n : Int32) : Option (Option Nat × zWd) := if n < 0 ∨ 100000 < n.toNatClampNeg then none else zNew w n.toNatClampNeg (.inl (2, n.toNatClampNeg, .inr (.inr fun _ => none)))
/-- the class of what r names; the statics -/
def isC (w : zWd) (ci : Nat) : Option Nat → Bool
  | none => false
  | some a => match w.1 a with
    | some (_, .inr (c, _)) => c == ci
    | _ => false
def clO (w : zWd) : Option Nat → Option Nat
  | none => none
  | some a => match w.1 a with
    | some (_, .inr (c, _)) => some c
    | _ => none
def stI (w : zWd) (k : Nat) : Option Int32 := match w.2.2.2.2 k with
  | .inl x => some x
  | _ => none
def stA (w : zWd) (k : Nat) : Option (Option Nat) := match w.2.2.2.2 k with
  | .inr (.inr x) => some x
  | _ => none
theorem zob {α β : Type} {m : Option α} {f : α → Option β} {o : β} (h : m.bind f = some o) : ∃ a, m = some a ∧ f a = some o := Option.bind_eq_some_iff.mp h
theorem zCell_kept {K : zK} {a : Nat} {e : zLC} {H H1 : Heap} (h : zCell K a e H) (hq : H1[a]? = H[a]?) : zCell K a e H1 := by
  rcases e with ⟨k, n, x⟩ | ⟨ci, fs⟩
  · exact ⟨h.1, h.2.1, by rw [hq]; exact h.2.2⟩
  · exact va_at.kept (show va_at K.1 zCL (a, .inr (ci, fs.map tv)) H from h) hq
theorem zCell_lt {K : zK} {a : Nat} {e : zLC} {H : Heap} (h : zCell K a e H) : a < H.size := by
  rcases e with ⟨k, n, x⟩ | ⟨ci, fs⟩
  · exact (Array.getElem?_eq_some_iff.mp h.2.2).1
  · exact va_at.lt (show va_at K.1 zCL (a, .inr (ci, fs.map tv)) H from h)
theorem zRp_up {K : zK} {w : zWd} {H H1 : Heap} {a : Nat} {e : zLC} (hR : zRp K w H) (ha : K.2.2.1.size ≤ a) (z : H1.size = H.size) (oq : ∀ q : Nat, q ≠ a → H1[q]? = H[q]?) (hc : zCell K a e H1) : zRp K (zUp w a e) H1 := by
  obtain ⟨h1, h2, ⟨h3, h4⟩, h5⟩ := hR
  refine ⟨z.trans h1, fun q fl e' he => ?_, ⟨by rw [z]; exact h3, fun q hq => by rw [oq q (by omega)]; exact h4 q hq⟩, h5⟩
  simp only [zUp] at he
  split at he
  next hq =>
    subst hq
    cases he
    exact ⟨hc, fun _ => ha⟩
  next hq =>
    obtain ⟨g1, g2⟩ := h2 q fl e' he
    exact ⟨zCell_kept g1 (oq q hq), g2⟩
theorem zRp_new {K : zK} {w : zWd} {H H1 : Heap} {n : Nat} {e : zLC} {r : Option Nat} {w' : zWd} (hR : zRp K w H) (hn : zNew w n e = some (r, w')) (z : H1.size = H.size + 1) (oq : ∀ q : Nat, q < H.size → H1[q]? = H[q]?) (hc : zCell K H.size e H1) : r = some H.size ∧ zRp K w' H1 ∧ w.2.2.1 = w'.2.2.1 + 1 ∧ w.2.2.2.1 = w'.2.2.2.1 + n := by
  obtain ⟨h1, h2, ⟨h3, h4⟩, h5⟩ := hR
  unfold zNew at hn
  split at hn
  · cases hn
  next hlt =>
  simp only [Option.some.injEq, Prod.mk.injEq] at hn
  obtain ⟨rfl, rfl⟩ := hn
  refine ⟨by rw [h1], ⟨by rw [z, h1], fun q fl e' he => ?_, ⟨by omega, fun q hq => by rw [oq q (by omega)]; exact h4 q hq⟩, h5⟩, by dsimp only; omega, by dsimp only; omega⟩
  dsimp only at he
  split at he
  next hq =>
    cases he
    rw [← h1] at hq
    subst hq
    exact ⟨hc, fun _ => h3⟩
  next hq =>
    obtain ⟨g1, g2⟩ := h2 q fl e' he
    exact ⟨zCell_kept g1 (oq q (zCell_lt g1)), g2⟩
theorem zNew_room {w : zWd} {n : Nat} {e : zLC} {o : Option Nat × zWd} (hn : zNew w n e = some o) : 1 ≤ w.2.2.1 ∧ n ≤ w.2.2.2.1 := by
  unfold zNew at hn
  split at hn
  · cases hn
  next h => omega
theorem gObj_spec {w : zWd} {ci : Nat} {r : Option Nat} {fs : List zLV} (h : gObj w ci r = some fs) : ∃ a fl, r = some a ∧ w.1 a = some (fl, .inr (ci, fs)) := by
  cases r with
  | none => cases h
  | some a =>
    simp only [gObj] at h
    split at h
    next fl c fs' hc =>
      split at h
      next hcc =>
        cases h
        subst hcc
        exact ⟨a, fl, rfl, hc⟩
      next => cases h
    next => cases h
theorem pV_spec {w w' : zWd} {ci k : Nat} {v : zLV} {r : Option Nat} (h : pV w ci k v r = some w') : ∃ a fs, r = some a ∧ w.1 a = some (true, .inr (ci, fs)) ∧ k < fs.length ∧ w' = zUp w a (.inr (ci, fs.set k v)) := by
  cases r with
  | none => cases h
  | some a =>
    simp only [pV] at h
    split at h
    next c fs hc =>
      split at h
      next hcc =>
        cases h
        obtain ⟨rfl, hk⟩ := hcc
        exact ⟨a, fs, rfl, hc, hk, rfl⟩
      next => cases h
    next => cases h
theorem zP1 {K : zK} {a ci : Nat} {fs : List zLV} {H : Heap} (h : zCell K a (.inr (ci, fs)) H) : va_P K.1 zCL [(a, .inr (ci, fs.map tv))] H := by
  intro k q hq
  have hz : k < 1 := (List.getElem?_eq_some_iff.mp hq).1
  rw [show k = 0 by omega] at hq
  cases hq
  exact h
