/-! BASE 13: the model's memory: its scalars and arrays by their fields' numbers -/
set_option maxRecDepth 100000
abbrev zM : Type := (Nat → Nat → Int32) × (Nat → Nat → Int64)
def zTyL : List Nat := [1, 1, 1, 1, 1, 1, 1, 1, 1, 0, 1, 1, 1, 0, 1, 1, 1, 0, 0, 0, 0, 0, 1, 1, 1, 1, 0, 1, 2, 2, 1, 1, 1, 1, 1, 1, 1, 1, 1, 1, 1, 1, 1, 1, 0, 2, 0, 1, 1, 2, 1, 0, 2, 2, 1, 2, 2, 2, 2, 2, 2, 2, 2, 2, 2, 2, 2, 0, 2, 2]
def zOfL : List Nat := [1, 2, 3, 4, 5, 6, 7, 8, 9, 0, 10, 11, 12, 0, 13, 14, 15, 0, 0, 0, 0, 0, 16, 17, 18, 19, 0, 20, 21, 22, 23, 24, 25, 26, 27, 28, 29, 30, 31, 32, 33, 34, 35, 36, 0, 37, 0, 38, 39, 40, 41, 0, 42, 43, 44, 45, 46, 47, 48, 49, 50, 51, 52, 53, 54, 55, 56, 0, 57, 58]
def zLnL : List Nat := [10, 10, 10, 10, 10, 10, 7200, 7200, 7200, 0, 40, 40, 40, 0, 30, 30, 30, 0, 0, 0, 0, 0, 70, 70, 7, 6, 0, 6, 10, 6, 432, 72, 72, 144, 576, 576, 144, 144, 6, 6, 6, 6, 6, 6, 0, 144, 0, 144, 144, 144, 144, 0, 72, 72, 72, 72, 72, 72, 72, 72, 24, 24, 24, 24, 24, 144, 144, 0, 432, 432]
def zAfL : List Nat := [0, 1, 2, 3, 4, 5, 6, 7, 8, 10, 11, 12, 14, 15, 16, 22, 23, 24, 25, 27, 28, 29, 30, 31, 32, 33, 34, 35, 36, 37, 38, 39, 40, 41, 42, 43, 45, 47, 48, 49, 50, 52, 53, 54, 55, 56, 57, 58, 59, 60, 61, 62, 63, 64, 65, 66, 68, 69]
def zTy (k : Nat) : Nat := zTyL.getD k 0
def zOf (k : Nat) : Nat := zOfL.getD k 0
def zLn (k : Nat) : Nat := zLnL.getD k 0
def zAf (j : Nat) : Nat := zAfL.getD j 0
theorem zOf_ok : ∀ k, k < 70 → zTy k ≠ 0 → 1 ≤ zOf k ∧ zOf k ≤ 58 ∧ zAf (zOf k - 1) = k := by decide +kernel
theorem zAf_ok : ∀ j, j < 58 → zOf (zAf j) = j + 1 ∧ zTy (zAf j) ≠ 0 := by decide +kernel
def zFe (b : Nat) (M : zM) (k : Nat) : zLV := if zTy k = 0 then vI (M.1 k 0) else vA (some (b + zOf k))
def zFl (b : Nat) (M : zM) : List zLV := (List.range 70).map (zFe b M)
def zAr (M : zM) (k : Nat) : zLC := if zTy k = 1 then .inl (0, zLn k, .inl (M.1 k)) else .inl (1, zLn k, .inr (.inl (M.2 k)))
def zIc (b : Nat) (M : zM) : Nat → zLC
  | 0 => .inr (3, zFl b M)
  | j + 1 => zAr M (zAf j)
/-- the world u, with the model at b and its memory M -/
def zIj (b : Nat) (u : zWd) (M : zM) : zWd := (fun a => if b ≤ a ∧ a ≤ b + 58 then some (true, zIc b M (a - b)) else u.1 a, u.2)
def mI (M : zM) (k : Nat) : Int32 := M.1 k 0
def mS1 (M : zM) (k i : Nat) (v : Int32) : zM := (fun k' i' => if k' = k ∧ i' = i then v else M.1 k' i', M.2)
def mS2 (M : zM) (k i : Nat) (v : Int64) : zM := (M.1, fun k' i' => if k' = k ∧ i' = i then v else M.2 k' i')
def pM (M : zM) (k : Nat) (v : Int32) : Option zM := some (mS1 M k 0 v)
def rIM (M : zM) (k L : Nat) (i : Int32) : Option Int32 := if i < 0 ∨ L ≤ i.toNatClampNeg then none else some (M.1 k i.toNatClampNeg)
def rLM (M : zM) (k L : Nat) (i : Int32) : Option Int64 := if i < 0 ∨ L ≤ i.toNatClampNeg then none else some (M.2 k i.toNatClampNeg)
def sIM (M : zM) (k L : Nat) (i : Int32) (v : Int32) : Option zM := if i < 0 ∨ L ≤ i.toNatClampNeg then none else some (mS1 M k i.toNatClampNeg v)
def sLM (M : zM) (k L : Nat) (i : Int32) (v : Int64) : Option zM := if i < 0 ∨ L ≤ i.toNatClampNeg then none else some (mS2 M k i.toNatClampNeg v)
def zRzM (x : Int32) (w : zM) : Option (Int32 × zM) := if x = 0 ∨ x = 1 then some (x, w) else none
theorem zRzM_e {x : Int32} {w : zM} {o : Int32 × zM} (h : zRzM x w = some o) : (x = 0 ∨ x = 1) ∧ some (x, w) = some o := by
  unfold zRzM at h
  split at h
  next q => exact ⟨q, h⟩
  next => cases h
theorem zIj_at0 (b : Nat) (u : zWd) (M : zM) : (zIj b u M).1 b = some (true, .inr (3, zFl b M)) := by
  simp [zIj, zIc]
theorem zIj_arr (b : Nat) (u : zWd) (M : zM) {k : Nat} (hk : k < 70) (ht : zTy k ≠ 0) : (zIj b u M).1 (b + zOf k) = some (true, zAr M k) := by
  obtain ⟨h1, h2, h3⟩ := zOf_ok k hk ht
  simp only [zIj]
  rw [if_pos (by omega), show b + zOf k - b = (zOf k - 1) + 1 by omega]
  simp only [zIc]
  rw [h3]
theorem zIj_isC (b : Nat) (u : zWd) (M : zM) : isC (zIj b u M) 3 (some b) = true := by
  simp only [isC]
  rw [zIj_at0]
  rfl
theorem zFl_at (b : Nat) (M : zM) {k : Nat} (hk : k < 70) : (zFl b M)[k]? = some (zFe b M k) := by
  simp [zFl, hk]
theorem zFl_len (b : Nat) (M : zM) : (zFl b M).length = 70 := by simp [zFl]
theorem zIj_up (b : Nat) (u : zWd) (M M' : zM) (j : Nat) (hj : j ≤ 58) (h : ∀ i, i ≤ 58 → i ≠ j → zIc b M i = zIc b M' i) : zUp (zIj b u M) (b + j) (zIc b M' j) = zIj b u M' := by
  refine Prod.ext (funext fun a => ?_) rfl
  show (if a = b + j then some (true, zIc b M' j) else if b ≤ a ∧ a ≤ b + 58 then some (true, zIc b M (a - b)) else u.1 a) = (if b ≤ a ∧ a ≤ b + 58 then some (true, zIc b M' (a - b)) else u.1 a)
  by_cases ha : a = b + j
  · rw [if_pos ha, if_pos (by omega), ha, Nat.add_sub_cancel_left]
  · rw [if_neg ha]
    by_cases hb : b ≤ a ∧ a ≤ b + 58
    · rw [if_pos hb, if_pos hb, h (a - b) (by omega) (by omega)]
    · rw [if_neg hb, if_neg hb]
theorem zFl_mS1 (b : Nat) (M : zM) {k : Nat} (ht : zTy k ≠ 0) (i : Nat) (v : Int32) : zFl b (mS1 M k i v) = zFl b M := by
  unfold zFl
  refine List.map_congr_left fun k' _ => ?_
  unfold zFe mS1
  by_cases h0 : zTy k' = 0
  · rw [if_pos h0, if_pos h0]
    have : ¬ (k' = k ∧ 0 = i) := fun q => ht (by rw [← q.1]; exact h0)
    simp only [if_neg this]
  · rw [if_neg h0, if_neg h0]
theorem zIj_st1 (b : Nat) (u : zWd) (M : zM) {k : Nat} (hk : k < 70) (ht : zTy k = 1) (i : Nat) (v : Int32) : zUp (zIj b u M) (b + zOf k) (.inl (0, zLn k, .inl (va_up (M.1 k) i v))) = zIj b u (mS1 M k i v) := by
  have ht0 : zTy k ≠ 0 := by omega
  obtain ⟨h1, h2, h3⟩ := zOf_ok k hk ht0
  have e : zIc b (mS1 M k i v) (zOf k) = .inl (0, zLn k, .inl (va_up (M.1 k) i v)) := by
    rw [show zOf k = (zOf k - 1) + 1 by omega]
    simp only [zIc]
    rw [h3]
    unfold zAr
    rw [if_pos ht]
    congr 4
    funext i'
    simp [mS1, va_up]
  rw [← e]
  refine zIj_up b u M _ _ h2 fun j hj hne => ?_
  cases j with
  | zero => simp only [zIc]; rw [zFl_mS1 b M ht0]
  | succ j =>
    simp only [zIc]
    have hk' : zAf j ≠ k := fun q => hne (by rw [← q, (zAf_ok j (by omega)).1])
    unfold zAr mS1
    by_cases h1' : zTy (zAf j) = 1
    · rw [if_pos h1', if_pos h1']
      congr 4
      funext i'
      simp [hk']
    · rw [if_neg h1', if_neg h1']
theorem zIj_st2 (b : Nat) (u : zWd) (M : zM) {k : Nat} (hk : k < 70) (ht : zTy k = 2) (i : Nat) (v : Int64) : zUp (zIj b u M) (b + zOf k) (.inl (1, zLn k, .inr (.inl (va_up (M.2 k) i v)))) = zIj b u (mS2 M k i v) := by
  have ht0 : zTy k ≠ 0 := by omega
  obtain ⟨h1, h2, h3⟩ := zOf_ok k hk ht0
  have e : zIc b (mS2 M k i v) (zOf k) = .inl (1, zLn k, .inr (.inl (va_up (M.2 k) i v))) := by
    rw [show zOf k = (zOf k - 1) + 1 by omega]
    simp only [zIc]
    rw [h3]
    unfold zAr
    rw [if_neg (by omega)]
    congr 5
    funext i'
    simp [mS2, va_up]
  rw [← e]
  refine zIj_up b u M _ _ h2 fun j hj hne => ?_
  cases j with
  | zero => rfl
  | succ j =>
    simp only [zIc]
    have hk' : zAf j ≠ k := fun q => hne (by rw [← q, (zAf_ok j (by omega)).1])
    unfold zAr mS2
    by_cases h1' : zTy (zAf j) = 1
    · rw [if_pos h1', if_pos h1']
    · rw [if_neg h1', if_neg h1']
      congr 5
      funext i'
      simp [hk']
theorem zIj_pt (b : Nat) (u : zWd) (M : zM) {k : Nat} (hk : k < 70) (ht : zTy k = 0) (v : Int32) : zUp (zIj b u M) b (.inr (3, (zFl b M).set k (vI v))) = zIj b u (mS1 M k 0 v) := by
  have e : zIc b (mS1 M k 0 v) 0 = .inr (3, (zFl b M).set k (vI v)) := by
    simp only [zIc]
    congr 2
    refine List.ext_getElem? fun j => ?_
    rw [List.getElem?_set, zFl_len]
    by_cases hj : j < 70
    · rw [zFl_at _ _ hj, zFl_at _ _ hj]
      by_cases hjk : k = j
      · subst hjk
        rw [if_pos rfl, if_pos hk]
        unfold zFe mS1
        rw [if_pos ht]
        simp
      · rw [if_neg hjk]
        unfold zFe mS1
        by_cases h0 : zTy j = 0
        · rw [if_pos h0, if_pos h0]
          simp [Ne.symm hjk]
        · rw [if_neg h0, if_neg h0]
    · have h1 : (zFl b (mS1 M k 0 v))[j]? = none := List.getElem?_eq_none (by rw [zFl_len]; omega)
      have h2 : (zFl b M)[j]? = none := List.getElem?_eq_none (by rw [zFl_len]; omega)
      rw [h1, h2, if_neg (by omega)]
  have h := zIj_up b u M (mS1 M k 0 v) 0 (by omega) fun j hj hne => by
    cases j with
    | zero => exact absurd rfl hne
    | succ j =>
      simp only [zIc]
      have hk' : zAf j ≠ k := fun q => (zAf_ok j (by omega)).2 (by rw [q]; exact ht)
      unfold zAr mS1
      by_cases h1' : zTy (zAf j) = 1
      · rw [if_pos h1', if_pos h1']
        congr 4
        funext i'
        simp [hk']
      · rw [if_neg h1', if_neg h1']
  rw [e] at h
  exact h
section R13
variable {X : zX} {own : String} {cc : ByteArray} {nL : Nat} {ret : Option FieldType} {h : Nat} {pc : Nat} {lv : List (Option zLV)} {st : List zLV} {b : Nat} {u : zWd} {M : zM} {index : Nat} {ref : String}
theorem mg_I (hX : zGd X own cc nL ret h) (k : Nat) (hk : k < 70) (ht : zTy k = 0) (q : Cond.fieldLink own index (TX4 k).1 (TX4 k).2.1 (TX4 k).2.2.1 ∈ lw_all) (d : decode cc pc = .ok (.getfield index, 3)) (kk : zJ X (pc + 3) lv (vI (mI M k) :: st) (zIj b u M)) : zJ X pc lv (vA (some b) :: st) (zIj b u M) := by
  refine j_getI (f := some) (o := mI M k) hX kX4 (k := k) hk q (Or.inl rfl) d ?_ ?_
  · simp only [gI, gObj]
    rw [zIj_at0]
    simp only [if_true, Option.bind_some]
    rw [zFl_at b M hk]
    simp only [zFe, if_pos ht]
    rfl
  · intro x _ hx
    cases hx
    exact kk
theorem mg_A (hX : zGd X own cc nL ret h) (k : Nat) (hk : k < 70) (o t : Nat) (ho : zOf k = o) (ht : zTy k = t) (ht0 : t ≠ 0) (q : Cond.fieldLink own index (TX4 k).1 (TX4 k).2.1 (TX4 k).2.2.1 ∈ lw_all) (d : decode cc pc = .ok (.getfield index, 3)) (kk : zJ X (pc + 3) lv (vA (some (b + o)) :: st) (zIj b u M)) : zJ X pc lv (vA (some b) :: st) (zIj b u M) := by
  subst ho
  subst ht
  refine j_getA (f := some) (o := some (b + zOf k)) hX kX4 (k := k) hk q (Or.inl rfl) d ?_ ?_
  · simp only [gA, gObj]
    rw [zIj_at0]
    simp only [if_true, Option.bind_some]
    rw [zFl_at b M hk]
    simp only [zFe, if_neg ht0]
    rfl
  · intro x _ hx
    cases hx
    exact kk
theorem mp_I (hX : zGd X own cc nL ret h) (k : Nat) (hk : k < 70) (ht : zTy k = 0) (hd : ((TX4 k).2.2.2, tyX4 k) = (false, FieldType.int)) {v : Int32} (q : Cond.fieldLink own index (TX4 k).1 (TX4 k).2.1 (TX4 k).2.2.1 ∈ lw_all) (d : decode cc pc = .ok (.putfield index, 3))
    {α : Type} {f : zM → Option α} {o : α} (hf : (pM M k v).bind f = some o) (kk : ∀ M', f M' = some o → zJ X (pc + 3) lv st (zIj b u M')) : zJ X pc lv (vI v :: vA (some b) :: st) (zIj b u M) := by
  refine j_putI (f := some) (o := zIj b u (mS1 M k 0 v)) hX kX4 (k := k) hk q (Or.inl rfl) (congrArg Prod.fst hd) (congrArg Prod.snd hd) d ?_ ?_
  · simp only [pI, pV]
    rw [zIj_at0]
    simp only [true_and]
    rw [if_pos (show k < (zFl b M).length by rw [zFl_len]; exact hk), zIj_pt b u M hk ht]
    rfl
  · intro w' hx
    cases hx
    exact kk _ hf
theorem mr_I (hX : zGd X own cc nL ret h) (k L o : Nat) (hk : k < 70) (ht : zTy k = 1) (hL : zLn k = L) (ho : zOf k = o) {i : Int32} (d : decode cc pc = .ok (.iaload, 1))
    {α : Type} {f : Int32 → Option α} {r : α} (hf : (rIM M k L i).bind f = some r) (kk : ∀ x, rIM M k L i = some x → f x = some r → zJ X (pc + 1) lv (vI x :: st) (zIj b u M)) : zJ X pc lv (vI i :: vA (some (b + o)) :: st) (zIj b u M) := by
  subst hL
  subst ho
  refine j_iaload (f := f) (o := r) hX d ?_ fun x hx => kk x ?_
  · have e : aI (zIj b u M) (some (b + zOf k)) i = rIM M k (zLn k) i := by
      simp only [aI]
      rw [zIj_arr b u M hk (by omega)]
      unfold zAr
      rw [if_pos ht]
      rfl
    rw [e]
    exact hf
  · have e : aI (zIj b u M) (some (b + zOf k)) i = rIM M k (zLn k) i := by
      simp only [aI]
      rw [zIj_arr b u M hk (by omega)]
      unfold zAr
      rw [if_pos ht]
      rfl
    rw [← e]
    exact hx
theorem mr_L (hX : zGd X own cc nL ret h) (k L o : Nat) (hk : k < 70) (ht : zTy k = 2) (hL : zLn k = L) (ho : zOf k = o) {i : Int32} (d : decode cc pc = .ok (.laload, 1))
    {α : Type} {f : Int64 → Option α} {r : α} (hf : (rLM M k L i).bind f = some r) (kk : ∀ x, rLM M k L i = some x → f x = some r → zJ X (pc + 1) lv (vL x :: st) (zIj b u M)) : zJ X pc lv (vI i :: vA (some (b + o)) :: st) (zIj b u M) := by
  subst hL
  subst ho
  have e : aL (zIj b u M) (some (b + zOf k)) i = rLM M k (zLn k) i := by
    simp only [aL]
    rw [zIj_arr b u M hk (by omega)]
    unfold zAr
    rw [if_neg (by omega)]
    rfl
  refine j_laload (f := f) (o := r) hX d (by rw [e]; exact hf) fun x hx => kk x (by rw [← e]; exact hx)
theorem ms_I (hX : zGd X own cc nL ret h) (k L o : Nat) (hk : k < 70) (ht : zTy k = 1) (hL : zLn k = L) (ho : zOf k = o) {i v : Int32} (d : decode cc pc = .ok (.iastore, 1))
    {α : Type} {f : zM → Option α} {r : α} (hf : (sIM M k L i v).bind f = some r) (kk : ∀ M', f M' = some r → zJ X (pc + 1) lv st (zIj b u M')) : zJ X pc lv (vI v :: vI i :: vA (some (b + o)) :: st) (zIj b u M) := by
  subst hL
  subst ho
  obtain ⟨M', e1, e2⟩ := zob hf
  unfold sIM at e1
  split at e1
  · cases e1
  next hb =>
    cases e1
    refine j_iastore (f := some) (o := zIj b u (mS1 M k i.toNatClampNeg v)) hX d ?_ ?_
    · simp only [sI]
      rw [zIj_arr b u M hk (by omega)]
      unfold zAr
      rw [if_pos ht]
      simp only
      rw [if_neg hb, zIj_st1 b u M hk ht]
      rfl
    · intro w' hx
      cases hx
      exact kk _ e2
theorem ms_L (hX : zGd X own cc nL ret h) (k L o : Nat) (hk : k < 70) (ht : zTy k = 2) (hL : zLn k = L) (ho : zOf k = o) {i : Int32} {v : Int64} (d : decode cc pc = .ok (.lastore, 1))
    {α : Type} {f : zM → Option α} {r : α} (hf : (sLM M k L i v).bind f = some r) (kk : ∀ M', f M' = some r → zJ X (pc + 1) lv st (zIj b u M')) : zJ X pc lv (vL v :: vI i :: vA (some (b + o)) :: st) (zIj b u M) := by
  subst hL
  subst ho
  obtain ⟨M', e1, e2⟩ := zob hf
  unfold sLM at e1
  split at e1
  · cases e1
  next hb =>
    cases e1
    refine j_lastore (f := some) (o := zIj b u (mS2 M k i.toNatClampNeg v)) hX d ?_ ?_
    · simp only [sL]
      rw [zIj_arr b u M hk (by omega)]
      unfold zAr
      rw [if_neg (by omega)]
      simp only
      rw [if_neg hb, zIj_st2 b u M hk ht]
      rfl
    · intro w' hx
      cases hx
      exact kk _ e2
end R13
