set_option maxRecDepth 100000
def f_X14_takenBefore_L5b (n : Nat) (c0 : Option Nat) (c1 : Int32) (c2 : Int32) (w : zWd) (rec : Int64 → Int32 → Option (Int64)) (v3 : Int64) (v5 : Int32) : Option (Int64) :=
  if c2 ≤ v5 then
    some v3
  else
    (gA w 13 15 c0).bind fun x1 =>
    (aL w x1 ((v5 * (6 : Int32)) + c1)).bind fun x2 =>
    rec (v3 + x2) (v5 + (1))
def f_X14_takenBefore_L5 (n : Nat) (c0 : Option Nat) (c1 : Int32) (c2 : Int32) (w : zWd) : Nat → Int64 → Int32 → Option (Int64)
  | 0, _, _ => none
  | k + 1, v3, v5 => f_X14_takenBefore_L5b n c0 c1 c2 w (f_X14_takenBefore_L5 n c0 c1 c2 w k) v3 v5
def f_X14_takenBefore (n : Nat) (a0 : Option Nat) (a1 : Int32) (a2 : Int32) (w : zWd) : Option (Int64 × zWd) :=
  (f_X14_takenBefore_L5 n a0 a1 a2 w n (0 : Int64) (0 : Int32)).bind fun x3 =>
  some (x3, w)
theorem mt_X14_takenBefore : zMt yX14_takenBefore cX14_takenBefore 6 (some .long) 2 := ⟨q1939, q111, ⟨by decide, by decide⟩, by decide +kernel, by decide⟩
set_option maxHeartbeats 4000000 in
theorem lp_X14_takenBefore_L5 {X : zX} (hX : zGd X RX14 cX14_takenBefore 6 (some .long) 1) (n : Nat) (c0 : Option Nat) (c1 : Int32) (c2 : Int32) (w : zWd) : ∀ (k : Nat) (v3 : Int64) (v5 : Int32) (o3 : Int64) , f_X14_takenBefore_L5 n c0 c1 c2 w k v3 v5 = some o3 → zJ X 32 [some (vA c0), some (vI c1), some (vI c2), some (vL o3), none, none] [] w → zJ X 5 [some (vA c0), some (vI c1), some (vI c2), some (vL v3), none, some (vI v5)] [] w := by
  intro k
  induction k with
  | zero => intro v3 v5 o3 hf _; exact nomatch (show (none : Option (Int64)) = _ from hf)
  | succ k ih =>
    intro v3 v5 o3 hf kx
    have hf : f_X14_takenBefore_L5b n c0 c1 c2 w (f_X14_takenBefore_L5 n c0 c1 c2 w k) v3 v5 = _ := hf
    unfold f_X14_takenBefore_L5b at hf
    refine j_iload (pc := 5) hX dX14_takenBefore_5 rfl ?_
    refine j_iload_n (pc := 7) hX dX14_takenBefore_7 rfl ?_
    refine j_icmp_ge (pc := 8) hX 32 dX14_takenBefore_8 rfl hf (fun h_ hf => ?_) (fun h_ hf => ?_)
    · refine j_fg [5] [some (vA c0), some (vI c1), some (vI c2), some (vL v3), none, none] rfl ?_
      cases hf
      exact kx
    · refine j_lload_n (pc := 11) hX dX14_takenBefore_11 rfl ?_
      refine j_aload_n (pc := 12) hX dX14_takenBefore_12 rfl ?_
      refine j_getA (pc := 13) hX kX14 (k := 15) (Nat.le_of_ble_eq_true rfl) q1976 (Or.inl rfl) dX14_takenBefore_13 hf (fun x1 hx_ hf => ?_)
      refine j_iload (pc := 16) hX dX14_takenBefore_16 rfl ?_
      refine j_bipush (pc := 18) hX (6 : Int32) dX14_takenBefore_18 (by decide +kernel) ?_
      refine j_imul (pc := 20) hX dX14_takenBefore_20 ?_
      refine j_iload_n (pc := 21) hX dX14_takenBefore_21 rfl ?_
      refine j_iadd (pc := 22) hX dX14_takenBefore_22 ?_
      refine j_laload (pc := 23) hX dX14_takenBefore_23 hf (fun x2 hx_ hf => ?_)
      refine j_ladd (pc := 24) hX dX14_takenBefore_24 ?_
      refine j_lstore_n (pc := 25) hX dX14_takenBefore_25 (by decide) [some (vA c0), some (vI c1), some (vI c2), some (vL (v3 + x2)), none, some (vI v5)] rfl ?_
      refine j_iinc (pc := 26) hX (1) dX14_takenBefore_26 rfl rfl (by decide) [some (vA c0), some (vI c1), some (vI c2), some (vL (v3 + x2)), none, some (vI (v5 + (1)))] rfl ?_
      refine j_goto (pc := 29) hX 5 dX14_takenBefore_29 rfl ?_
      exact ih _ _ _ hf kx
set_option maxHeartbeats 4000000 in
theorem k_X14_takenBefore {l : Launch} {n : Nat} {a0 : Option Nat} {a1 : Int32} {a2 : Int32} {w : zWd} (r : Int64) (w9 : zWd) (hf : f_X14_takenBefore n a0 a1 a2 w = some (r, w9)) : zCt l yX14_takenBefore cX14_takenBefore 6 (some .long) 1 [vA a0, vI a1, vI a2] w (.inr (some (vL r), w9)) := by
  refine zCt_of (lv := [some (vA a0), some (vI a1), some (vI a2), none, none, none]) (by decide +kernel) 3 rfl rfl ?_
  intro X hX hI hN hQ
  have hX : zGd X RX14 cX14_takenBefore 6 (some .long) 1 := hX
  unfold f_X14_takenBefore at hf
  refine j_lconst (pc := 0) hX (0 : Int64) dX14_takenBefore_0 rfl ?_
  refine j_lstore_n (pc := 1) hX dX14_takenBefore_1 (by decide) [some (vA a0), some (vI a1), some (vI a2), some (vL (0 : Int64)), none, none] rfl ?_
  refine j_iconst (pc := 2) hX (0 : Int32) dX14_takenBefore_2 rfl ?_
  refine j_istore (pc := 3) hX dX14_takenBefore_3 (by decide) [some (vA a0), some (vI a1), some (vI a2), some (vL (0 : Int64)), none, some (vI (0 : Int32))] rfl ?_
  obtain ⟨x3, hm_, hf⟩ := zob hf
  refine lp_X14_takenBefore_L5 hX n _ _ _ _ _ _ _ _ hm_ ?_
  refine j_lload_n (pc := 32) hX dX14_takenBefore_32 rfl ?_
  exact j_lreturn (pc := 33) hX hQ (by cases hf; rfl) dX14_takenBefore_33
def f_X17_person (n : Nat) (a0 : Option Nat) (w : zWd) : Option (Int32 × zWd) :=
  (gI w 16 0 a0).bind fun x1 =>
  some (x1, w)
theorem mt_X17_person : zMt yX17_person cX17_person 1 (some .int) 0 := ⟨q1944, q116, ⟨by decide, by decide⟩, by decide +kernel, by decide⟩
set_option maxHeartbeats 4000000 in
theorem k_X17_person {l : Launch} {n : Nat} {a0 : Option Nat} {w : zWd} (r : Int32) (w9 : zWd) (hf : f_X17_person n a0 w = some (r, w9)) : zCt l yX17_person cX17_person 1 (some .int) 1 [vA a0] w (.inr (some (vI r), w9)) := by
  refine zCt_of (lv := [some (vA a0)]) (by decide +kernel) 0 rfl rfl ?_
  intro X hX hI hN hQ
  have hX : zGd X RX17 cX17_person 1 (some .int) 1 := hX
  unfold f_X17_person at hf
  refine j_aload_n (pc := 0) hX dX17_person_0 rfl ?_
  refine j_getI (pc := 1) hX kX17 (k := 0) (Nat.le_of_ble_eq_true rfl) q2155 (Or.inl rfl) dX17_person_1 hf (fun x1 hx_ hf => ?_)
  exact j_ireturn (pc := 4) hX hQ (by cases hf; rfl) dX17_person_4
def f_X17_month (n : Nat) (a0 : Option Nat) (w : zWd) : Option (Int32 × zWd) :=
  (gI w 16 1 a0).bind fun x1 =>
  some (x1, w)
theorem mt_X17_month : zMt yX17_month cX17_month 1 (some .int) 0 := ⟨q1948, q116, ⟨by decide, by decide⟩, by decide +kernel, by decide⟩
set_option maxHeartbeats 4000000 in
theorem k_X17_month {l : Launch} {n : Nat} {a0 : Option Nat} {w : zWd} (r : Int32) (w9 : zWd) (hf : f_X17_month n a0 w = some (r, w9)) : zCt l yX17_month cX17_month 1 (some .int) 1 [vA a0] w (.inr (some (vI r), w9)) := by
  refine zCt_of (lv := [some (vA a0)]) (by decide +kernel) 0 rfl rfl ?_
  intro X hX hI hN hQ
  have hX : zGd X RX17 cX17_month 1 (some .int) 1 := hX
  unfold f_X17_month at hf
  refine j_aload_n (pc := 0) hX dX17_month_0 rfl ?_
  refine j_getI (pc := 1) hX kX17 (k := 1) (Nat.le_of_ble_eq_true rfl) q2156 (Or.inl rfl) dX17_month_1 hf (fun x1 hx_ hf => ?_)
  exact j_ireturn (pc := 4) hX hQ (by cases hf; rfl) dX17_month_4
def f_X17_cents (n : Nat) (a0 : Option Nat) (w : zWd) : Option (Int32 × zWd) :=
  (gI w 16 2 a0).bind fun x1 =>
  some (x1, w)
theorem mt_X17_cents : zMt yX17_cents cX17_cents 1 (some .int) 0 := ⟨q1952, q116, ⟨by decide, by decide⟩, by decide +kernel, by decide⟩
set_option maxHeartbeats 4000000 in
theorem k_X17_cents {l : Launch} {n : Nat} {a0 : Option Nat} {w : zWd} (r : Int32) (w9 : zWd) (hf : f_X17_cents n a0 w = some (r, w9)) : zCt l yX17_cents cX17_cents 1 (some .int) 1 [vA a0] w (.inr (some (vI r), w9)) := by
  refine zCt_of (lv := [some (vA a0)]) (by decide +kernel) 0 rfl rfl ?_
  intro X hX hI hN hQ
  have hX : zGd X RX17 cX17_cents 1 (some .int) 1 := hX
  unfold f_X17_cents at hf
  refine j_aload_n (pc := 0) hX dX17_cents_0 rfl ?_
  refine j_getI (pc := 1) hX kX17 (k := 2) (Nat.le_of_ble_eq_true rfl) q2157 (Or.inl rfl) dX17_cents_1 hf (fun x1 hx_ hf => ?_)
  exact j_ireturn (pc := 4) hX hQ (by cases hf; rfl) dX17_cents_4
def f_X14_findPayout_L10b (n : Nat) (c0 : Option Nat) (c1 : Int32) (rec : Int64 → Int32 → zWd → Option (Int64 × zWd)) (v2 : Int64) (v4 : Int32) (w : zWd) : Option (Int64 × zWd) :=
  (gA w 13 17 c0).bind fun x3 =>
  (gA w 0 14 x3).bind fun x4 =>
  zB2 (zV (isC w 18 x4) (f_J2_size n x4 w)) fun x6 w5 =>
  if x6 ≤ v4 then
    some (v2, w5)
  else
    (gA w5 13 17 c0).bind fun x7 =>
    (gA w5 0 14 x7).bind fun x8 =>
    zB2 (zV (isC w5 18 x8) (f_J2_get n x8 v4 w5)) fun x10 w9 =>
    (cK w9 [14] x10).bind fun _ =>
    (gI w9 14 0 x10).bind fun x11 =>
    (gA w9 13 15 c0).bind fun x12 =>
    (sL w9 x12 ((c1 * (6 : Int32)) + x11) (0 : Int64)).bind fun w13 =>
    (gI w13 14 1 x10).bind fun x14 =>
    (gI w13 13 0 c0).bind fun x15 =>
    zB2 (
      if x14 = x15 then
        (gI w13 14 2 x10).bind fun x16 =>
        if c1 < x16 then
          some (v2, w13)
        else
          (gA w13 13 13 c0).bind fun x17 =>
          (aL w13 x17 c1).bind fun x18 =>
          (gI w13 14 5 x10).bind fun x19 =>
          zB2 (f_J7_floorDiv n (x18 * (Int32.toInt64 x19)) (1000 : Int64) w13) fun x21 w20 =>
          (gI w20 14 4 x10).bind fun x22 =>
          (gI w20 14 0 x10).bind fun x23 =>
          zB2 (zV (isC w20 13 c0) (f_X14_takenBefore n c0 x23 c1 w20)) fun x25 w24 =>
          zB2 (f_J7_min_2 n ((Int32.toInt64 x22) - x25) x21 w24) fun x27 w26 =>
          (gI w26 14 6 x10).bind fun x28 =>
          zB2 (f_J7_min_2 n x27 (v2 - (Int32.toInt64 x28)) w26) fun x30 w29 =>
          (gA w29 13 15 c0).bind fun x31 =>
          zB2 (f_J7_max_2 n (0 : Int64) x30 w29) fun x33 w32 =>
          (sL w32 x31 ((c1 * (6 : Int32)) + x11) x33).bind fun w34 =>
          (gA w34 13 15 c0).bind fun x35 =>
          (aL w34 x35 ((c1 * (6 : Int32)) + x11)).bind fun x36 =>
          some ((v2 - x36), w34)
      else
        some (v2, w13)
      ) fun x37 w38 =>
    rec x37 (v4 + (1)) w38
def f_X14_findPayout_L10 (n : Nat) (c0 : Option Nat) (c1 : Int32) : Nat → Int64 → Int32 → zWd → Option (Int64 × zWd)
  | 0, _, _, _ => none
  | k + 1, v2, v4, w => f_X14_findPayout_L10b n c0 c1 (f_X14_findPayout_L10 n c0 c1 k) v2 v4 w
def f_X14_findPayout_L178b (n : Nat) (c0 : Option Nat) (c1 : Int32) (c2 : Int64) (rec : Int64 → Int32 → zWd → Option (Int64 × zWd)) (v4 : Int64) (v6 : Int32) (w : zWd) : Option (Int64 × zWd) :=
  (gA w 13 17 c0).bind fun x41 =>
  (gA w 0 15 x41).bind fun x42 =>
  zB2 (zV (isC w 18 x42) (f_J2_size n x42 w)) fun x44 w43 =>
  if x44 ≤ v6 then
    some (v4, w43)
  else
    (gA w43 13 17 c0).bind fun x45 =>
    (gA w43 0 15 x45).bind fun x46 =>
    zB2 (zV (isC w43 18 x46) (f_J2_get n x46 v6 w43)) fun x48 w47 =>
    (cK w47 [16] x48).bind fun _ =>
    zB2 (zV (isC w47 16 x48) (f_X17_person n x48 w47)) fun x50 w49 =>
    (gI w49 13 0 c0).bind fun x51 =>
    zB2 (
      if x50 = x51 then
        zB2 (zV (isC w49 16 x48) (f_X17_month n x48 w49)) fun x53 w52 =>
        if c1 < x53 then
          some ((0 : Int64), w52)
        else
          zB2 (zV (isC w52 16 x48) (f_X17_cents n x48 w52)) fun x55 w54 =>
          some ((Int32.toInt64 x55), w54)
      else
        some ((0 : Int64), w49)
      ) fun x56 w57 =>
    rec (v4 + x56) (v6 + (1)) w57
def f_X14_findPayout_L178 (n : Nat) (c0 : Option Nat) (c1 : Int32) (c2 : Int64) : Nat → Int64 → Int32 → zWd → Option (Int64 × zWd)
  | 0, _, _, _ => none
  | k + 1, v4, v6, w => f_X14_findPayout_L178b n c0 c1 c2 (f_X14_findPayout_L178 n c0 c1 c2 k) v4 v6 w
def f_X14_findPayout_L259b (n : Nat) (c0 : Option Nat) (c1 : Int32) (c2 : Int64) (w : zWd) (rec : Int64 → Int32 → Option (Int64)) (v4 : Int64) (v6 : Int32) : Option (Int64) :=
  if c1 ≤ v6 then
    some v4
  else
    (gA w 13 16 c0).bind fun x60 =>
    (aL w x60 v6).bind fun x61 =>
    rec (v4 - x61) (v6 + (1))
def f_X14_findPayout_L259 (n : Nat) (c0 : Option Nat) (c1 : Int32) (c2 : Int64) (w : zWd) : Nat → Int64 → Int32 → Option (Int64)
  | 0, _, _ => none
  | k + 1, v4, v6 => f_X14_findPayout_L259b n c0 c1 c2 w (f_X14_findPayout_L259 n c0 c1 c2 w k) v4 v6
def f_X14_findPayout (n : Nat) (a0 : Option Nat) (a1 : Int32) (w : zWd) : Option zWd :=
  (gA w 13 13 a0).bind fun x1 =>
  (aL w x1 a1).bind fun x2 =>
  zB2 (f_X14_findPayout_L10 n a0 a1 n x2 (0 : Int32) w) fun x39 w40 =>
  zB2 (f_X14_findPayout_L178 n a0 a1 x39 n (0 : Int64) (0 : Int32) w40) fun x58 w59 =>
  (f_X14_findPayout_L259 n a0 a1 x39 w59 n x58 (0 : Int32)).bind fun x62 =>
  (gA w59 13 16 a0).bind fun x63 =>
  zB2 (f_J7_min_2 n x62 x39 w59) fun x65 w64 =>
  zB2 (f_J7_max_2 n (0 : Int64) x65 w64) fun x67 w66 =>
  (sL w66 x63 a1 x67).bind fun w68 =>
  (gA w68 13 14 a0).bind fun x69 =>
  (gA w68 13 16 a0).bind fun x70 =>
  (aL w68 x70 a1).bind fun x71 =>
  (sL w68 x69 a1 (x39 - x71)).bind fun w72 =>
  some w72
theorem mt_X14_findPayout : zMt yX14_findPayout cX14_findPayout 11 none 1 := ⟨q1933, q111, ⟨by decide, by decide⟩, by decide +kernel, by decide⟩
set_option maxHeartbeats 4000000 in
theorem lp_X14_findPayout_L10 {X : zX} (hX : zGd X RX14 cX14_findPayout 11 none 4) (n : Nat) (c0 : Option Nat) (c1 : Int32) : ∀ (k : Nat) (v2 : Int64) (v4 : Int32) (w : zWd) (o2 : Int64) (w9 : zWd) , f_X14_findPayout_L10 n c0 c1 k v2 v4 w = some (o2, w9) → zJ X 172 [some (vA c0), some (vI c1), some (vL o2), none, none, none, none, none, none, none, none] [] w9 → zJ X 10 [some (vA c0), some (vI c1), some (vL v2), none, some (vI v4), none, none, none, none, none, none] [] w := by
  intro k
  induction k with
  | zero => intro v2 v4 w o2 w9 hf _; exact nomatch (show (none : Option (Int64 × zWd)) = _ from hf)
  | succ k ih =>
    intro v2 v4 w o2 w9 hf kx
    have hf : f_X14_findPayout_L10b n c0 c1 (f_X14_findPayout_L10 n c0 c1 k) v2 v4 w = _ := hf
    unfold f_X14_findPayout_L10b at hf
    refine j_iload (pc := 10) hX dX14_findPayout_10 rfl ?_
    refine j_aload_n (pc := 12) hX dX14_findPayout_12 rfl ?_
    refine j_getA (pc := 13) hX kX14 (k := 17) (Nat.le_of_ble_eq_true rfl) q1978 (Or.inl rfl) dX14_findPayout_13 hf (fun x3 hx_ hf => ?_)
    refine j_getAN (pc := 16) hX kX1 (k := 14) (Nat.le_of_ble_eq_true rfl) q355 rfl dX14_findPayout_16 hf (fun x4 hx_ hf => ?_)
    obtain ⟨x6, w5, hc_, hf⟩ := zB2_e hf
    obtain ⟨hi_, hc_⟩ := zV_e hc_
    refine j_callF (pc := 19) hX (ci := 18) mt_J2_size q1593 q418 q416 (by decide +kernel) rfl hi_ ⟨_, rfl, rfl⟩ [] rfl rfl (Nat.le_of_ble_eq_true rfl) (by decide) dX14_findPayout_19 (k_J2_size _ _ hc_) ?_
    refine j_icmp_ge (pc := 24) hX 172 dX14_findPayout_24 rfl hf (fun h_ hf => ?_) (fun h_ hf => ?_)
    · refine j_fg [4] [some (vA c0), some (vI c1), some (vL v2), none, none, none, none, none, none, none, none] rfl ?_
      cases hf
      exact kx
    · refine j_aload_n (pc := 27) hX dX14_findPayout_27 rfl ?_
      refine j_getA (pc := 28) hX kX14 (k := 17) (Nat.le_of_ble_eq_true rfl) q1978 (Or.inl rfl) dX14_findPayout_28 hf (fun x7 hx_ hf => ?_)
      refine j_getAN (pc := 31) hX kX1 (k := 14) (Nat.le_of_ble_eq_true rfl) q355 rfl dX14_findPayout_31 hf (fun x8 hx_ hf => ?_)
      refine j_iload (pc := 34) hX dX14_findPayout_34 rfl ?_
      obtain ⟨x10, w9, hc_, hf⟩ := zB2_e hf
      obtain ⟨hi_, hc_⟩ := zV_e hc_
      refine j_callF (pc := 36) hX (ci := 18) mt_J2_get q1595 q970 q968 (by decide +kernel) rfl hi_ ⟨_, rfl, rfl⟩ [vI v4] rfl rfl (Nat.le_of_ble_eq_true rfl) (by decide) dX14_findPayout_36 (k_J2_get _ _ hc_) ?_
      refine j_cast (pc := 41) hX q1934 [14] (zC1 ⟨_, rfl, Or.inl rfl⟩) dX14_findPayout_41 hf (fun hf => ?_)
      refine j_astore (pc := 44) hX dX14_findPayout_44 (by decide) [some (vA c0), some (vI c1), some (vL v2), none, some (vI v4), some (vA x10), none, none, none, none, none] rfl ?_
      refine j_iload_n (pc := 46) hX dX14_findPayout_46 rfl ?_
      refine j_bipush (pc := 47) hX (6 : Int32) dX14_findPayout_47 (by decide +kernel) ?_
      refine j_imul (pc := 49) hX dX14_findPayout_49 ?_
      refine j_aload (pc := 50) hX dX14_findPayout_50 rfl ?_
      refine j_getIN (pc := 52) hX kX15 (k := 0) (Nat.le_of_ble_eq_true rfl) q2069 rfl dX14_findPayout_52 hf (fun x11 hx_ hf => ?_)
      refine j_iadd (pc := 55) hX dX14_findPayout_55 ?_
      refine j_istore (pc := 56) hX dX14_findPayout_56 (by decide) [some (vA c0), some (vI c1), some (vL v2), none, some (vI v4), some (vA x10), some (vI ((c1 * (6 : Int32)) + x11)), none, none, none, none] rfl ?_
      refine j_aload_n (pc := 58) hX dX14_findPayout_58 rfl ?_
      refine j_getA (pc := 59) hX kX14 (k := 15) (Nat.le_of_ble_eq_true rfl) q1976 (Or.inl rfl) dX14_findPayout_59 hf (fun x12 hx_ hf => ?_)
      refine j_iload (pc := 62) hX dX14_findPayout_62 rfl ?_
      refine j_lconst (pc := 64) hX (0 : Int64) dX14_findPayout_64 rfl ?_
      refine j_lastore (pc := 65) hX dX14_findPayout_65 hf (fun w13 hf => ?_)
      refine j_aload (pc := 66) hX dX14_findPayout_66 rfl ?_
      refine j_getIN (pc := 68) hX kX15 (k := 1) (Nat.le_of_ble_eq_true rfl) q2072 rfl dX14_findPayout_68 hf (fun x14 hx_ hf => ?_)
      refine j_aload_n (pc := 71) hX dX14_findPayout_71 rfl ?_
      refine j_getI (pc := 72) hX kX14 (k := 0) (Nat.le_of_ble_eq_true rfl) q1953 (Or.inl rfl) dX14_findPayout_72 hf (fun x15 hx_ hf => ?_)
      obtain ⟨x37, w38, hm_, hf⟩ := zB2_e hf
      have kj75 : zJ X 166 [some (vA c0), some (vI c1), some (vL x37), none, some (vI v4), none, none, none, none, none, none] [] w38 := by
        clear hm_
        refine j_iinc (pc := 166) hX (1) dX14_findPayout_166 rfl rfl (by decide) [some (vA c0), some (vI c1), some (vL x37), none, some (vI (v4 + (1))), none, none, none, none, none, none] rfl ?_
        refine j_goto (pc := 169) hX 10 dX14_findPayout_169 rfl ?_
        exact ih _ _ _ _ _ hf kx
      have hf := hm_
      refine j_icmp_ne (pc := 75) hX 166 dX14_findPayout_75 rfl hf (fun h_ hf => ?_) (fun h_ hf => ?_)
      · refine j_fg [5, 6] [some (vA c0), some (vI c1), some (vL v2), none, some (vI v4), none, none, none, none, none, none] rfl ?_
        cases hf
        exact kj75
      · refine j_iload_n (pc := 78) hX dX14_findPayout_78 rfl ?_
        refine j_aload (pc := 79) hX dX14_findPayout_79 rfl ?_
        refine j_getIN (pc := 81) hX kX15 (k := 2) (Nat.le_of_ble_eq_true rfl) q2075 rfl dX14_findPayout_81 hf (fun x16 hx_ hf => ?_)
        refine j_icmp_lt (pc := 84) hX 166 dX14_findPayout_84 rfl hf (fun h_ hf => ?_) (fun h_ hf => ?_)
        · refine j_fg [5, 6] [some (vA c0), some (vI c1), some (vL v2), none, some (vI v4), none, none, none, none, none, none] rfl ?_
          cases hf
          exact kj75
        · refine j_aload_n (pc := 87) hX dX14_findPayout_87 rfl ?_
          refine j_getA (pc := 88) hX kX14 (k := 13) (Nat.le_of_ble_eq_true rfl) q1972 (Or.inl rfl) dX14_findPayout_88 hf (fun x17 hx_ hf => ?_)
          refine j_iload_n (pc := 91) hX dX14_findPayout_91 rfl ?_
          refine j_laload (pc := 92) hX dX14_findPayout_92 hf (fun x18 hx_ hf => ?_)
          refine j_aload (pc := 93) hX dX14_findPayout_93 rfl ?_
          refine j_getIN (pc := 95) hX kX15 (k := 5) (Nat.le_of_ble_eq_true rfl) q2081 rfl dX14_findPayout_95 hf (fun x19 hx_ hf => ?_)
          refine j_i2l (pc := 98) hX dX14_findPayout_98 ?_
          refine j_lmul (pc := 99) hX dX14_findPayout_99 ?_
          refine j_ldc2 (pc := 100) hX q1921 dX14_findPayout_100 ?_
          obtain ⟨x21, w20, hc_, hf⟩ := zB2_e hf
          refine j_callS (pc := 103) hX mt_J7_floorDiv q1935 q1190 [vL (x18 * (Int32.toInt64 x19)), vL (1000 : Int64)] rfl rfl (Nat.le_of_ble_eq_true rfl) (by decide) dX14_findPayout_103 (k_J7_floorDiv _ _ hc_) ?_
          refine j_lstore (pc := 106) hX dX14_findPayout_106 (by decide) [some (vA c0), some (vI c1), some (vL v2), none, some (vI v4), some (vA x10), some (vI ((c1 * (6 : Int32)) + x11)), some (vL x21), none, none, none] rfl ?_
          refine j_aload (pc := 108) hX dX14_findPayout_108 rfl ?_
          refine j_getIN (pc := 110) hX kX15 (k := 4) (Nat.le_of_ble_eq_true rfl) q2079 rfl dX14_findPayout_110 hf (fun x22 hx_ hf => ?_)
          refine j_i2l (pc := 113) hX dX14_findPayout_113 ?_
          refine j_aload_n (pc := 114) hX dX14_findPayout_114 rfl ?_
          refine j_aload (pc := 115) hX dX14_findPayout_115 rfl ?_
          refine j_getIN (pc := 117) hX kX15 (k := 0) (Nat.le_of_ble_eq_true rfl) q2069 rfl dX14_findPayout_117 hf (fun x23 hx_ hf => ?_)
          refine j_iload_n (pc := 120) hX dX14_findPayout_120 rfl ?_
          obtain ⟨x25, w24, hc_, hf⟩ := zB2_e hf
          obtain ⟨hi_, hc_⟩ := zV_e hc_
          refine j_callV (pc := 121) hX (ci := 13) mt_X14_takenBefore q1936 q1938 qs24 hi_ ⟨_, rfl, rfl⟩ [vI x23, vI c1] rfl rfl (Nat.le_of_ble_eq_true rfl) (by decide) dX14_findPayout_121 (k_X14_takenBefore _ _ hc_) ?_
          refine j_lsub (pc := 124) hX dX14_findPayout_124 ?_
          refine j_lload (pc := 125) hX dX14_findPayout_125 rfl ?_
          obtain ⟨x27, w26, hc_, hf⟩ := zB2_e hf
          refine j_callS (pc := 127) hX mt_J7_min_2 q1915 q1098 [vL ((Int32.toInt64 x22) - x25), vL x21] rfl rfl (Nat.le_of_ble_eq_true rfl) (by decide) dX14_findPayout_127 (k_J7_min_2 _ _ hc_) ?_
          refine j_lload_n (pc := 130) hX dX14_findPayout_130 rfl ?_
          refine j_aload (pc := 131) hX dX14_findPayout_131 rfl ?_
          refine j_getIN (pc := 133) hX kX15 (k := 6) (Nat.le_of_ble_eq_true rfl) q2083 rfl dX14_findPayout_133 hf (fun x28 hx_ hf => ?_)
          refine j_i2l (pc := 136) hX dX14_findPayout_136 ?_
          refine j_lsub (pc := 137) hX dX14_findPayout_137 ?_
          obtain ⟨x30, w29, hc_, hf⟩ := zB2_e hf
          refine j_callS (pc := 138) hX mt_J7_min_2 q1915 q1098 [vL x27, vL (v2 - (Int32.toInt64 x28))] rfl rfl (Nat.le_of_ble_eq_true rfl) (by decide) dX14_findPayout_138 (k_J7_min_2 _ _ hc_) ?_
          refine j_lstore (pc := 141) hX dX14_findPayout_141 (by decide) [some (vA c0), some (vI c1), some (vL v2), none, some (vI v4), some (vA x10), some (vI ((c1 * (6 : Int32)) + x11)), some (vL x21), none, some (vL x30), none] rfl ?_
          refine j_aload_n (pc := 143) hX dX14_findPayout_143 rfl ?_
          refine j_getA (pc := 144) hX kX14 (k := 15) (Nat.le_of_ble_eq_true rfl) q1976 (Or.inl rfl) dX14_findPayout_144 hf (fun x31 hx_ hf => ?_)
          refine j_iload (pc := 147) hX dX14_findPayout_147 rfl ?_
          refine j_lconst (pc := 149) hX (0 : Int64) dX14_findPayout_149 rfl ?_
          refine j_lload (pc := 150) hX dX14_findPayout_150 rfl ?_
          obtain ⟨x33, w32, hc_, hf⟩ := zB2_e hf
          refine j_callS (pc := 152) hX mt_J7_max_2 q1916 q1095 [vL (0 : Int64), vL x30] rfl rfl (Nat.le_of_ble_eq_true rfl) (by decide) dX14_findPayout_152 (k_J7_max_2 _ _ hc_) ?_
          refine j_lastore (pc := 155) hX dX14_findPayout_155 hf (fun w34 hf => ?_)
          refine j_lload_n (pc := 156) hX dX14_findPayout_156 rfl ?_
          refine j_aload_n (pc := 157) hX dX14_findPayout_157 rfl ?_
          refine j_getA (pc := 158) hX kX14 (k := 15) (Nat.le_of_ble_eq_true rfl) q1976 (Or.inl rfl) dX14_findPayout_158 hf (fun x35 hx_ hf => ?_)
          refine j_iload (pc := 161) hX dX14_findPayout_161 rfl ?_
          refine j_laload (pc := 163) hX dX14_findPayout_163 hf (fun x36 hx_ hf => ?_)
          refine j_lsub (pc := 164) hX dX14_findPayout_164 ?_
          refine j_lstore_n (pc := 165) hX dX14_findPayout_165 (by decide) [some (vA c0), some (vI c1), some (vL (v2 - x36)), none, some (vI v4), some (vA x10), some (vI ((c1 * (6 : Int32)) + x11)), some (vL x21), none, some (vL x30), none] rfl ?_
          refine j_fg [5, 6, 7, 9] [some (vA c0), some (vI c1), some (vL (v2 - x36)), none, some (vI v4), none, none, none, none, none, none] rfl ?_
          cases hf
          exact kj75
set_option maxHeartbeats 4000000 in
theorem lp_X14_findPayout_L178 {X : zX} (hX : zGd X RX14 cX14_findPayout 11 none 4) (n : Nat) (c0 : Option Nat) (c1 : Int32) (c2 : Int64) : ∀ (k : Nat) (v4 : Int64) (v6 : Int32) (w : zWd) (o4 : Int64) (w9 : zWd) , f_X14_findPayout_L178 n c0 c1 c2 k v4 v6 w = some (o4, w9) → zJ X 256 [some (vA c0), some (vI c1), some (vL c2), none, some (vL o4), none, none, none, none, none, none] [] w9 → zJ X 178 [some (vA c0), some (vI c1), some (vL c2), none, some (vL v4), none, some (vI v6), none, none, none, none] [] w := by
  intro k
  induction k with
  | zero => intro v4 v6 w o4 w9 hf _; exact nomatch (show (none : Option (Int64 × zWd)) = _ from hf)
  | succ k ih =>
    intro v4 v6 w o4 w9 hf kx
    have hf : f_X14_findPayout_L178b n c0 c1 c2 (f_X14_findPayout_L178 n c0 c1 c2 k) v4 v6 w = _ := hf
    unfold f_X14_findPayout_L178b at hf
    refine j_iload (pc := 178) hX dX14_findPayout_178 rfl ?_
    refine j_aload_n (pc := 180) hX dX14_findPayout_180 rfl ?_
    refine j_getA (pc := 181) hX kX14 (k := 17) (Nat.le_of_ble_eq_true rfl) q1978 (Or.inl rfl) dX14_findPayout_181 hf (fun x41 hx_ hf => ?_)
    refine j_getAN (pc := 184) hX kX1 (k := 15) (Nat.le_of_ble_eq_true rfl) q358 rfl dX14_findPayout_184 hf (fun x42 hx_ hf => ?_)
    obtain ⟨x44, w43, hc_, hf⟩ := zB2_e hf
    obtain ⟨hi_, hc_⟩ := zV_e hc_
    refine j_callF (pc := 187) hX (ci := 18) mt_J2_size q1593 q418 q416 (by decide +kernel) rfl hi_ ⟨_, rfl, rfl⟩ [] rfl rfl (Nat.le_of_ble_eq_true rfl) (by decide) dX14_findPayout_187 (k_J2_size _ _ hc_) ?_
    refine j_icmp_ge (pc := 192) hX 256 dX14_findPayout_192 rfl hf (fun h_ hf => ?_) (fun h_ hf => ?_)
    · refine j_fg [6] [some (vA c0), some (vI c1), some (vL c2), none, some (vL v4), none, none, none, none, none, none] rfl ?_
      cases hf
      exact kx
    · refine j_aload_n (pc := 195) hX dX14_findPayout_195 rfl ?_
      refine j_getA (pc := 196) hX kX14 (k := 17) (Nat.le_of_ble_eq_true rfl) q1978 (Or.inl rfl) dX14_findPayout_196 hf (fun x45 hx_ hf => ?_)
      refine j_getAN (pc := 199) hX kX1 (k := 15) (Nat.le_of_ble_eq_true rfl) q358 rfl dX14_findPayout_199 hf (fun x46 hx_ hf => ?_)
      refine j_iload (pc := 202) hX dX14_findPayout_202 rfl ?_
      obtain ⟨x48, w47, hc_, hf⟩ := zB2_e hf
      obtain ⟨hi_, hc_⟩ := zV_e hc_
      refine j_callF (pc := 204) hX (ci := 18) mt_J2_get q1595 q970 q968 (by decide +kernel) rfl hi_ ⟨_, rfl, rfl⟩ [vI v6] rfl rfl (Nat.le_of_ble_eq_true rfl) (by decide) dX14_findPayout_204 (k_J2_get _ _ hc_) ?_
      refine j_cast (pc := 209) hX q1940 [16] (zC1 ⟨_, rfl, Or.inl rfl⟩) dX14_findPayout_209 hf (fun hf => ?_)
      refine j_astore (pc := 212) hX dX14_findPayout_212 (by decide) [some (vA c0), some (vI c1), some (vL c2), none, some (vL v4), none, some (vI v6), some (vA x48), none, none, none] rfl ?_
      refine j_lload (pc := 214) hX dX14_findPayout_214 rfl ?_
      refine j_aload (pc := 216) hX dX14_findPayout_216 rfl ?_
      obtain ⟨x50, w49, hc_, hf⟩ := zB2_e hf
      obtain ⟨hi_, hc_⟩ := zV_e hc_
      refine j_callV (pc := 218) hX (ci := 16) mt_X17_person q1941 q1942 q1943 hi_ ⟨_, rfl, rfl⟩ [] rfl rfl (Nat.le_of_ble_eq_true rfl) (by decide) dX14_findPayout_218 (k_X17_person _ _ hc_) ?_
      refine j_aload_n (pc := 221) hX dX14_findPayout_221 rfl ?_
      refine j_getI (pc := 222) hX kX14 (k := 0) (Nat.le_of_ble_eq_true rfl) q1953 (Or.inl rfl) dX14_findPayout_222 hf (fun x51 hx_ hf => ?_)
      obtain ⟨x56, w57, hm_, hf⟩ := zB2_e hf
      have kj225 : zJ X 247 [some (vA c0), some (vI c1), some (vL c2), none, none, none, some (vI v6), none, none, none, none] [vL x56, vL v4] w57 := by
        clear hm_
        refine j_ladd (pc := 247) hX dX14_findPayout_247 ?_
        refine j_lstore (pc := 248) hX dX14_findPayout_248 (by decide) [some (vA c0), some (vI c1), some (vL c2), none, some (vL (v4 + x56)), none, some (vI v6), none, none, none, none] rfl ?_
        refine j_iinc (pc := 250) hX (1) dX14_findPayout_250 rfl rfl (by decide) [some (vA c0), some (vI c1), some (vL c2), none, some (vL (v4 + x56)), none, some (vI (v6 + (1))), none, none, none, none] rfl ?_
        refine j_goto (pc := 253) hX 178 dX14_findPayout_253 rfl ?_
        exact ih _ _ _ _ _ hf kx
      have hf := hm_
      refine j_icmp_ne (pc := 225) hX 246 dX14_findPayout_225 rfl hf (fun h_ hf => ?_) (fun h_ hf => ?_)
      · refine j_lconst (pc := 246) hX (0 : Int64) dX14_findPayout_246 rfl ?_
        refine j_fg [4, 7] [some (vA c0), some (vI c1), some (vL c2), none, none, none, some (vI v6), none, none, none, none] rfl ?_
        cases hf
        exact kj225
      · refine j_aload (pc := 228) hX dX14_findPayout_228 rfl ?_
        obtain ⟨x53, w52, hc_, hf⟩ := zB2_e hf
        obtain ⟨hi_, hc_⟩ := zV_e hc_
        refine j_callV (pc := 230) hX (ci := 16) mt_X17_month q1945 q1946 q1947 hi_ ⟨_, rfl, rfl⟩ [] rfl rfl (Nat.le_of_ble_eq_true rfl) (by decide) dX14_findPayout_230 (k_X17_month _ _ hc_) ?_
        refine j_iload_n (pc := 233) hX dX14_findPayout_233 rfl ?_
        refine j_icmp_gt (pc := 234) hX 246 dX14_findPayout_234 rfl hf (fun h_ hf => ?_) (fun h_ hf => ?_)
        · refine j_lconst (pc := 246) hX (0 : Int64) dX14_findPayout_246 rfl ?_
          refine j_fg [4, 7] [some (vA c0), some (vI c1), some (vL c2), none, none, none, some (vI v6), none, none, none, none] rfl ?_
          cases hf
          exact kj225
        · refine j_aload (pc := 237) hX dX14_findPayout_237 rfl ?_
          obtain ⟨x55, w54, hc_, hf⟩ := zB2_e hf
          obtain ⟨hi_, hc_⟩ := zV_e hc_
          refine j_callV (pc := 239) hX (ci := 16) mt_X17_cents q1949 q1950 q1951 hi_ ⟨_, rfl, rfl⟩ [] rfl rfl (Nat.le_of_ble_eq_true rfl) (by decide) dX14_findPayout_239 (k_X17_cents _ _ hc_) ?_
          refine j_i2l (pc := 242) hX dX14_findPayout_242 ?_
          refine j_goto (pc := 243) hX 247 dX14_findPayout_243 rfl ?_
          refine j_fg [4, 7] [some (vA c0), some (vI c1), some (vL c2), none, none, none, some (vI v6), none, none, none, none] rfl ?_
          cases hf
          exact kj225
set_option maxHeartbeats 4000000 in
theorem lp_X14_findPayout_L259 {X : zX} (hX : zGd X RX14 cX14_findPayout 11 none 4) (n : Nat) (c0 : Option Nat) (c1 : Int32) (c2 : Int64) (w : zWd) : ∀ (k : Nat) (v4 : Int64) (v6 : Int32) (o4 : Int64) , f_X14_findPayout_L259 n c0 c1 c2 w k v4 v6 = some o4 → zJ X 283 [some (vA c0), some (vI c1), some (vL c2), none, some (vL o4), none, none, none, none, none, none] [] w → zJ X 259 [some (vA c0), some (vI c1), some (vL c2), none, some (vL v4), none, some (vI v6), none, none, none, none] [] w := by
  intro k
  induction k with
  | zero => intro v4 v6 o4 hf _; exact nomatch (show (none : Option (Int64)) = _ from hf)
  | succ k ih =>
    intro v4 v6 o4 hf kx
    have hf : f_X14_findPayout_L259b n c0 c1 c2 w (f_X14_findPayout_L259 n c0 c1 c2 w k) v4 v6 = _ := hf
    unfold f_X14_findPayout_L259b at hf
    refine j_iload (pc := 259) hX dX14_findPayout_259 rfl ?_
    refine j_iload_n (pc := 261) hX dX14_findPayout_261 rfl ?_
    refine j_icmp_ge (pc := 262) hX 283 dX14_findPayout_262 rfl hf (fun h_ hf => ?_) (fun h_ hf => ?_)
    · refine j_fg [6] [some (vA c0), some (vI c1), some (vL c2), none, some (vL v4), none, none, none, none, none, none] rfl ?_
      cases hf
      exact kx
    · refine j_lload (pc := 265) hX dX14_findPayout_265 rfl ?_
      refine j_aload_n (pc := 267) hX dX14_findPayout_267 rfl ?_
      refine j_getA (pc := 268) hX kX14 (k := 16) (Nat.le_of_ble_eq_true rfl) q1977 (Or.inl rfl) dX14_findPayout_268 hf (fun x60 hx_ hf => ?_)
      refine j_iload (pc := 271) hX dX14_findPayout_271 rfl ?_
      refine j_laload (pc := 273) hX dX14_findPayout_273 hf (fun x61 hx_ hf => ?_)
      refine j_lsub (pc := 274) hX dX14_findPayout_274 ?_
      refine j_lstore (pc := 275) hX dX14_findPayout_275 (by decide) [some (vA c0), some (vI c1), some (vL c2), none, some (vL (v4 - x61)), none, some (vI v6), none, none, none, none] rfl ?_
      refine j_iinc (pc := 277) hX (1) dX14_findPayout_277 rfl rfl (by decide) [some (vA c0), some (vI c1), some (vL c2), none, some (vL (v4 - x61)), none, some (vI (v6 + (1))), none, none, none, none] rfl ?_
      refine j_goto (pc := 280) hX 259 dX14_findPayout_280 rfl ?_
      exact ih _ _ _ hf kx
set_option maxHeartbeats 4000000 in
theorem k_X14_findPayout {l : Launch} {n : Nat} {a0 : Option Nat} {a1 : Int32} {w : zWd} (r : Unit) (w9 : zWd) (hf : f_X14_findPayout n a0 a1 w = some w9) : zCt l yX14_findPayout cX14_findPayout 11 none 4 [vA a0, vI a1] w (.inr (none, w9)) := by
  refine zCt_of (lv := [some (vA a0), some (vI a1), none, none, none, none, none, none, none, none, none]) (by decide +kernel) 9 rfl rfl ?_
  intro X hX hI hN hQ
  have hX : zGd X RX14 cX14_findPayout 11 none 4 := hX
  unfold f_X14_findPayout at hf
  refine j_aload_n (pc := 0) hX dX14_findPayout_0 rfl ?_
  refine j_getA (pc := 1) hX kX14 (k := 13) (Nat.le_of_ble_eq_true rfl) q1972 (Or.inl rfl) dX14_findPayout_1 hf (fun x1 hx_ hf => ?_)
  refine j_iload_n (pc := 4) hX dX14_findPayout_4 rfl ?_
  refine j_laload (pc := 5) hX dX14_findPayout_5 hf (fun x2 hx_ hf => ?_)
  refine j_lstore_n (pc := 6) hX dX14_findPayout_6 (by decide) [some (vA a0), some (vI a1), some (vL x2), none, none, none, none, none, none, none, none] rfl ?_
  refine j_iconst (pc := 7) hX (0 : Int32) dX14_findPayout_7 rfl ?_
  refine j_istore (pc := 8) hX dX14_findPayout_8 (by decide) [some (vA a0), some (vI a1), some (vL x2), none, some (vI (0 : Int32)), none, none, none, none, none, none] rfl ?_
  obtain ⟨x39, w40, hm_, hf⟩ := zB2_e hf
  refine lp_X14_findPayout_L10 hX n _ _ _ _ _ _ _ _ hm_ ?_
  refine j_lconst (pc := 172) hX (0 : Int64) dX14_findPayout_172 rfl ?_
  refine j_lstore (pc := 173) hX dX14_findPayout_173 (by decide) [some (vA a0), some (vI a1), some (vL x39), none, some (vL (0 : Int64)), none, none, none, none, none, none] rfl ?_
  refine j_iconst (pc := 175) hX (0 : Int32) dX14_findPayout_175 rfl ?_
  refine j_istore (pc := 176) hX dX14_findPayout_176 (by decide) [some (vA a0), some (vI a1), some (vL x39), none, some (vL (0 : Int64)), none, some (vI (0 : Int32)), none, none, none, none] rfl ?_
  obtain ⟨x58, w59, hm_, hf⟩ := zB2_e hf
  refine lp_X14_findPayout_L178 hX n _ _ _ _ _ _ _ _ _ hm_ ?_
  refine j_iconst (pc := 256) hX (0 : Int32) dX14_findPayout_256 rfl ?_
  refine j_istore (pc := 257) hX dX14_findPayout_257 (by decide) [some (vA a0), some (vI a1), some (vL x39), none, some (vL x58), none, some (vI (0 : Int32)), none, none, none, none] rfl ?_
  obtain ⟨x62, hm_, hf⟩ := zob hf
  refine lp_X14_findPayout_L259 hX n _ _ _ _ _ _ _ _ hm_ ?_
  refine j_aload_n (pc := 283) hX dX14_findPayout_283 rfl ?_
  refine j_getA (pc := 284) hX kX14 (k := 16) (Nat.le_of_ble_eq_true rfl) q1977 (Or.inl rfl) dX14_findPayout_284 hf (fun x63 hx_ hf => ?_)
  refine j_iload_n (pc := 287) hX dX14_findPayout_287 rfl ?_
  refine j_lconst (pc := 288) hX (0 : Int64) dX14_findPayout_288 rfl ?_
  refine j_lload (pc := 289) hX dX14_findPayout_289 rfl ?_
  refine j_lload_n (pc := 291) hX dX14_findPayout_291 rfl ?_
  obtain ⟨x65, w64, hc_, hf⟩ := zB2_e hf
  refine j_callS (pc := 292) hX mt_J7_min_2 q1915 q1098 [vL x62, vL x39] rfl rfl (Nat.le_of_ble_eq_true rfl) (by decide) dX14_findPayout_292 (k_J7_min_2 _ _ hc_) ?_
  obtain ⟨x67, w66, hc_, hf⟩ := zB2_e hf
  refine j_callS (pc := 295) hX mt_J7_max_2 q1916 q1095 [vL (0 : Int64), vL x65] rfl rfl (Nat.le_of_ble_eq_true rfl) (by decide) dX14_findPayout_295 (k_J7_max_2 _ _ hc_) ?_
  refine j_lastore (pc := 298) hX dX14_findPayout_298 hf (fun w68 hf => ?_)
  refine j_aload_n (pc := 299) hX dX14_findPayout_299 rfl ?_
  refine j_getA (pc := 300) hX kX14 (k := 14) (Nat.le_of_ble_eq_true rfl) q1974 (Or.inl rfl) dX14_findPayout_300 hf (fun x69 hx_ hf => ?_)
  refine j_iload_n (pc := 303) hX dX14_findPayout_303 rfl ?_
  refine j_lload_n (pc := 304) hX dX14_findPayout_304 rfl ?_
  refine j_aload_n (pc := 305) hX dX14_findPayout_305 rfl ?_
  refine j_getA (pc := 306) hX kX14 (k := 16) (Nat.le_of_ble_eq_true rfl) q1977 (Or.inl rfl) dX14_findPayout_306 hf (fun x70 hx_ hf => ?_)
  refine j_iload_n (pc := 309) hX dX14_findPayout_309 rfl ?_
  refine j_laload (pc := 310) hX dX14_findPayout_310 hf (fun x71 hx_ hf => ?_)
  refine j_lsub (pc := 311) hX dX14_findPayout_311 ?_
  refine j_lastore (pc := 312) hX dX14_findPayout_312 hf (fun w72 hf => ?_)
  exact j_return (pc := 313) hX hQ (by cases hf; rfl) dX14_findPayout_313
def f_X14_go_L9b (n : Nat) (c0 : Option Nat) (c1 : Int32) (c2 : Int32) (rec : Int32 → zWd → Option (zWd)) (v3 : Int32) (w : zWd) : Option (zWd) :=
  if (3 : Int32) ≤ v3 then
    some w
  else
    if (c2 - c2 / (12 : Int32) * (12 : Int32)) = (0 : Int32) then
      (gA w 13 7 c0).bind fun x1 =>
      (sL w x1 v3 (0 : Int64)).bind fun w2 =>
      (gA w2 13 8 c0).bind fun x3 =>
      (sL w2 x3 v3 (0 : Int64)).bind fun w4 =>
      (gA w4 13 9 c0).bind fun x5 =>
      (sL w4 x5 v3 (0 : Int64)).bind fun w6 =>
      (gA w6 13 10 c0).bind fun x7 =>
      (sL w6 x7 v3 (0 : Int64)).bind fun w8 =>
      rec (v3 + (1)) w8
    else
      some w
def f_X14_go_L9 (n : Nat) (c0 : Option Nat) (c1 : Int32) (c2 : Int32) : Nat → Int32 → zWd → Option (zWd)
  | 0, _, _ => none
  | k + 1, v3, w => f_X14_go_L9b n c0 c1 c2 (f_X14_go_L9 n c0 c1 c2 k) v3 w
def f_X14_go_L2b (n : Nat) (c0 : Option Nat) (c1 : Int32) (rec : Int32 → zWd → Option (zWd)) (v2 : Int32) (w : zWd) : Option (zWd) :=
  if c1 ≤ v2 then
    some w
  else
    (f_X14_go_L9 n c0 c1 v2 n (0 : Int32) w).bind fun w9 =>
    (zV (isC w9 13 c0) (f_X14_findGross n c0 v2 w9)).bind fun w10 =>
    (zV (isC w10 13 c0) (f_X14_findTax n c0 v2 w10)).bind fun w11 =>
    (zV (isC w11 13 c0) (f_X14_findPayout n c0 v2 w11)).bind fun w12 =>
    rec (v2 + (1)) w12
def f_X14_go_L2 (n : Nat) (c0 : Option Nat) (c1 : Int32) : Nat → Int32 → zWd → Option (zWd)
  | 0, _, _ => none
  | k + 1, v2, w => f_X14_go_L2b n c0 c1 (f_X14_go_L2 n c0 c1 k) v2 w
def f_X14_go (n : Nat) (a0 : Option Nat) (a1 : Int32) (w : zWd) : Option zWd :=
  (f_X14_go_L2 n a0 a1 n (0 : Int32) w).bind fun w13 =>
  some w13
theorem mt_X14_go : zMt yX14_go cX14_go 4 none 1 := ⟨q1903, q111, ⟨by decide, by decide⟩, by decide +kernel, by decide⟩
set_option maxHeartbeats 4000000 in
theorem lp_X14_go_L9 {X : zX} (hX : zGd X RX14 cX14_go 4 none 10) (n : Nat) (c0 : Option Nat) (c1 : Int32) (c2 : Int32) : ∀ (k : Nat) (v3 : Int32) (w : zWd) (w9 : zWd) , f_X14_go_L9 n c0 c1 c2 k v3 w = some w9 → zJ X 55 [some (vA c0), some (vI c1), some (vI c2), none] [] w9 → zJ X 9 [some (vA c0), some (vI c1), some (vI c2), some (vI v3)] [] w := by
  intro k
  induction k with
  | zero => intro v3 w w9 hf _; exact nomatch (show (none : Option (zWd)) = _ from hf)
  | succ k ih =>
    intro v3 w w9 hf kx
    have hf : f_X14_go_L9b n c0 c1 c2 (f_X14_go_L9 n c0 c1 c2 k) v3 w = _ := hf
    unfold f_X14_go_L9b at hf
    refine j_iload_n (pc := 9) hX dX14_go_9 rfl ?_
    refine j_iconst (pc := 10) hX (3 : Int32) dX14_go_10 rfl ?_
    refine j_icmp_ge (pc := 11) hX 55 dX14_go_11 rfl hf (fun h_ hf => ?_) (fun h_ hf => ?_)
    · refine j_fg [3] [some (vA c0), some (vI c1), some (vI c2), none] rfl ?_
      cases hf
      exact kx
    · refine j_iload_n (pc := 14) hX dX14_go_14 rfl ?_
      refine j_bipush (pc := 15) hX (12 : Int32) dX14_go_15 (by decide +kernel) ?_
      refine j_irem (pc := 17) hX dX14_go_17 (by decide) ?_
      refine j_if_ne (pc := 18) hX 55 dX14_go_18 rfl hf (fun h_ hf => ?_) (fun h_ hf => ?_)
      · refine j_fg [3] [some (vA c0), some (vI c1), some (vI c2), none] rfl ?_
        cases hf
        exact kx
      · refine j_aload_n (pc := 21) hX dX14_go_21 rfl ?_
        refine j_getA (pc := 22) hX kX14 (k := 7) (Nat.le_of_ble_eq_true rfl) q1964 (Or.inl rfl) dX14_go_22 hf (fun x1 hx_ hf => ?_)
        refine j_iload_n (pc := 25) hX dX14_go_25 rfl ?_
        refine j_lconst (pc := 26) hX (0 : Int64) dX14_go_26 rfl ?_
        refine j_lastore (pc := 27) hX dX14_go_27 hf (fun w2 hf => ?_)
        refine j_aload_n (pc := 28) hX dX14_go_28 rfl ?_
        refine j_getA (pc := 29) hX kX14 (k := 8) (Nat.le_of_ble_eq_true rfl) q1965 (Or.inl rfl) dX14_go_29 hf (fun x3 hx_ hf => ?_)
        refine j_iload_n (pc := 32) hX dX14_go_32 rfl ?_
        refine j_lconst (pc := 33) hX (0 : Int64) dX14_go_33 rfl ?_
        refine j_lastore (pc := 34) hX dX14_go_34 hf (fun w4 hf => ?_)
        refine j_aload_n (pc := 35) hX dX14_go_35 rfl ?_
        refine j_getA (pc := 36) hX kX14 (k := 9) (Nat.le_of_ble_eq_true rfl) q1966 (Or.inl rfl) dX14_go_36 hf (fun x5 hx_ hf => ?_)
        refine j_iload_n (pc := 39) hX dX14_go_39 rfl ?_
        refine j_lconst (pc := 40) hX (0 : Int64) dX14_go_40 rfl ?_
        refine j_lastore (pc := 41) hX dX14_go_41 hf (fun w6 hf => ?_)
        refine j_aload_n (pc := 42) hX dX14_go_42 rfl ?_
        refine j_getA (pc := 43) hX kX14 (k := 10) (Nat.le_of_ble_eq_true rfl) q1967 (Or.inl rfl) dX14_go_43 hf (fun x7 hx_ hf => ?_)
        refine j_iload_n (pc := 46) hX dX14_go_46 rfl ?_
        refine j_lconst (pc := 47) hX (0 : Int64) dX14_go_47 rfl ?_
        refine j_lastore (pc := 48) hX dX14_go_48 hf (fun w8 hf => ?_)
        refine j_iinc (pc := 49) hX (1) dX14_go_49 rfl rfl (by decide) [some (vA c0), some (vI c1), some (vI c2), some (vI (v3 + (1)))] rfl ?_
        refine j_goto (pc := 52) hX 9 dX14_go_52 rfl ?_
        exact ih _ _ _ hf kx
set_option maxHeartbeats 4000000 in
theorem lp_X14_go_L2 {X : zX} (hX : zGd X RX14 cX14_go 4 none 10) (n : Nat) (c0 : Option Nat) (c1 : Int32) : ∀ (k : Nat) (v2 : Int32) (w : zWd) (w9 : zWd) , f_X14_go_L2 n c0 c1 k v2 w = some w9 → zJ X 76 [some (vA c0), some (vI c1), none, none] [] w9 → zJ X 2 [some (vA c0), some (vI c1), some (vI v2), none] [] w := by
  intro k
  induction k with
  | zero => intro v2 w w9 hf _; exact nomatch (show (none : Option (zWd)) = _ from hf)
  | succ k ih =>
    intro v2 w w9 hf kx
    have hf : f_X14_go_L2b n c0 c1 (f_X14_go_L2 n c0 c1 k) v2 w = _ := hf
    unfold f_X14_go_L2b at hf
    refine j_iload_n (pc := 2) hX dX14_go_2 rfl ?_
    refine j_iload_n (pc := 3) hX dX14_go_3 rfl ?_
    refine j_icmp_ge (pc := 4) hX 76 dX14_go_4 rfl hf (fun h_ hf => ?_) (fun h_ hf => ?_)
    · refine j_fg [2] [some (vA c0), some (vI c1), none, none] rfl ?_
      cases hf
      exact kx
    · refine j_iconst (pc := 7) hX (0 : Int32) dX14_go_7 rfl ?_
      refine j_istore_n (pc := 8) hX dX14_go_8 (by decide) [some (vA c0), some (vI c1), some (vI v2), some (vI (0 : Int32))] rfl ?_
      obtain ⟨w9, hm_, hf⟩ := zob hf
      refine lp_X14_go_L9 hX n _ _ _ _ _ _ _ hm_ ?_
      refine j_aload_n (pc := 55) hX dX14_go_55 rfl ?_
      refine j_iload_n (pc := 56) hX dX14_go_56 rfl ?_
      obtain ⟨w10, hc_, hf⟩ := zob hf
      obtain ⟨hi_, hc_⟩ := zV_e hc_
      refine j_callV (pc := 57) hX (ci := 13) mt_X14_findGross q1904 q1906 qs21 hi_ ⟨_, rfl, rfl⟩ [vI v2] rfl rfl (Nat.le_of_ble_eq_true rfl) (by decide) dX14_go_57 (k_X14_findGross () _ hc_) ?_
      refine j_aload_n (pc := 60) hX dX14_go_60 rfl ?_
      refine j_iload_n (pc := 61) hX dX14_go_61 rfl ?_
      obtain ⟨w11, hc_, hf⟩ := zob hf
      obtain ⟨hi_, hc_⟩ := zV_e hc_
      refine j_callV (pc := 62) hX (ci := 13) mt_X14_findTax q1924 q1926 qs22 hi_ ⟨_, rfl, rfl⟩ [vI v2] rfl rfl (Nat.le_of_ble_eq_true rfl) (by decide) dX14_go_62 (k_X14_findTax () _ hc_) ?_
      refine j_aload_n (pc := 65) hX dX14_go_65 rfl ?_
      refine j_iload_n (pc := 66) hX dX14_go_66 rfl ?_
      obtain ⟨w12, hc_, hf⟩ := zob hf
      obtain ⟨hi_, hc_⟩ := zV_e hc_
      refine j_callV (pc := 67) hX (ci := 13) mt_X14_findPayout q1930 q1932 qs23 hi_ ⟨_, rfl, rfl⟩ [vI v2] rfl rfl (Nat.le_of_ble_eq_true rfl) (by decide) dX14_go_67 (k_X14_findPayout () _ hc_) ?_
      refine j_iinc (pc := 70) hX (1) dX14_go_70 rfl rfl (by decide) [some (vA c0), some (vI c1), some (vI (v2 + (1))), none] rfl ?_
      refine j_goto (pc := 73) hX 2 dX14_go_73 rfl ?_
      exact ih _ _ _ hf kx
set_option maxHeartbeats 4000000 in
theorem k_X14_go {l : Launch} {n : Nat} {a0 : Option Nat} {a1 : Int32} {w : zWd} (r : Unit) (w9 : zWd) (hf : f_X14_go n a0 a1 w = some w9) : zCt l yX14_go cX14_go 4 none 10 [vA a0, vI a1] w (.inr (none, w9)) := by
  refine zCt_of (lv := [some (vA a0), some (vI a1), none, none]) (by decide +kernel) 2 rfl rfl ?_
  intro X hX hI hN hQ
  have hX : zGd X RX14 cX14_go 4 none 10 := hX
  unfold f_X14_go at hf
  refine j_iconst (pc := 0) hX (0 : Int32) dX14_go_0 rfl ?_
  refine j_istore_n (pc := 1) hX dX14_go_1 (by decide) [some (vA a0), some (vI a1), some (vI (0 : Int32)), none] rfl ?_
  obtain ⟨w13, hm_, hf⟩ := zob hf
  refine lp_X14_go_L2 hX n _ _ _ _ _ _ hm_ ?_
  exact j_return (pc := 76) hX hQ (by cases hf; rfl) dX14_go_76
def f_X14_init_L162b (n : Nat) (c0 : Option Nat) (c3 : Option Nat) (c4 : Option Nat) (rec : Int32 → zWd → Option (zWd)) (v5 : Int32) (w : zWd) : Option (zWd) :=
  if (24 : Int32) ≤ v5 then
    some w
  else
    (zV (isC w 13 c0) (f_X14_findPlain n c0 v5 c3 c4 w)).bind fun w57 =>
    rec (v5 + (1)) w57
def f_X14_init_L162 (n : Nat) (c0 : Option Nat) (c3 : Option Nat) (c4 : Option Nat) : Nat → Int32 → zWd → Option (zWd)
  | 0, _, _ => none
  | k + 1, v5, w => f_X14_init_L162b n c0 c3 c4 (f_X14_init_L162 n c0 c3 c4 k) v5 w
def f_X14_init (n : Nat) (a0 : Option Nat) (a1 : Option Nat) (a2 : Int32) (w : zWd) : Option zWd :=
  (pA w 13 17 a0 a1).bind fun w1 =>
  if a0 = none then none else
  zB2 (nL_ w1 (72 : Int32)) fun x2 w3 =>
  (pA w3 13 1 a0 x2).bind fun w4 =>
  zB2 (nL_ w4 (144 : Int32)) fun x5 w6 =>
  (pA w6 13 2 a0 x5).bind fun w7 =>
  zB2 (nI_ w7 (24 : Int32)) fun x8 w9 =>
  (pA w9 13 3 a0 x8).bind fun w10 =>
  zB2 (nL_ w10 (72 : Int32)) fun x11 w12 =>
  (pA w12 13 4 a0 x11).bind fun w13 =>
  zB2 (nL_ w13 (72 : Int32)) fun x14 w15 =>
  (pA w15 13 5 a0 x14).bind fun w16 =>
  zB2 (nL_ w16 (72 : Int32)) fun x17 w18 =>
  (pA w18 13 6 a0 x17).bind fun w19 =>
  zB2 (nL_ w19 (3 : Int32)) fun x20 w21 =>
  (pA w21 13 7 a0 x20).bind fun w22 =>
  zB2 (nL_ w22 (3 : Int32)) fun x23 w24 =>
  (pA w24 13 8 a0 x23).bind fun w25 =>
  zB2 (nL_ w25 (3 : Int32)) fun x26 w27 =>
  (pA w27 13 9 a0 x26).bind fun w28 =>
  zB2 (nL_ w28 (3 : Int32)) fun x29 w30 =>
  (pA w30 13 10 a0 x29).bind fun w31 =>
  zB2 (nL_ w31 (24 : Int32)) fun x32 w33 =>
  (pA w33 13 11 a0 x32).bind fun w34 =>
  zB2 (nL_ w34 (24 : Int32)) fun x35 w36 =>
  (pA w36 13 12 a0 x35).bind fun w37 =>
  zB2 (nL_ w37 (24 : Int32)) fun x38 w39 =>
  (pA w39 13 13 a0 x38).bind fun w40 =>
  zB2 (nL_ w40 (24 : Int32)) fun x41 w42 =>
  (pA w42 13 14 a0 x41).bind fun w43 =>
  zB2 (nL_ w43 (144 : Int32)) fun x44 w45 =>
  (pA w45 13 15 a0 x44).bind fun w46 =>
  zB2 (nL_ w46 (24 : Int32)) fun x47 w48 =>
  (pA w48 13 16 a0 x47).bind fun w49 =>
  (pI w49 13 0 a0 a2).bind fun w50 =>
  (zV (isC w50 0 a1) (f_X1_findLeave n a1 a2 w50)).bind fun w51 =>
  (gA w51 0 7 a1).bind fun x52 =>
  zB2 (f_X1_orderOf n x52 w51) fun x54 w53 =>
  zB2 (nL_ w53 (10 : Int32)) fun x55 w56 =>
  (f_X14_init_L162 n a0 x54 x55 n (0 : Int32) w56).bind fun w58 =>
  (zV (isC w58 13 a0) (f_X14_go n a0 (24 : Int32) w58)).bind fun w59 =>
  some w59
theorem mt_X14_init : zMt yX14_init cX14_init 6 none 2 := ⟨q1584, q111, ⟨by decide, by decide⟩, by decide +kernel, by decide⟩
set_option maxHeartbeats 4000000 in
theorem lp_X14_init_L162 {X : zX} (hX : zGd X RX14 cX14_init 6 none 11) (hI : zIn X) (n : Nat) (c0 : Option Nat) (c3 : Option Nat) (c4 : Option Nat) : ∀ (k : Nat) (v5 : Int32) (w : zWd) (w9 : zWd) , f_X14_init_L162 n c0 c3 c4 k v5 w = some w9 → zJ X 184 [some (vA c0), none, none, some (vA c3), some (vA c4), none] [] w9 → zJ X 162 [some (vA c0), none, none, some (vA c3), some (vA c4), some (vI v5)] [] w := by
  intro k
  induction k with
  | zero => intro v5 w w9 hf _; exact nomatch (show (none : Option (zWd)) = _ from hf)
  | succ k ih =>
    intro v5 w w9 hf kx
    have hf : f_X14_init_L162b n c0 c3 c4 (f_X14_init_L162 n c0 c3 c4 k) v5 w = _ := hf
    unfold f_X14_init_L162b at hf
    refine j_iload (pc := 162) hX dX14_init_162 rfl ?_
    refine j_bipush (pc := 164) hX (24 : Int32) dX14_init_164 (by decide +kernel) ?_
    refine j_icmp_ge (pc := 166) hX 184 dX14_init_166 rfl hf (fun h_ hf => ?_) (fun h_ hf => ?_)
    · refine j_fg [5] [some (vA c0), none, none, some (vA c3), some (vA c4), none] rfl ?_
      cases hf
      exact kx
    · refine j_aload_n (pc := 169) hX dX14_init_169 rfl ?_
      refine j_iload (pc := 170) hX dX14_init_170 rfl ?_
      refine j_aload_n (pc := 172) hX dX14_init_172 rfl ?_
      refine j_aload (pc := 173) hX dX14_init_173 rfl ?_
      obtain ⟨w57, hc_, hf⟩ := zob hf
      obtain ⟨hi_, hc_⟩ := zV_e hc_
      refine j_callV (pc := 175) hX (ci := 13) mt_X14_findPlain q1588 q1590 qs20 hi_ ⟨_, rfl, rfl⟩ [vI v5, vA c3, vA c4] rfl rfl (Nat.le_of_ble_eq_true rfl) (by decide) dX14_init_175 (k_X14_findPlain () _ hc_) ?_
      refine j_iinc (pc := 178) hX (1) dX14_init_178 rfl rfl (by decide) [some (vA c0), none, none, some (vA c3), some (vA c4), some (vI (v5 + (1)))] rfl ?_
      refine j_goto (pc := 181) hX 162 dX14_init_181 rfl ?_
      exact ih _ _ _ hf kx
set_option maxHeartbeats 4000000 in
theorem k_X14_init {l : Launch} {n : Nat} {a0 : Option Nat} {a1 : Option Nat} {a2 : Int32} {w : zWd} (r : Unit) (w9 : zWd) (hf : f_X14_init n a0 a1 a2 w = some w9) : zCt l yX14_init cX14_init 6 none 11 [vA a0, vA a1, vI a2] w (.inr (none, w9)) := by
  refine zCt_of (lv := [some (vA a0), some (vA a1), some (vI a2), none, none, none]) (by decide +kernel) 3 rfl rfl ?_
  intro X hX hI hN hQ
  have hX : zGd X RX14 cX14_init 6 none 11 := hX
  unfold f_X14_init at hf
  refine j_aload_n (pc := 0) hX dX14_init_0 rfl ?_
  refine j_aload_n (pc := 1) hX dX14_init_1 rfl ?_
  refine j_putAF (pc := 2) hX hI kX14 (k := 17) (Nat.le_of_ble_eq_true rfl) q1978 rfl rfl rfl rfl dX14_init_2 hf (fun w1 hf => ?_)
  refine j_aload_n (pc := 5) hX dX14_init_5 rfl ?_
  obtain ⟨hne_, hf⟩ := zGd_e hf
  refine j_objInit (pc := 6) hX (by decide) q1585 q124 q125 (by rw [zCs_eq]; exact Nat.le_of_ble_eq_true rfl) dX14_init_6 hne_ ?_
  refine j_aload_n (pc := 9) hX dX14_init_9 rfl ?_
  refine j_bipush (pc := 10) hX (72 : Int32) dX14_init_10 (by decide +kernel) ?_
  refine j_newarrL (pc := 12) hX q181 dX14_init_12 hf (fun x2 w3 hf => ?_)
  refine j_putAF (pc := 14) hX hI kX14 (k := 1) (Nat.le_of_ble_eq_true rfl) q1954 rfl rfl rfl rfl dX14_init_14 hf (fun w4 hf => ?_)
  refine j_aload_n (pc := 17) hX dX14_init_17 rfl ?_
  refine j_sipush (pc := 18) hX (144 : Int32) dX14_init_18 (by decide +kernel) ?_
  refine j_newarrL (pc := 21) hX q181 dX14_init_21 hf (fun x5 w6 hf => ?_)
  refine j_putAF (pc := 23) hX hI kX14 (k := 2) (Nat.le_of_ble_eq_true rfl) q1955 rfl rfl rfl rfl dX14_init_23 hf (fun w7 hf => ?_)
  refine j_aload_n (pc := 26) hX dX14_init_26 rfl ?_
  refine j_bipush (pc := 27) hX (24 : Int32) dX14_init_27 (by decide +kernel) ?_
  refine j_newarrI (pc := 29) hX q180 dX14_init_29 hf (fun x8 w9 hf => ?_)
  refine j_putAF (pc := 31) hX hI kX14 (k := 3) (Nat.le_of_ble_eq_true rfl) q1957 rfl rfl rfl rfl dX14_init_31 hf (fun w10 hf => ?_)
  refine j_aload_n (pc := 34) hX dX14_init_34 rfl ?_
  refine j_bipush (pc := 35) hX (72 : Int32) dX14_init_35 (by decide +kernel) ?_
  refine j_newarrL (pc := 37) hX q181 dX14_init_37 hf (fun x11 w12 hf => ?_)
  refine j_putAF (pc := 39) hX hI kX14 (k := 4) (Nat.le_of_ble_eq_true rfl) q1958 rfl rfl rfl rfl dX14_init_39 hf (fun w13 hf => ?_)
  refine j_aload_n (pc := 42) hX dX14_init_42 rfl ?_
  refine j_bipush (pc := 43) hX (72 : Int32) dX14_init_43 (by decide +kernel) ?_
  refine j_newarrL (pc := 45) hX q181 dX14_init_45 hf (fun x14 w15 hf => ?_)
  refine j_putAF (pc := 47) hX hI kX14 (k := 5) (Nat.le_of_ble_eq_true rfl) q1960 rfl rfl rfl rfl dX14_init_47 hf (fun w16 hf => ?_)
  refine j_aload_n (pc := 50) hX dX14_init_50 rfl ?_
  refine j_bipush (pc := 51) hX (72 : Int32) dX14_init_51 (by decide +kernel) ?_
  refine j_newarrL (pc := 53) hX q181 dX14_init_53 hf (fun x17 w18 hf => ?_)
  refine j_putAF (pc := 55) hX hI kX14 (k := 6) (Nat.le_of_ble_eq_true rfl) q1962 rfl rfl rfl rfl dX14_init_55 hf (fun w19 hf => ?_)
  refine j_aload_n (pc := 58) hX dX14_init_58 rfl ?_
  refine j_iconst (pc := 59) hX (3 : Int32) dX14_init_59 rfl ?_
  refine j_newarrL (pc := 60) hX q181 dX14_init_60 hf (fun x20 w21 hf => ?_)
  refine j_putAF (pc := 62) hX hI kX14 (k := 7) (Nat.le_of_ble_eq_true rfl) q1964 rfl rfl rfl rfl dX14_init_62 hf (fun w22 hf => ?_)
  refine j_aload_n (pc := 65) hX dX14_init_65 rfl ?_
  refine j_iconst (pc := 66) hX (3 : Int32) dX14_init_66 rfl ?_
  refine j_newarrL (pc := 67) hX q181 dX14_init_67 hf (fun x23 w24 hf => ?_)
  refine j_putAF (pc := 69) hX hI kX14 (k := 8) (Nat.le_of_ble_eq_true rfl) q1965 rfl rfl rfl rfl dX14_init_69 hf (fun w25 hf => ?_)
  refine j_aload_n (pc := 72) hX dX14_init_72 rfl ?_
  refine j_iconst (pc := 73) hX (3 : Int32) dX14_init_73 rfl ?_
  refine j_newarrL (pc := 74) hX q181 dX14_init_74 hf (fun x26 w27 hf => ?_)
  refine j_putAF (pc := 76) hX hI kX14 (k := 9) (Nat.le_of_ble_eq_true rfl) q1966 rfl rfl rfl rfl dX14_init_76 hf (fun w28 hf => ?_)
  refine j_aload_n (pc := 79) hX dX14_init_79 rfl ?_
  refine j_iconst (pc := 80) hX (3 : Int32) dX14_init_80 rfl ?_
  refine j_newarrL (pc := 81) hX q181 dX14_init_81 hf (fun x29 w30 hf => ?_)
  refine j_putAF (pc := 83) hX hI kX14 (k := 10) (Nat.le_of_ble_eq_true rfl) q1967 rfl rfl rfl rfl dX14_init_83 hf (fun w31 hf => ?_)
  refine j_aload_n (pc := 86) hX dX14_init_86 rfl ?_
  refine j_bipush (pc := 87) hX (24 : Int32) dX14_init_87 (by decide +kernel) ?_
  refine j_newarrL (pc := 89) hX q181 dX14_init_89 hf (fun x32 w33 hf => ?_)
  refine j_putAF (pc := 91) hX hI kX14 (k := 11) (Nat.le_of_ble_eq_true rfl) q1968 rfl rfl rfl rfl dX14_init_91 hf (fun w34 hf => ?_)
  refine j_aload_n (pc := 94) hX dX14_init_94 rfl ?_
  refine j_bipush (pc := 95) hX (24 : Int32) dX14_init_95 (by decide +kernel) ?_
  refine j_newarrL (pc := 97) hX q181 dX14_init_97 hf (fun x35 w36 hf => ?_)
  refine j_putAF (pc := 99) hX hI kX14 (k := 12) (Nat.le_of_ble_eq_true rfl) q1970 rfl rfl rfl rfl dX14_init_99 hf (fun w37 hf => ?_)
  refine j_aload_n (pc := 102) hX dX14_init_102 rfl ?_
  refine j_bipush (pc := 103) hX (24 : Int32) dX14_init_103 (by decide +kernel) ?_
  refine j_newarrL (pc := 105) hX q181 dX14_init_105 hf (fun x38 w39 hf => ?_)
  refine j_putAF (pc := 107) hX hI kX14 (k := 13) (Nat.le_of_ble_eq_true rfl) q1972 rfl rfl rfl rfl dX14_init_107 hf (fun w40 hf => ?_)
  refine j_aload_n (pc := 110) hX dX14_init_110 rfl ?_
  refine j_bipush (pc := 111) hX (24 : Int32) dX14_init_111 (by decide +kernel) ?_
  refine j_newarrL (pc := 113) hX q181 dX14_init_113 hf (fun x41 w42 hf => ?_)
  refine j_putAF (pc := 115) hX hI kX14 (k := 14) (Nat.le_of_ble_eq_true rfl) q1974 rfl rfl rfl rfl dX14_init_115 hf (fun w43 hf => ?_)
  refine j_aload_n (pc := 118) hX dX14_init_118 rfl ?_
  refine j_sipush (pc := 119) hX (144 : Int32) dX14_init_119 (by decide +kernel) ?_
  refine j_newarrL (pc := 122) hX q181 dX14_init_122 hf (fun x44 w45 hf => ?_)
  refine j_putAF (pc := 124) hX hI kX14 (k := 15) (Nat.le_of_ble_eq_true rfl) q1976 rfl rfl rfl rfl dX14_init_124 hf (fun w46 hf => ?_)
  refine j_aload_n (pc := 127) hX dX14_init_127 rfl ?_
  refine j_bipush (pc := 128) hX (24 : Int32) dX14_init_128 (by decide +kernel) ?_
  refine j_newarrL (pc := 130) hX q181 dX14_init_130 hf (fun x47 w48 hf => ?_)
  refine j_putAF (pc := 132) hX hI kX14 (k := 16) (Nat.le_of_ble_eq_true rfl) q1977 rfl rfl rfl rfl dX14_init_132 hf (fun w49 hf => ?_)
  refine j_aload_n (pc := 135) hX dX14_init_135 rfl ?_
  refine j_iload_n (pc := 136) hX dX14_init_136 rfl ?_
  refine j_putIF (pc := 137) hX hI kX14 (k := 0) (Nat.le_of_ble_eq_true rfl) q1953 rfl rfl rfl rfl dX14_init_137 hf (fun w50 hf => ?_)
  refine j_aload_n (pc := 140) hX dX14_init_140 rfl ?_
  refine j_iload_n (pc := 141) hX dX14_init_141 rfl ?_
  obtain ⟨w51, hc_, hf⟩ := zob hf
  obtain ⟨hi_, hc_⟩ := zV_e hc_
  refine j_callVN (pc := 142) hX (ci := 0) mt_X1_findLeave q1586 q1128 qs12 hi_ ⟨_, rfl, rfl⟩ [vI a2] rfl rfl (Nat.le_of_ble_eq_true rfl) (by decide) dX14_init_142 (k_X1_findLeave () _ hc_) ?_
  refine j_aload_n (pc := 145) hX dX14_init_145 rfl ?_
  refine j_getAN (pc := 146) hX kX1 (k := 7) (Nat.le_of_ble_eq_true rfl) q343 rfl dX14_init_146 hf (fun x52 hx_ hf => ?_)
  obtain ⟨x54, w53, hc_, hf⟩ := zB2_e hf
  refine j_callSN (pc := 149) hX mt_X1_orderOf q1587 q1358 [vA x52] rfl rfl (Nat.le_of_ble_eq_true rfl) (by decide) dX14_init_149 (k_X1_orderOf _ _ hc_) ?_
  refine j_astore_n (pc := 152) hX dX14_init_152 (by decide) [some (vA a0), some (vA a1), some (vI a2), some (vA x54), none, none] rfl ?_
  refine j_bipush (pc := 153) hX (10 : Int32) dX14_init_153 (by decide +kernel) ?_
  refine j_newarrL (pc := 155) hX q181 dX14_init_155 hf (fun x55 w56 hf => ?_)
  refine j_astore (pc := 157) hX dX14_init_157 (by decide) [some (vA a0), some (vA a1), some (vI a2), some (vA x54), some (vA x55), none] rfl ?_
  refine j_iconst (pc := 159) hX (0 : Int32) dX14_init_159 rfl ?_
  refine j_istore (pc := 160) hX dX14_init_160 (by decide) [some (vA a0), some (vA a1), some (vI a2), some (vA x54), some (vA x55), some (vI (0 : Int32))] rfl ?_
  obtain ⟨w58, hm_, hf⟩ := zob hf
  refine j_fg [1, 2] [some (vA a0), none, none, some (vA x54), some (vA x55), some (vI (0 : Int32))] rfl ?_
  refine lp_X14_init_L162 hX hI n _ _ _ _ _ _ _ hm_ ?_
  refine j_aload_n (pc := 184) hX dX14_init_184 rfl ?_
  refine j_bipush (pc := 185) hX (24 : Int32) dX14_init_185 (by decide +kernel) ?_
  obtain ⟨w59, hc_, hf⟩ := zob hf
  obtain ⟨hi_, hc_⟩ := zV_e hc_
  refine j_callV (pc := 187) hX (ci := 13) mt_X14_go q1900 q1901 q1902 hi_ ⟨_, rfl, rfl⟩ [vI (24 : Int32)] rfl rfl (Nat.le_of_ble_eq_true rfl) (by decide) dX14_init_187 (k_X14_go () _ hc_) ?_
  exact j_return (pc := 190) hX hQ (by cases hf; rfl) dX14_init_190
def f_X14_in_L5b (n : Nat) (c1 : Int32) (c2 : Option Nat) (w : zWd) (rec : Int64 → Int32 → Option (Int64)) (v3 : Int64) (v5 : Int32) : Option (Int64) :=
  if (3 : Int32) ≤ v5 then
    some v3
  else
    (aL w c2 ((c1 * (3 : Int32)) + v5)).bind fun x1 =>
    rec (v3 + x1) (v5 + (1))
def f_X14_in_L5 (n : Nat) (c1 : Int32) (c2 : Option Nat) (w : zWd) : Nat → Int64 → Int32 → Option (Int64)
  | 0, _, _ => none
  | k + 1, v3, v5 => f_X14_in_L5b n c1 c2 w (f_X14_in_L5 n c1 c2 w k) v3 v5
def f_X14_in (n : Nat) (a0 : Option Nat) (a1 : Int32) (a2 : Option Nat) (w : zWd) : Option (Int64 × zWd) :=
  (f_X14_in_L5 n a1 a2 w n (0 : Int64) (0 : Int32)).bind fun x2 =>
  some (x2, w)
theorem mt_X14_in : zMt yX14_in cX14_in 6 (some .long) 2 := ⟨q2019, q111, ⟨by decide, by decide⟩, by decide +kernel, by decide⟩
set_option maxHeartbeats 4000000 in
theorem lp_X14_in_L5 {X : zX} (hX : zGd X RX14 cX14_in 6 (some .long) 1) (n : Nat) (c1 : Int32) (c2 : Option Nat) (w : zWd) : ∀ (k : Nat) (v3 : Int64) (v5 : Int32) (o3 : Int64) , f_X14_in_L5 n c1 c2 w k v3 v5 = some o3 → zJ X 28 [none, some (vI c1), some (vA c2), some (vL o3), none, none] [] w → zJ X 5 [none, some (vI c1), some (vA c2), some (vL v3), none, some (vI v5)] [] w := by
  intro k
  induction k with
  | zero => intro v3 v5 o3 hf _; exact nomatch (show (none : Option (Int64)) = _ from hf)
  | succ k ih =>
    intro v3 v5 o3 hf kx
    have hf : f_X14_in_L5b n c1 c2 w (f_X14_in_L5 n c1 c2 w k) v3 v5 = _ := hf
    unfold f_X14_in_L5b at hf
    refine j_iload (pc := 5) hX dX14_in_5 rfl ?_
    refine j_iconst (pc := 7) hX (3 : Int32) dX14_in_7 rfl ?_
    refine j_icmp_ge (pc := 8) hX 28 dX14_in_8 rfl hf (fun h_ hf => ?_) (fun h_ hf => ?_)
    · refine j_fg [5] [none, some (vI c1), some (vA c2), some (vL v3), none, none] rfl ?_
      cases hf
      exact kx
    · refine j_lload_n (pc := 11) hX dX14_in_11 rfl ?_
      refine j_aload_n (pc := 12) hX dX14_in_12 rfl ?_
      refine j_iload_n (pc := 13) hX dX14_in_13 rfl ?_
      refine j_iconst (pc := 14) hX (3 : Int32) dX14_in_14 rfl ?_
      refine j_imul (pc := 15) hX dX14_in_15 ?_
      refine j_iload (pc := 16) hX dX14_in_16 rfl ?_
      refine j_iadd (pc := 18) hX dX14_in_18 ?_
      refine j_laload (pc := 19) hX dX14_in_19 hf (fun x1 hx_ hf => ?_)
      refine j_ladd (pc := 20) hX dX14_in_20 ?_
      refine j_lstore_n (pc := 21) hX dX14_in_21 (by decide) [none, some (vI c1), some (vA c2), some (vL (v3 + x1)), none, some (vI v5)] rfl ?_
      refine j_iinc (pc := 22) hX (1) dX14_in_22 rfl rfl (by decide) [none, some (vI c1), some (vA c2), some (vL (v3 + x1)), none, some (vI (v5 + (1)))] rfl ?_
      refine j_goto (pc := 25) hX 5 dX14_in_25 rfl ?_
      exact ih _ _ _ hf kx
set_option maxHeartbeats 4000000 in
theorem k_X14_in {l : Launch} {n : Nat} {a0 : Option Nat} {a1 : Int32} {a2 : Option Nat} {w : zWd} (r : Int64) (w9 : zWd) (hf : f_X14_in n a0 a1 a2 w = some (r, w9)) : zCt l yX14_in cX14_in 6 (some .long) 1 [vA a0, vI a1, vA a2] w (.inr (some (vL r), w9)) := by
  refine zCt_of (lv := [some (vA a0), some (vI a1), some (vA a2), none, none, none]) (by decide +kernel) 3 rfl rfl ?_
  intro X hX hI hN hQ
  have hX : zGd X RX14 cX14_in 6 (some .long) 1 := hX
  unfold f_X14_in at hf
  refine j_lconst (pc := 0) hX (0 : Int64) dX14_in_0 rfl ?_
  refine j_lstore_n (pc := 1) hX dX14_in_1 (by decide) [some (vA a0), some (vI a1), some (vA a2), some (vL (0 : Int64)), none, none] rfl ?_
  refine j_iconst (pc := 2) hX (0 : Int32) dX14_in_2 rfl ?_
  refine j_istore (pc := 3) hX dX14_in_3 (by decide) [some (vA a0), some (vI a1), some (vA a2), some (vL (0 : Int64)), none, some (vI (0 : Int32))] rfl ?_
  obtain ⟨x2, hm_, hf⟩ := zob hf
  refine j_fg [0] [none, some (vI a1), some (vA a2), some (vL (0 : Int64)), none, some (vI (0 : Int32))] rfl ?_
  refine lp_X14_in_L5 hX n _ _ _ _ _ _ _ hm_ ?_
  refine j_lload_n (pc := 28) hX dX14_in_28 rfl ?_
  exact j_lreturn (pc := 29) hX hQ (by cases hf; rfl) dX14_in_29
def f_X14_allTaken_L5b (n : Nat) (c0 : Option Nat) (c1 : Int32) (w : zWd) (rec : Int64 → Int32 → Option (Int64)) (v2 : Int64) (v4 : Int32) : Option (Int64) :=
  if (6 : Int32) ≤ v4 then
    some v2
  else
    (gA w 13 15 c0).bind fun x1 =>
    (aL w x1 ((c1 * (6 : Int32)) + v4)).bind fun x2 =>
    rec (v2 + x2) (v4 + (1))
def f_X14_allTaken_L5 (n : Nat) (c0 : Option Nat) (c1 : Int32) (w : zWd) : Nat → Int64 → Int32 → Option (Int64)
  | 0, _, _ => none
  | k + 1, v2, v4 => f_X14_allTaken_L5b n c0 c1 w (f_X14_allTaken_L5 n c0 c1 w k) v2 v4
def f_X14_allTaken (n : Nat) (a0 : Option Nat) (a1 : Int32) (w : zWd) : Option (Int64 × zWd) :=
  (f_X14_allTaken_L5 n a0 a1 w n (0 : Int64) (0 : Int32)).bind fun x3 =>
  some (x3, w)
theorem mt_X14_allTaken : zMt yX14_allTaken cX14_allTaken 5 (some .long) 1 := ⟨q2023, q111, ⟨by decide, by decide⟩, by decide +kernel, by decide⟩
set_option maxHeartbeats 4000000 in
theorem lp_X14_allTaken_L5 {X : zX} (hX : zGd X RX14 cX14_allTaken 5 (some .long) 1) (n : Nat) (c0 : Option Nat) (c1 : Int32) (w : zWd) : ∀ (k : Nat) (v2 : Int64) (v4 : Int32) (o2 : Int64) , f_X14_allTaken_L5 n c0 c1 w k v2 v4 = some o2 → zJ X 33 [some (vA c0), some (vI c1), some (vL o2), none, none] [] w → zJ X 5 [some (vA c0), some (vI c1), some (vL v2), none, some (vI v4)] [] w := by
  intro k
  induction k with
  | zero => intro v2 v4 o2 hf _; exact nomatch (show (none : Option (Int64)) = _ from hf)
  | succ k ih =>
    intro v2 v4 o2 hf kx
    have hf : f_X14_allTaken_L5b n c0 c1 w (f_X14_allTaken_L5 n c0 c1 w k) v2 v4 = _ := hf
    unfold f_X14_allTaken_L5b at hf
    refine j_iload (pc := 5) hX dX14_allTaken_5 rfl ?_
    refine j_bipush (pc := 7) hX (6 : Int32) dX14_allTaken_7 (by decide +kernel) ?_
    refine j_icmp_ge (pc := 9) hX 33 dX14_allTaken_9 rfl hf (fun h_ hf => ?_) (fun h_ hf => ?_)
    · refine j_fg [4] [some (vA c0), some (vI c1), some (vL v2), none, none] rfl ?_
      cases hf
      exact kx
    · refine j_lload_n (pc := 12) hX dX14_allTaken_12 rfl ?_
      refine j_aload_n (pc := 13) hX dX14_allTaken_13 rfl ?_
      refine j_getA (pc := 14) hX kX14 (k := 15) (Nat.le_of_ble_eq_true rfl) q1976 (Or.inl rfl) dX14_allTaken_14 hf (fun x1 hx_ hf => ?_)
      refine j_iload_n (pc := 17) hX dX14_allTaken_17 rfl ?_
      refine j_bipush (pc := 18) hX (6 : Int32) dX14_allTaken_18 (by decide +kernel) ?_
      refine j_imul (pc := 20) hX dX14_allTaken_20 ?_
      refine j_iload (pc := 21) hX dX14_allTaken_21 rfl ?_
      refine j_iadd (pc := 23) hX dX14_allTaken_23 ?_
      refine j_laload (pc := 24) hX dX14_allTaken_24 hf (fun x2 hx_ hf => ?_)
      refine j_ladd (pc := 25) hX dX14_allTaken_25 ?_
      refine j_lstore_n (pc := 26) hX dX14_allTaken_26 (by decide) [some (vA c0), some (vI c1), some (vL (v2 + x2)), none, some (vI v4)] rfl ?_
      refine j_iinc (pc := 27) hX (1) dX14_allTaken_27 rfl rfl (by decide) [some (vA c0), some (vI c1), some (vL (v2 + x2)), none, some (vI (v4 + (1)))] rfl ?_
      refine j_goto (pc := 30) hX 5 dX14_allTaken_30 rfl ?_
      exact ih _ _ _ hf kx
set_option maxHeartbeats 4000000 in
theorem k_X14_allTaken {l : Launch} {n : Nat} {a0 : Option Nat} {a1 : Int32} {w : zWd} (r : Int64) (w9 : zWd) (hf : f_X14_allTaken n a0 a1 w = some (r, w9)) : zCt l yX14_allTaken cX14_allTaken 5 (some .long) 1 [vA a0, vI a1] w (.inr (some (vL r), w9)) := by
  refine zCt_of (lv := [some (vA a0), some (vI a1), none, none, none]) (by decide +kernel) 3 rfl rfl ?_
  intro X hX hI hN hQ
  have hX : zGd X RX14 cX14_allTaken 5 (some .long) 1 := hX
  unfold f_X14_allTaken at hf
  refine j_lconst (pc := 0) hX (0 : Int64) dX14_allTaken_0 rfl ?_
  refine j_lstore_n (pc := 1) hX dX14_allTaken_1 (by decide) [some (vA a0), some (vI a1), some (vL (0 : Int64)), none, none] rfl ?_
  refine j_iconst (pc := 2) hX (0 : Int32) dX14_allTaken_2 rfl ?_
  refine j_istore (pc := 3) hX dX14_allTaken_3 (by decide) [some (vA a0), some (vI a1), some (vL (0 : Int64)), none, some (vI (0 : Int32))] rfl ?_
  obtain ⟨x3, hm_, hf⟩ := zob hf
  refine lp_X14_allTaken_L5 hX n _ _ _ _ _ _ _ hm_ ?_
  refine j_lload_n (pc := 33) hX dX14_allTaken_33 rfl ?_
  exact j_lreturn (pc := 34) hX hQ (by cases hf; rfl) dX14_allTaken_34
def f_X1_slip (n : Nat) (a0 : Option Nat) (a1 : Int32) (a2 : Int32) (a3 : Int32) (w : zWd) : Option ((String ⊕ Int64) × zWd) :=
  zBX (f_X1_at n a1 (6 : Int32) w) fun x2 w1 =>
  zBX (f_X1_at n a2 (24 : Int32) w1) fun x4 w3 =>
  zBX (f_X1_in n a3 (0 : Int32) (7 : Int32) w3) fun x6 w5 =>
  zB2 (zNew w5 18 (.inr (13, df_X14))) fun x7 w8 =>
  (zV (decide (x7 ≠ none)) (f_X14_init n x7 a0 a1 w8)).bind fun w9 =>
  if a3 = (0 : Int32) then
    (gA w9 13 4 x7).bind fun x10 =>
    zB2 (zV (isC w9 13 x7) (f_X14_in n x7 a2 x10 w9)) fun x12 w11 =>
    some (.inr x12, w11)
  else
  if a3 = (1 : Int32) then
    (gA w9 13 5 x7).bind fun x13 =>
    zB2 (zV (isC w9 13 x7) (f_X14_in n x7 a2 x13 w9)) fun x15 w14 =>
    some (.inr x15, w14)
  else
  if a3 = (2 : Int32) then
    (gA w9 13 11 x7).bind fun x16 =>
    (aL w9 x16 a2).bind fun x17 =>
    some (.inr x17, w9)
  else
  if a3 = (3 : Int32) then
    (gA w9 13 6 x7).bind fun x18 =>
    zB2 (zV (isC w9 13 x7) (f_X14_in n x7 a2 x18 w9)) fun x20 w19 =>
    some (.inr x20, w19)
  else
  if a3 = (4 : Int32) then
    (gA w9 13 13 x7).bind fun x21 =>
    (aL w9 x21 a2).bind fun x22 =>
    some (.inr x22, w9)
  else
  if a3 = (5 : Int32) then
    zB2 (zV (isC w9 13 x7) (f_X14_allTaken n x7 a2 w9)) fun x24 w23 =>
    some (.inr x24, w23)
  else
  if a3 = (6 : Int32) then
    (gA w9 13 14 x7).bind fun x25 =>
    (aL w9 x25 a2).bind fun x26 =>
    some (.inr x26, w9)
  else
    (gA w9 13 12 x7).bind fun x27 =>
    (aL w9 x27 a2).bind fun x28 =>
    some (.inr x28, w9)
theorem mt_X1_slip : zMt yX1_slip cX1_slip 5 (some .long) 3 := ⟨q1579, q66, ⟨by decide, by decide⟩, by decide +kernel, by decide⟩
set_option maxHeartbeats 4000000 in
theorem k_X1_slip {l : Launch} {n : Nat} {a0 : Option Nat} {a1 : Int32} {a2 : Int32} {a3 : Int32} {w : zWd} (r : String ⊕ Int64) (w9 : zWd) (hf : f_X1_slip n a0 a1 a2 a3 w = some (r, w9)) : zCt l yX1_slip cX1_slip 5 (some .long) 12 [vA a0, vI a1, vI a2, vI a3] w (zXL r w9) := by
  refine zCt_of (lv := [some (vA a0), some (vI a1), some (vI a2), some (vI a3), none]) (by decide +kernel) 1 rfl rfl ?_
  intro X hX hI hN hQ
  have hX : zGd X RX1 cX1_slip 5 (some .long) 12 := hX
  unfold f_X1_slip at hf
  refine j_iload_n (pc := 0) hX dX1_slip_0 rfl ?_
  refine j_bipush (pc := 1) hX (6 : Int32) dX1_slip_1 (by decide +kernel) ?_
  obtain ⟨⟨q_, w1⟩, hc_, hf⟩ := zob hf
  cases q_ with
  | inl E_ =>
    cases hf
    exact j_callSX (pc := 3) hX mt_X1_at q507 q508 [vI a1, vI (6 : Int32)] rfl rfl (Nat.le_of_ble_eq_true rfl) (by decide) dX1_slip_3 hN hQ (k_X1_at _ _ hc_)
  | inr x2 =>
    refine j_callS (pc := 3) hX mt_X1_at q507 q508 [vI a1, vI (6 : Int32)] rfl rfl (Nat.le_of_ble_eq_true rfl) (by decide) dX1_slip_3 (k_X1_at _ _ hc_) ?_
    refine j_pop (pc := 6) hX rfl dX1_slip_6 ?_
    refine j_iload_n (pc := 7) hX dX1_slip_7 rfl ?_
    refine j_bipush (pc := 8) hX (24 : Int32) dX1_slip_8 (by decide +kernel) ?_
    obtain ⟨⟨q_, w3⟩, hc_, hf⟩ := zob hf
    cases q_ with
    | inl E_ =>
      cases hf
      exact j_callSX (pc := 10) hX mt_X1_at q507 q508 [vI a2, vI (24 : Int32)] rfl rfl (Nat.le_of_ble_eq_true rfl) (by decide) dX1_slip_10 hN hQ (k_X1_at _ _ hc_)
    | inr x4 =>
      refine j_callS (pc := 10) hX mt_X1_at q507 q508 [vI a2, vI (24 : Int32)] rfl rfl (Nat.le_of_ble_eq_true rfl) (by decide) dX1_slip_10 (k_X1_at _ _ hc_) ?_
      refine j_pop (pc := 13) hX rfl dX1_slip_13 ?_
      refine j_iload_n (pc := 14) hX dX1_slip_14 rfl ?_
      refine j_iconst (pc := 15) hX (0 : Int32) dX1_slip_15 rfl ?_
      refine j_bipush (pc := 16) hX (7 : Int32) dX1_slip_16 (by decide +kernel) ?_
      obtain ⟨⟨q_, w5⟩, hc_, hf⟩ := zob hf
      cases q_ with
      | inl E_ =>
        cases hf
        exact j_callSX (pc := 18) hX mt_X1_in q523 q524 [vI a3, vI (0 : Int32), vI (7 : Int32)] rfl rfl (Nat.le_of_ble_eq_true rfl) (by decide) dX1_slip_18 hN hQ (k_X1_in _ _ hc_)
      | inr x6 =>
        refine j_callS (pc := 18) hX mt_X1_in q523 q524 [vI a3, vI (0 : Int32), vI (7 : Int32)] rfl rfl (Nat.le_of_ble_eq_true rfl) (by decide) dX1_slip_18 (k_X1_in _ _ hc_) ?_
        refine j_pop (pc := 21) hX rfl dX1_slip_21 ?_
        refine j_new (pc := 22) hX kX14 q1580 q1581 q111 df_X14 df_X14_ok dX1_slip_22 hf (fun x7 w8 hf => ?_)
        refine j_dup (pc := 25) hX rfl dX1_slip_25 ?_
        refine j_aload_n (pc := 26) hX dX1_slip_26 rfl ?_
        refine j_iload_n (pc := 27) hX dX1_slip_27 rfl ?_
        obtain ⟨w9, hc_, hf⟩ := zob hf
        obtain ⟨hi_, hc_⟩ := zV_e hc_
        refine j_callI (pc := 28) hX mt_X14_init q1582 q1583 rfl rfl [vA a0, vI a1] rfl rfl (Nat.le_of_ble_eq_true rfl) (by decide) dX1_slip_28 (of_decide_eq_true hi_) (k_X14_init () _ hc_) ?_
        refine j_astore (pc := 31) hX dX1_slip_31 (by decide) [some (vA a0), some (vI a1), some (vI a2), some (vI a3), some (vA x7)] rfl ?_
        refine j_iload_n (pc := 33) hX dX1_slip_33 rfl ?_
        change (if a3 = (0 : Int32) then _ else _) = _ at hf
        by_cases h_0 : a3 = (0 : Int32)
        · rw [if_pos h_0] at hf
          refine j_tsIn (pc := 34) hX 76 dX1_slip_34 0 (by rw [h_0]; rfl) (by decide) rfl rfl ?_
          refine j_aload (pc := 76) hX dX1_slip_76 rfl ?_
          refine j_iload_n (pc := 78) hX dX1_slip_78 rfl ?_
          refine j_aload (pc := 79) hX dX1_slip_79 rfl ?_
          refine j_getAN (pc := 81) hX kX14 (k := 4) (Nat.le_of_ble_eq_true rfl) q1959 rfl dX1_slip_81 hf (fun x10 hx_ hf => ?_)
          obtain ⟨x12, w11, hc_, hf⟩ := zB2_e hf
          obtain ⟨hi_, hc_⟩ := zV_e hc_
          refine j_callV (pc := 84) hX (ci := 13) mt_X14_in q2016 q2017 q2018 hi_ ⟨_, rfl, rfl⟩ [vI a2, vA x10] rfl rfl (Nat.le_of_ble_eq_true rfl) (by decide) dX1_slip_84 (k_X14_in _ _ hc_) ?_
          exact j_lreturn (pc := 87) hX hQ (by cases hf; rfl) dX1_slip_87
        rw [if_neg h_0] at hf
        by_cases h_1 : a3 = (1 : Int32)
        · rw [if_pos h_1] at hf
          refine j_tsIn (pc := 34) hX 88 dX1_slip_34 1 (by rw [h_1]; rfl) (by decide) rfl rfl ?_
          refine j_aload (pc := 88) hX dX1_slip_88 rfl ?_
          refine j_iload_n (pc := 90) hX dX1_slip_90 rfl ?_
          refine j_aload (pc := 91) hX dX1_slip_91 rfl ?_
          refine j_getAN (pc := 93) hX kX14 (k := 5) (Nat.le_of_ble_eq_true rfl) q1961 rfl dX1_slip_93 hf (fun x13 hx_ hf => ?_)
          obtain ⟨x15, w14, hc_, hf⟩ := zB2_e hf
          obtain ⟨hi_, hc_⟩ := zV_e hc_
          refine j_callV (pc := 96) hX (ci := 13) mt_X14_in q2016 q2017 q2018 hi_ ⟨_, rfl, rfl⟩ [vI a2, vA x13] rfl rfl (Nat.le_of_ble_eq_true rfl) (by decide) dX1_slip_96 (k_X14_in _ _ hc_) ?_
          exact j_lreturn (pc := 99) hX hQ (by cases hf; rfl) dX1_slip_99
        rw [if_neg h_1] at hf
        by_cases h_2 : a3 = (2 : Int32)
        · rw [if_pos h_2] at hf
          refine j_tsIn (pc := 34) hX 100 dX1_slip_34 2 (by rw [h_2]; rfl) (by decide) rfl rfl ?_
          refine j_aload (pc := 100) hX dX1_slip_100 rfl ?_
          refine j_getAN (pc := 102) hX kX14 (k := 11) (Nat.le_of_ble_eq_true rfl) q1969 rfl dX1_slip_102 hf (fun x16 hx_ hf => ?_)
          refine j_iload_n (pc := 105) hX dX1_slip_105 rfl ?_
          refine j_laload (pc := 106) hX dX1_slip_106 hf (fun x17 hx_ hf => ?_)
          exact j_lreturn (pc := 107) hX hQ (by cases hf; rfl) dX1_slip_107
        rw [if_neg h_2] at hf
        by_cases h_3 : a3 = (3 : Int32)
        · rw [if_pos h_3] at hf
          refine j_tsIn (pc := 34) hX 108 dX1_slip_34 3 (by rw [h_3]; rfl) (by decide) rfl rfl ?_
          refine j_aload (pc := 108) hX dX1_slip_108 rfl ?_
          refine j_iload_n (pc := 110) hX dX1_slip_110 rfl ?_
          refine j_aload (pc := 111) hX dX1_slip_111 rfl ?_
          refine j_getAN (pc := 113) hX kX14 (k := 6) (Nat.le_of_ble_eq_true rfl) q1963 rfl dX1_slip_113 hf (fun x18 hx_ hf => ?_)
          obtain ⟨x20, w19, hc_, hf⟩ := zB2_e hf
          obtain ⟨hi_, hc_⟩ := zV_e hc_
          refine j_callV (pc := 116) hX (ci := 13) mt_X14_in q2016 q2017 q2018 hi_ ⟨_, rfl, rfl⟩ [vI a2, vA x18] rfl rfl (Nat.le_of_ble_eq_true rfl) (by decide) dX1_slip_116 (k_X14_in _ _ hc_) ?_
          exact j_lreturn (pc := 119) hX hQ (by cases hf; rfl) dX1_slip_119
        rw [if_neg h_3] at hf
        by_cases h_4 : a3 = (4 : Int32)
        · rw [if_pos h_4] at hf
          refine j_tsIn (pc := 34) hX 120 dX1_slip_34 4 (by rw [h_4]; rfl) (by decide) rfl rfl ?_
          refine j_aload (pc := 120) hX dX1_slip_120 rfl ?_
          refine j_getAN (pc := 122) hX kX14 (k := 13) (Nat.le_of_ble_eq_true rfl) q1973 rfl dX1_slip_122 hf (fun x21 hx_ hf => ?_)
          refine j_iload_n (pc := 125) hX dX1_slip_125 rfl ?_
          refine j_laload (pc := 126) hX dX1_slip_126 hf (fun x22 hx_ hf => ?_)
          exact j_lreturn (pc := 127) hX hQ (by cases hf; rfl) dX1_slip_127
        rw [if_neg h_4] at hf
        by_cases h_5 : a3 = (5 : Int32)
        · rw [if_pos h_5] at hf
          refine j_tsIn (pc := 34) hX 128 dX1_slip_34 5 (by rw [h_5]; rfl) (by decide) rfl rfl ?_
          refine j_aload (pc := 128) hX dX1_slip_128 rfl ?_
          refine j_iload_n (pc := 130) hX dX1_slip_130 rfl ?_
          obtain ⟨x24, w23, hc_, hf⟩ := zB2_e hf
          obtain ⟨hi_, hc_⟩ := zV_e hc_
          refine j_callV (pc := 131) hX (ci := 13) mt_X14_allTaken q2020 q2021 q2022 hi_ ⟨_, rfl, rfl⟩ [vI a2] rfl rfl (Nat.le_of_ble_eq_true rfl) (by decide) dX1_slip_131 (k_X14_allTaken _ _ hc_) ?_
          exact j_lreturn (pc := 134) hX hQ (by cases hf; rfl) dX1_slip_134
        rw [if_neg h_5] at hf
        by_cases h_6 : a3 = (6 : Int32)
        · rw [if_pos h_6] at hf
          refine j_tsIn (pc := 34) hX 135 dX1_slip_34 6 (by rw [h_6]; rfl) (by decide) rfl rfl ?_
          refine j_aload (pc := 135) hX dX1_slip_135 rfl ?_
          refine j_getAN (pc := 137) hX kX14 (k := 14) (Nat.le_of_ble_eq_true rfl) q1975 rfl dX1_slip_137 hf (fun x25 hx_ hf => ?_)
          refine j_iload_n (pc := 140) hX dX1_slip_140 rfl ?_
          refine j_laload (pc := 141) hX dX1_slip_141 hf (fun x26 hx_ hf => ?_)
          exact j_lreturn (pc := 142) hX hQ (by cases hf; rfl) dX1_slip_142
        rw [if_neg h_6] at hf
        refine j_tsOut (pc := 34) hX 143 dX1_slip_34 (fun k_ h1_ h2_ => by
          have h3_ : k_ = 0 ∨ k_ = 1 ∨ k_ = 2 ∨ k_ = 3 ∨ k_ = 4 ∨ k_ = 5 ∨ k_ = 6 := by omega
          rcases h3_ with rfl | rfl | rfl | rfl | rfl | rfl | rfl <;> first | exact h_0 | exact h_1 | exact h_2 | exact h_3 | exact h_4 | exact h_5 | exact h_6) (by decide) rfl ?_
        refine j_aload (pc := 143) hX dX1_slip_143 rfl ?_
        refine j_getAN (pc := 145) hX kX14 (k := 12) (Nat.le_of_ble_eq_true rfl) q1971 rfl dX1_slip_145 hf (fun x27 hx_ hf => ?_)
        refine j_iload_n (pc := 148) hX dX1_slip_148 rfl ?_
        refine j_laload (pc := 149) hX dX1_slip_149 hf (fun x28 hx_ hf => ?_)
        exact j_lreturn (pc := 150) hX hQ (by cases hf; rfl) dX1_slip_150
def f_X1_slipIn (n : Nat) (a0 : Option Nat) (a1 : Int32) (a2 : Int32) (a3 : Int32) (a4 : Int32) (w : zWd) : Option ((String ⊕ Int64) × zWd) :=
  zBX (f_X1_at n a1 (6 : Int32) w) fun x2 w1 =>
  zBX (f_X1_at n a2 (24 : Int32) w1) fun x4 w3 =>
  zBX (f_X1_at n a3 (3 : Int32) w3) fun x6 w5 =>
  if a4 = (0 : Int32) then
    zB2 (zNew w5 18 (.inr (13, df_X14))) fun x7 w8 =>
    (zV (decide (x7 ≠ none)) (f_X14_init n x7 a0 a1 w8)).bind fun w9 =>
    (
      if a4 = (0 : Int32) then
        (gA w9 13 4 x7).bind fun x12 =>
        some x12
      else
        if a4 = (3 : Int32) then
          (gA w9 13 6 x7).bind fun x11 =>
          some x11
        else
          (gA w9 13 5 x7).bind fun x10 =>
          some x10
      ).bind fun x13 =>
    (aL w9 x13 ((a2 * (3 : Int32)) + a3)).bind fun x14 =>
    some (.inr x14, w9)
  else
    if a4 = (1 : Int32) then
      zB2 (zNew w5 18 (.inr (13, df_X14))) fun x15 w16 =>
      (zV (decide (x15 ≠ none)) (f_X14_init n x15 a0 a1 w16)).bind fun w17 =>
      (
        if a4 = (0 : Int32) then
          (gA w17 13 4 x15).bind fun x20 =>
          some x20
        else
          if a4 = (3 : Int32) then
            (gA w17 13 6 x15).bind fun x19 =>
            some x19
          else
            (gA w17 13 5 x15).bind fun x18 =>
            some x18
        ).bind fun x21 =>
      (aL w17 x21 ((a2 * (3 : Int32)) + a3)).bind fun x22 =>
      some (.inr x22, w17)
    else
      if a4 = (3 : Int32) then
        zB2 (zNew w5 18 (.inr (13, df_X14))) fun x23 w24 =>
        (zV (decide (x23 ≠ none)) (f_X14_init n x23 a0 a1 w24)).bind fun w25 =>
        (
          if a4 = (0 : Int32) then
            (gA w25 13 4 x23).bind fun x28 =>
            some x28
          else
            if a4 = (3 : Int32) then
              (gA w25 13 6 x23).bind fun x27 =>
              some x27
            else
              (gA w25 13 5 x23).bind fun x26 =>
              some x26
          ).bind fun x29 =>
        (aL w25 x29 ((a2 * (3 : Int32)) + a3)).bind fun x30 =>
        some (.inr x30, w25)
      else
        zThr "java/lang/IllegalArgumentException" w5
theorem mt_X1_slipIn : zMt yX1_slipIn cX1_slipIn 7 (some .long) 4 := ⟨q2030, q66, ⟨by decide, by decide⟩, by decide +kernel, by decide⟩
set_option maxHeartbeats 4000000 in
theorem k_X1_slipIn {l : Launch} {n : Nat} {a0 : Option Nat} {a1 : Int32} {a2 : Int32} {a3 : Int32} {a4 : Int32} {w : zWd} (r : String ⊕ Int64) (w9 : zWd) (hf : f_X1_slipIn n a0 a1 a2 a3 a4 w = some (r, w9)) : zCt l yX1_slipIn cX1_slipIn 7 (some .long) 12 [vA a0, vI a1, vI a2, vI a3, vI a4] w (zXL r w9) := by
  refine zCt_of (lv := [some (vA a0), some (vI a1), some (vI a2), some (vI a3), some (vI a4), none, none]) (by decide +kernel) 2 rfl rfl ?_
  intro X hX hI hN hQ
  have hX : zGd X RX1 cX1_slipIn 7 (some .long) 12 := hX
  unfold f_X1_slipIn at hf
  refine j_iload_n (pc := 0) hX dX1_slipIn_0 rfl ?_
  refine j_bipush (pc := 1) hX (6 : Int32) dX1_slipIn_1 (by decide +kernel) ?_
  obtain ⟨⟨q_, w1⟩, hc_, hf⟩ := zob hf
  cases q_ with
  | inl E_ =>
    cases hf
    exact j_callSX (pc := 3) hX mt_X1_at q507 q508 [vI a1, vI (6 : Int32)] rfl rfl (Nat.le_of_ble_eq_true rfl) (by decide) dX1_slipIn_3 hN hQ (k_X1_at _ _ hc_)
  | inr x2 =>
    refine j_callS (pc := 3) hX mt_X1_at q507 q508 [vI a1, vI (6 : Int32)] rfl rfl (Nat.le_of_ble_eq_true rfl) (by decide) dX1_slipIn_3 (k_X1_at _ _ hc_) ?_
    refine j_pop (pc := 6) hX rfl dX1_slipIn_6 ?_
    refine j_iload_n (pc := 7) hX dX1_slipIn_7 rfl ?_
    refine j_bipush (pc := 8) hX (24 : Int32) dX1_slipIn_8 (by decide +kernel) ?_
    obtain ⟨⟨q_, w3⟩, hc_, hf⟩ := zob hf
    cases q_ with
    | inl E_ =>
      cases hf
      exact j_callSX (pc := 10) hX mt_X1_at q507 q508 [vI a2, vI (24 : Int32)] rfl rfl (Nat.le_of_ble_eq_true rfl) (by decide) dX1_slipIn_10 hN hQ (k_X1_at _ _ hc_)
    | inr x4 =>
      refine j_callS (pc := 10) hX mt_X1_at q507 q508 [vI a2, vI (24 : Int32)] rfl rfl (Nat.le_of_ble_eq_true rfl) (by decide) dX1_slipIn_10 (k_X1_at _ _ hc_) ?_
      refine j_pop (pc := 13) hX rfl dX1_slipIn_13 ?_
      refine j_iload_n (pc := 14) hX dX1_slipIn_14 rfl ?_
      refine j_iconst (pc := 15) hX (3 : Int32) dX1_slipIn_15 rfl ?_
      obtain ⟨⟨q_, w5⟩, hc_, hf⟩ := zob hf
      cases q_ with
      | inl E_ =>
        cases hf
        exact j_callSX (pc := 16) hX mt_X1_at q507 q508 [vI a3, vI (3 : Int32)] rfl rfl (Nat.le_of_ble_eq_true rfl) (by decide) dX1_slipIn_16 hN hQ (k_X1_at _ _ hc_)
      | inr x6 =>
        refine j_callS (pc := 16) hX mt_X1_at q507 q508 [vI a3, vI (3 : Int32)] rfl rfl (Nat.le_of_ble_eq_true rfl) (by decide) dX1_slipIn_16 (k_X1_at _ _ hc_) ?_
        refine j_pop (pc := 19) hX rfl dX1_slipIn_19 ?_
        refine j_iload (pc := 20) hX dX1_slipIn_20 rfl ?_
        refine j_if_eq (pc := 22) hX 48 dX1_slipIn_22 rfl hf (fun h_ hf => ?_) (fun h_ hf => ?_)
        · refine j_new (pc := 48) hX kX14 q1580 q1581 q111 df_X14 df_X14_ok dX1_slipIn_48 hf (fun x7 w8 hf => ?_)
          refine j_dup (pc := 51) hX rfl dX1_slipIn_51 ?_
          refine j_aload_n (pc := 52) hX dX1_slipIn_52 rfl ?_
          refine j_iload_n (pc := 53) hX dX1_slipIn_53 rfl ?_
          obtain ⟨w9, hc_, hf⟩ := zob hf
          obtain ⟨hi_, hc_⟩ := zV_e hc_
          refine j_callI (pc := 54) hX mt_X14_init q1582 q1583 rfl rfl [vA a0, vI a1] rfl rfl (Nat.le_of_ble_eq_true rfl) (by decide) dX1_slipIn_54 (of_decide_eq_true hi_) (k_X14_init () _ hc_) ?_
          refine j_astore (pc := 57) hX dX1_slipIn_57 (by decide) [some (vA a0), some (vI a1), some (vI a2), some (vI a3), some (vI a4), some (vA x7), none] rfl ?_
          refine j_iload (pc := 59) hX dX1_slipIn_59 rfl ?_
          obtain ⟨x13, hm_, hf⟩ := zob hf
          have kj61 : zJ X 91 [none, none, some (vI a2), some (vI a3), none, none, none] [vA x13] w9 := by
            clear hm_
            refine j_astore (pc := 91) hX dX1_slipIn_91 (by decide) [none, none, some (vI a2), some (vI a3), none, none, some (vA x13)] rfl ?_
            refine j_aload (pc := 93) hX dX1_slipIn_93 rfl ?_
            refine j_iload_n (pc := 95) hX dX1_slipIn_95 rfl ?_
            refine j_iconst (pc := 96) hX (3 : Int32) dX1_slipIn_96 rfl ?_
            refine j_imul (pc := 97) hX dX1_slipIn_97 ?_
            refine j_iload_n (pc := 98) hX dX1_slipIn_98 rfl ?_
            refine j_iadd (pc := 99) hX dX1_slipIn_99 ?_
            refine j_laload (pc := 100) hX dX1_slipIn_100 hf (fun x14 hx_ hf => ?_)
            exact j_lreturn (pc := 101) hX hQ (by cases hf; rfl) dX1_slipIn_101
          have hf := hm_
          refine j_if_ne (pc := 61) hX 72 dX1_slipIn_61 rfl hf (fun h_ hf => ?_) (fun h_ hf => ?_)
          · refine j_iload (pc := 72) hX dX1_slipIn_72 rfl ?_
            refine j_iconst (pc := 74) hX (3 : Int32) dX1_slipIn_74 rfl ?_
            refine j_icmp_ne (pc := 75) hX 86 dX1_slipIn_75 rfl hf (fun h_ hf => ?_) (fun h_ hf => ?_)
            · refine j_aload (pc := 86) hX dX1_slipIn_86 rfl ?_
              refine j_getAN (pc := 88) hX kX14 (k := 5) (Nat.le_of_ble_eq_true rfl) q1961 rfl dX1_slipIn_88 hf (fun x10 hx_ hf => ?_)
              refine j_fg [0, 1, 4, 5] [none, none, some (vI a2), some (vI a3), none, none, none] rfl ?_
              cases hf
              exact kj61
            · refine j_aload (pc := 78) hX dX1_slipIn_78 rfl ?_
              refine j_getAN (pc := 80) hX kX14 (k := 6) (Nat.le_of_ble_eq_true rfl) q1963 rfl dX1_slipIn_80 hf (fun x11 hx_ hf => ?_)
              refine j_goto (pc := 83) hX 91 dX1_slipIn_83 rfl ?_
              refine j_fg [0, 1, 4, 5] [none, none, some (vI a2), some (vI a3), none, none, none] rfl ?_
              cases hf
              exact kj61
          · refine j_aload (pc := 64) hX dX1_slipIn_64 rfl ?_
            refine j_getAN (pc := 66) hX kX14 (k := 4) (Nat.le_of_ble_eq_true rfl) q1959 rfl dX1_slipIn_66 hf (fun x12 hx_ hf => ?_)
            refine j_goto (pc := 69) hX 91 dX1_slipIn_69 rfl ?_
            refine j_fg [0, 1, 4, 5] [none, none, some (vI a2), some (vI a3), none, none, none] rfl ?_
            cases hf
            exact kj61
        · refine j_iload (pc := 25) hX dX1_slipIn_25 rfl ?_
          refine j_iconst (pc := 27) hX (1 : Int32) dX1_slipIn_27 rfl ?_
          refine j_icmp_eq (pc := 28) hX 48 dX1_slipIn_28 rfl hf (fun h_ hf => ?_) (fun h_ hf => ?_)
          · refine j_new (pc := 48) hX kX14 q1580 q1581 q111 df_X14 df_X14_ok dX1_slipIn_48 hf (fun x15 w16 hf => ?_)
            refine j_dup (pc := 51) hX rfl dX1_slipIn_51 ?_
            refine j_aload_n (pc := 52) hX dX1_slipIn_52 rfl ?_
            refine j_iload_n (pc := 53) hX dX1_slipIn_53 rfl ?_
            obtain ⟨w17, hc_, hf⟩ := zob hf
            obtain ⟨hi_, hc_⟩ := zV_e hc_
            refine j_callI (pc := 54) hX mt_X14_init q1582 q1583 rfl rfl [vA a0, vI a1] rfl rfl (Nat.le_of_ble_eq_true rfl) (by decide) dX1_slipIn_54 (of_decide_eq_true hi_) (k_X14_init () _ hc_) ?_
            refine j_astore (pc := 57) hX dX1_slipIn_57 (by decide) [some (vA a0), some (vI a1), some (vI a2), some (vI a3), some (vI a4), some (vA x15), none] rfl ?_
            refine j_iload (pc := 59) hX dX1_slipIn_59 rfl ?_
            obtain ⟨x21, hm_, hf⟩ := zob hf
            have kj61 : zJ X 91 [none, none, some (vI a2), some (vI a3), none, none, none] [vA x21] w17 := by
              clear hm_
              refine j_astore (pc := 91) hX dX1_slipIn_91 (by decide) [none, none, some (vI a2), some (vI a3), none, none, some (vA x21)] rfl ?_
              refine j_aload (pc := 93) hX dX1_slipIn_93 rfl ?_
              refine j_iload_n (pc := 95) hX dX1_slipIn_95 rfl ?_
              refine j_iconst (pc := 96) hX (3 : Int32) dX1_slipIn_96 rfl ?_
              refine j_imul (pc := 97) hX dX1_slipIn_97 ?_
              refine j_iload_n (pc := 98) hX dX1_slipIn_98 rfl ?_
              refine j_iadd (pc := 99) hX dX1_slipIn_99 ?_
              refine j_laload (pc := 100) hX dX1_slipIn_100 hf (fun x22 hx_ hf => ?_)
              exact j_lreturn (pc := 101) hX hQ (by cases hf; rfl) dX1_slipIn_101
            have hf := hm_
            refine j_if_ne (pc := 61) hX 72 dX1_slipIn_61 rfl hf (fun h_ hf => ?_) (fun h_ hf => ?_)
            · refine j_iload (pc := 72) hX dX1_slipIn_72 rfl ?_
              refine j_iconst (pc := 74) hX (3 : Int32) dX1_slipIn_74 rfl ?_
              refine j_icmp_ne (pc := 75) hX 86 dX1_slipIn_75 rfl hf (fun h_ hf => ?_) (fun h_ hf => ?_)
              · refine j_aload (pc := 86) hX dX1_slipIn_86 rfl ?_
                refine j_getAN (pc := 88) hX kX14 (k := 5) (Nat.le_of_ble_eq_true rfl) q1961 rfl dX1_slipIn_88 hf (fun x18 hx_ hf => ?_)
                refine j_fg [0, 1, 4, 5] [none, none, some (vI a2), some (vI a3), none, none, none] rfl ?_
                cases hf
                exact kj61
              · refine j_aload (pc := 78) hX dX1_slipIn_78 rfl ?_
                refine j_getAN (pc := 80) hX kX14 (k := 6) (Nat.le_of_ble_eq_true rfl) q1963 rfl dX1_slipIn_80 hf (fun x19 hx_ hf => ?_)
                refine j_goto (pc := 83) hX 91 dX1_slipIn_83 rfl ?_
                refine j_fg [0, 1, 4, 5] [none, none, some (vI a2), some (vI a3), none, none, none] rfl ?_
                cases hf
                exact kj61
            · refine j_aload (pc := 64) hX dX1_slipIn_64 rfl ?_
              refine j_getAN (pc := 66) hX kX14 (k := 4) (Nat.le_of_ble_eq_true rfl) q1959 rfl dX1_slipIn_66 hf (fun x20 hx_ hf => ?_)
              refine j_goto (pc := 69) hX 91 dX1_slipIn_69 rfl ?_
              refine j_fg [0, 1, 4, 5] [none, none, some (vI a2), some (vI a3), none, none, none] rfl ?_
              cases hf
              exact kj61
          · refine j_iload (pc := 31) hX dX1_slipIn_31 rfl ?_
            refine j_iconst (pc := 33) hX (3 : Int32) dX1_slipIn_33 rfl ?_
            refine j_icmp_eq (pc := 34) hX 48 dX1_slipIn_34 rfl hf (fun h_ hf => ?_) (fun h_ hf => ?_)
            · refine j_new (pc := 48) hX kX14 q1580 q1581 q111 df_X14 df_X14_ok dX1_slipIn_48 hf (fun x23 w24 hf => ?_)
              refine j_dup (pc := 51) hX rfl dX1_slipIn_51 ?_
              refine j_aload_n (pc := 52) hX dX1_slipIn_52 rfl ?_
              refine j_iload_n (pc := 53) hX dX1_slipIn_53 rfl ?_
              obtain ⟨w25, hc_, hf⟩ := zob hf
              obtain ⟨hi_, hc_⟩ := zV_e hc_
              refine j_callI (pc := 54) hX mt_X14_init q1582 q1583 rfl rfl [vA a0, vI a1] rfl rfl (Nat.le_of_ble_eq_true rfl) (by decide) dX1_slipIn_54 (of_decide_eq_true hi_) (k_X14_init () _ hc_) ?_
              refine j_astore (pc := 57) hX dX1_slipIn_57 (by decide) [some (vA a0), some (vI a1), some (vI a2), some (vI a3), some (vI a4), some (vA x23), none] rfl ?_
              refine j_iload (pc := 59) hX dX1_slipIn_59 rfl ?_
              obtain ⟨x29, hm_, hf⟩ := zob hf
              have kj61 : zJ X 91 [none, none, some (vI a2), some (vI a3), none, none, none] [vA x29] w25 := by
                clear hm_
                refine j_astore (pc := 91) hX dX1_slipIn_91 (by decide) [none, none, some (vI a2), some (vI a3), none, none, some (vA x29)] rfl ?_
                refine j_aload (pc := 93) hX dX1_slipIn_93 rfl ?_
                refine j_iload_n (pc := 95) hX dX1_slipIn_95 rfl ?_
                refine j_iconst (pc := 96) hX (3 : Int32) dX1_slipIn_96 rfl ?_
                refine j_imul (pc := 97) hX dX1_slipIn_97 ?_
                refine j_iload_n (pc := 98) hX dX1_slipIn_98 rfl ?_
                refine j_iadd (pc := 99) hX dX1_slipIn_99 ?_
                refine j_laload (pc := 100) hX dX1_slipIn_100 hf (fun x30 hx_ hf => ?_)
                exact j_lreturn (pc := 101) hX hQ (by cases hf; rfl) dX1_slipIn_101
              have hf := hm_
              refine j_if_ne (pc := 61) hX 72 dX1_slipIn_61 rfl hf (fun h_ hf => ?_) (fun h_ hf => ?_)
              · refine j_iload (pc := 72) hX dX1_slipIn_72 rfl ?_
                refine j_iconst (pc := 74) hX (3 : Int32) dX1_slipIn_74 rfl ?_
                refine j_icmp_ne (pc := 75) hX 86 dX1_slipIn_75 rfl hf (fun h_ hf => ?_) (fun h_ hf => ?_)
                · refine j_aload (pc := 86) hX dX1_slipIn_86 rfl ?_
                  refine j_getAN (pc := 88) hX kX14 (k := 5) (Nat.le_of_ble_eq_true rfl) q1961 rfl dX1_slipIn_88 hf (fun x26 hx_ hf => ?_)
                  refine j_fg [0, 1, 4, 5] [none, none, some (vI a2), some (vI a3), none, none, none] rfl ?_
                  cases hf
                  exact kj61
                · refine j_aload (pc := 78) hX dX1_slipIn_78 rfl ?_
                  refine j_getAN (pc := 80) hX kX14 (k := 6) (Nat.le_of_ble_eq_true rfl) q1963 rfl dX1_slipIn_80 hf (fun x27 hx_ hf => ?_)
                  refine j_goto (pc := 83) hX 91 dX1_slipIn_83 rfl ?_
                  refine j_fg [0, 1, 4, 5] [none, none, some (vI a2), some (vI a3), none, none, none] rfl ?_
                  cases hf
                  exact kj61
              · refine j_aload (pc := 64) hX dX1_slipIn_64 rfl ?_
                refine j_getAN (pc := 66) hX kX14 (k := 4) (Nat.le_of_ble_eq_true rfl) q1959 rfl dX1_slipIn_66 hf (fun x28 hx_ hf => ?_)
                refine j_goto (pc := 69) hX 91 dX1_slipIn_69 rfl ?_
                refine j_fg [0, 1, 4, 5] [none, none, some (vI a2), some (vI a3), none, none, none] rfl ?_
                cases hf
                exact kj61
            · obtain ⟨hr_, hf⟩ := zThr_e hf
              cases hf
              exact j_throwSW (pc := 37) (E := "java/lang/IllegalArgumentException") (names := ["java/lang/RuntimeException", "java/lang/Exception"]) hX hN hQ 10 rfl (by decide +kernel) (by decide +kernel) q526 q89 zth_245_1 zth_245_2 zth_245_3 dX1_slipIn_37 dX1_slipIn_40 (Or.inl dX1_slipIn_41) dX1_slipIn_44 dX1_slipIn_47 (by decide) (Nat.le_of_ble_eq_true rfl) hr_
def f_X1_elementOf (n : Nat) (a0 : Option Nat) (a1 : Int32) (a2 : Int32) (a3 : Int32) (w : zWd) : Option ((String ⊕ Int64) × zWd) :=
  (gA w 0 7 a0).bind fun x1 =>
  zB2 (zV (isC w 18 x1) (f_J2_size n x1 w)) fun x3 w2 =>
  zBX (f_X1_at n a1 x3 w2) fun x5 w4 =>
  zBX (f_X1_at n a2 (6 : Int32) w4) fun x7 w6 =>
  zBX (f_X1_at n a3 (24 : Int32) w6) fun x9 w8 =>
  zB2 (zNew w8 18 (.inr (13, df_X14))) fun x10 w11 =>
  (zV (decide (x10 ≠ none)) (f_X14_init n x10 a0 a2 w11)).bind fun w12 =>
  (gA w12 13 2 x10).bind fun x13 =>
  (aL w12 x13 ((a3 * (6 : Int32)) + a1)).bind fun x14 =>
  some (.inr x14, w12)
theorem mt_X1_elementOf : zMt yX1_elementOf cX1_elementOf 4 (some .long) 3 := ⟨q2038, q66, ⟨by decide, by decide⟩, by decide +kernel, by decide⟩
set_option maxHeartbeats 4000000 in
theorem k_X1_elementOf {l : Launch} {n : Nat} {a0 : Option Nat} {a1 : Int32} {a2 : Int32} {a3 : Int32} {w : zWd} (r : String ⊕ Int64) (w9 : zWd) (hf : f_X1_elementOf n a0 a1 a2 a3 w = some (r, w9)) : zCt l yX1_elementOf cX1_elementOf 4 (some .long) 12 [vA a0, vI a1, vI a2, vI a3] w (zXL r w9) := by
  refine zCt_of (lv := [some (vA a0), some (vI a1), some (vI a2), some (vI a3)]) (by decide +kernel) 0 rfl rfl ?_
  intro X hX hI hN hQ
  have hX : zGd X RX1 cX1_elementOf 4 (some .long) 12 := hX
  unfold f_X1_elementOf at hf
  refine j_iload_n (pc := 0) hX dX1_elementOf_0 rfl ?_
  refine j_aload_n (pc := 1) hX dX1_elementOf_1 rfl ?_
  refine j_getA (pc := 2) hX kX1 (k := 7) (Nat.le_of_ble_eq_true rfl) q344 (Or.inl rfl) dX1_elementOf_2 hf (fun x1 hx_ hf => ?_)
  obtain ⟨x3, w2, hc_, hf⟩ := zB2_e hf
  obtain ⟨hi_, hc_⟩ := zV_e hc_
  refine j_callF (pc := 5) hX (ci := 18) mt_J2_size q413 q418 q416 (by decide +kernel) rfl hi_ ⟨_, rfl, rfl⟩ [] rfl rfl (Nat.le_of_ble_eq_true rfl) (by decide) dX1_elementOf_5 (k_J2_size _ _ hc_) ?_
  obtain ⟨⟨q_, w4⟩, hc_, hf⟩ := zob hf
  cases q_ with
  | inl E_ =>
    cases hf
    exact j_callSX (pc := 10) hX mt_X1_at q507 q508 [vI a1, vI x3] rfl rfl (Nat.le_of_ble_eq_true rfl) (by decide) dX1_elementOf_10 hN hQ (k_X1_at _ _ hc_)
  | inr x5 =>
    refine j_callS (pc := 10) hX mt_X1_at q507 q508 [vI a1, vI x3] rfl rfl (Nat.le_of_ble_eq_true rfl) (by decide) dX1_elementOf_10 (k_X1_at _ _ hc_) ?_
    refine j_pop (pc := 13) hX rfl dX1_elementOf_13 ?_
    refine j_iload_n (pc := 14) hX dX1_elementOf_14 rfl ?_
    refine j_bipush (pc := 15) hX (6 : Int32) dX1_elementOf_15 (by decide +kernel) ?_
    obtain ⟨⟨q_, w6⟩, hc_, hf⟩ := zob hf
    cases q_ with
    | inl E_ =>
      cases hf
      exact j_callSX (pc := 17) hX mt_X1_at q507 q508 [vI a2, vI (6 : Int32)] rfl rfl (Nat.le_of_ble_eq_true rfl) (by decide) dX1_elementOf_17 hN hQ (k_X1_at _ _ hc_)
    | inr x7 =>
      refine j_callS (pc := 17) hX mt_X1_at q507 q508 [vI a2, vI (6 : Int32)] rfl rfl (Nat.le_of_ble_eq_true rfl) (by decide) dX1_elementOf_17 (k_X1_at _ _ hc_) ?_
      refine j_pop (pc := 20) hX rfl dX1_elementOf_20 ?_
      refine j_iload_n (pc := 21) hX dX1_elementOf_21 rfl ?_
      refine j_bipush (pc := 22) hX (24 : Int32) dX1_elementOf_22 (by decide +kernel) ?_
      obtain ⟨⟨q_, w8⟩, hc_, hf⟩ := zob hf
      cases q_ with
      | inl E_ =>
        cases hf
        exact j_callSX (pc := 24) hX mt_X1_at q507 q508 [vI a3, vI (24 : Int32)] rfl rfl (Nat.le_of_ble_eq_true rfl) (by decide) dX1_elementOf_24 hN hQ (k_X1_at _ _ hc_)
      | inr x9 =>
        refine j_callS (pc := 24) hX mt_X1_at q507 q508 [vI a3, vI (24 : Int32)] rfl rfl (Nat.le_of_ble_eq_true rfl) (by decide) dX1_elementOf_24 (k_X1_at _ _ hc_) ?_
        refine j_pop (pc := 27) hX rfl dX1_elementOf_27 ?_
        refine j_new (pc := 28) hX kX14 q1580 q1581 q111 df_X14 df_X14_ok dX1_elementOf_28 hf (fun x10 w11 hf => ?_)
        refine j_dup (pc := 31) hX rfl dX1_elementOf_31 ?_
        refine j_aload_n (pc := 32) hX dX1_elementOf_32 rfl ?_
        refine j_iload_n (pc := 33) hX dX1_elementOf_33 rfl ?_
        obtain ⟨w12, hc_, hf⟩ := zob hf
        obtain ⟨hi_, hc_⟩ := zV_e hc_
        refine j_callI (pc := 34) hX mt_X14_init q1582 q1583 rfl rfl [vA a0, vI a2] rfl rfl (Nat.le_of_ble_eq_true rfl) (by decide) dX1_elementOf_34 (of_decide_eq_true hi_) (k_X14_init () _ hc_) ?_
        refine j_getAN (pc := 37) hX kX14 (k := 2) (Nat.le_of_ble_eq_true rfl) q1956 rfl dX1_elementOf_37 hf (fun x13 hx_ hf => ?_)
        refine j_iload_n (pc := 40) hX dX1_elementOf_40 rfl ?_
        refine j_bipush (pc := 41) hX (6 : Int32) dX1_elementOf_41 (by decide +kernel) ?_
        refine j_imul (pc := 43) hX dX1_elementOf_43 ?_
        refine j_iload_n (pc := 44) hX dX1_elementOf_44 rfl ?_
        refine j_iadd (pc := 45) hX dX1_elementOf_45 ?_
        refine j_laload (pc := 46) hX dX1_elementOf_46 hf (fun x14 hx_ hf => ?_)
        exact j_lreturn (pc := 47) hX hQ (by cases hf; rfl) dX1_elementOf_47
def f_X1_pensionOf_L36b (n : Nat) (c2 : Int32) (c3 : Option Nat) (w : zWd) (rec : Int64 → Int64 → Int32 → Int32 → Option (Int64 × Int64 × Int32)) (v4 : Int64) (v6 : Int64) (v8 : Int32) (v9 : Int32) : Option (Int64 × Int64 × Int32) :=
  if c2 < v9 then
    some (v4, v6, v8)
  else
    (gA w 13 11 c3).bind fun x8 =>
    (aL w x8 v9).bind fun x9 =>
    (gA w 13 12 c3).bind fun x10 =>
    (aL w x10 v9).bind fun x11 =>
    (gA w 13 11 c3).bind fun x12 =>
    (aL w x12 v9).bind fun x13 =>
    (
      if (lg_cmp x13 (0 : Int64)) ≤ (0 : Int32) then
        some (0 : Int32)
      else
        some (1 : Int32)
      ).bind fun x14 =>
    rec (v4 + x9) (v6 + x11) (v8 + x14) (v9 + (1))
def f_X1_pensionOf_L36 (n : Nat) (c2 : Int32) (c3 : Option Nat) (w : zWd) : Nat → Int64 → Int64 → Int32 → Int32 → Option (Int64 × Int64 × Int32)
  | 0, _, _, _, _ => none
  | k + 1, v4, v6, v8, v9 => f_X1_pensionOf_L36b n c2 c3 w (f_X1_pensionOf_L36 n c2 c3 w k) v4 v6 v8 v9
def f_X1_pensionOf (n : Nat) (a0 : Option Nat) (a1 : Int32) (a2 : Int32) (w : zWd) : Option ((String ⊕ Int64) × zWd) :=
  zBX (f_X1_at n a1 (6 : Int32) w) fun x2 w1 =>
  zBX (f_X1_at n a2 (24 : Int32) w1) fun x4 w3 =>
  zB2 (zNew w3 18 (.inr (13, df_X14))) fun x5 w6 =>
  (zV (decide (x5 ≠ none)) (f_X14_init n x5 a0 a1 w6)).bind fun w7 =>
  zB3 (f_X1_pensionOf_L36 n a2 x5 w7 n (0 : Int64) (0 : Int64) (0 : Int32) (0 : Int32)) fun x15 x16 x17 =>
  (
    if x17 < (6 : Int32) then
      some (0 : Int64)
    else
      some x16
    ).bind fun x18 =>
  some (.inr (x15 + x18), w7)
theorem mt_X1_pensionOf : zMt yX1_pensionOf cX1_pensionOf 10 (some .long) 2 := ⟨q2045, q66, ⟨by decide, by decide⟩, by decide +kernel, by decide⟩
set_option maxHeartbeats 4000000 in
theorem lp_X1_pensionOf_L36 {X : zX} (hX : zGd X RX1 cX1_pensionOf 10 (some .long) 12) (n : Nat) (c2 : Int32) (c3 : Option Nat) (w : zWd) : ∀ (k : Nat) (v4 : Int64) (v6 : Int64) (v8 : Int32) (v9 : Int32) (o4 : Int64) (o6 : Int64) (o8 : Int32) , f_X1_pensionOf_L36 n c2 c3 w k v4 v6 v8 v9 = some (o4, o6, o8) → zJ X 94 [none, none, some (vI c2), some (vA c3), some (vL o4), none, some (vL o6), none, some (vI o8), none] [] w → zJ X 36 [none, none, some (vI c2), some (vA c3), some (vL v4), none, some (vL v6), none, some (vI v8), some (vI v9)] [] w := by
  intro k
  induction k with
  | zero => intro v4 v6 v8 v9 o4 o6 o8 hf _; exact nomatch (show (none : Option (Int64 × Int64 × Int32)) = _ from hf)
  | succ k ih =>
    intro v4 v6 v8 v9 o4 o6 o8 hf kx
    have hf : f_X1_pensionOf_L36b n c2 c3 w (f_X1_pensionOf_L36 n c2 c3 w k) v4 v6 v8 v9 = _ := hf
    unfold f_X1_pensionOf_L36b at hf
    refine j_iload (pc := 36) hX dX1_pensionOf_36 rfl ?_
    refine j_iload_n (pc := 38) hX dX1_pensionOf_38 rfl ?_
    refine j_icmp_gt (pc := 39) hX 94 dX1_pensionOf_39 rfl hf (fun h_ hf => ?_) (fun h_ hf => ?_)
    · refine j_fg [9] [none, none, some (vI c2), some (vA c3), some (vL v4), none, some (vL v6), none, some (vI v8), none] rfl ?_
      cases hf
      exact kx
    · refine j_lload (pc := 42) hX dX1_pensionOf_42 rfl ?_
      refine j_aload_n (pc := 44) hX dX1_pensionOf_44 rfl ?_
      refine j_getAN (pc := 45) hX kX14 (k := 11) (Nat.le_of_ble_eq_true rfl) q1969 rfl dX1_pensionOf_45 hf (fun x8 hx_ hf => ?_)
      refine j_iload (pc := 48) hX dX1_pensionOf_48 rfl ?_
      refine j_laload (pc := 50) hX dX1_pensionOf_50 hf (fun x9 hx_ hf => ?_)
      refine j_ladd (pc := 51) hX dX1_pensionOf_51 ?_
      refine j_lstore (pc := 52) hX dX1_pensionOf_52 (by decide) [none, none, some (vI c2), some (vA c3), some (vL (v4 + x9)), none, some (vL v6), none, some (vI v8), some (vI v9)] rfl ?_
      refine j_lload (pc := 54) hX dX1_pensionOf_54 rfl ?_
      refine j_aload_n (pc := 56) hX dX1_pensionOf_56 rfl ?_
      refine j_getAN (pc := 57) hX kX14 (k := 12) (Nat.le_of_ble_eq_true rfl) q1971 rfl dX1_pensionOf_57 hf (fun x10 hx_ hf => ?_)
      refine j_iload (pc := 60) hX dX1_pensionOf_60 rfl ?_
      refine j_laload (pc := 62) hX dX1_pensionOf_62 hf (fun x11 hx_ hf => ?_)
      refine j_ladd (pc := 63) hX dX1_pensionOf_63 ?_
      refine j_lstore (pc := 64) hX dX1_pensionOf_64 (by decide) [none, none, some (vI c2), some (vA c3), some (vL (v4 + x9)), none, some (vL (v6 + x11)), none, some (vI v8), some (vI v9)] rfl ?_
      refine j_iload (pc := 66) hX dX1_pensionOf_66 rfl ?_
      refine j_aload_n (pc := 68) hX dX1_pensionOf_68 rfl ?_
      refine j_getAN (pc := 69) hX kX14 (k := 11) (Nat.le_of_ble_eq_true rfl) q1969 rfl dX1_pensionOf_69 hf (fun x12 hx_ hf => ?_)
      refine j_iload (pc := 72) hX dX1_pensionOf_72 rfl ?_
      refine j_laload (pc := 74) hX dX1_pensionOf_74 hf (fun x13 hx_ hf => ?_)
      refine j_lconst (pc := 75) hX (0 : Int64) dX1_pensionOf_75 rfl ?_
      refine j_lcmp (pc := 76) hX dX1_pensionOf_76 ?_
      obtain ⟨x14, hm_, hf⟩ := zob hf
      have kj77 : zJ X 85 [none, none, some (vI c2), some (vA c3), some (vL (v4 + x9)), none, some (vL (v6 + x11)), none, none, some (vI v9)] [vI x14, vI v8] w := by
        clear hm_
        refine j_iadd (pc := 85) hX dX1_pensionOf_85 ?_
        refine j_istore (pc := 86) hX dX1_pensionOf_86 (by decide) [none, none, some (vI c2), some (vA c3), some (vL (v4 + x9)), none, some (vL (v6 + x11)), none, some (vI (v8 + x14)), some (vI v9)] rfl ?_
        refine j_iinc (pc := 88) hX (1) dX1_pensionOf_88 rfl rfl (by decide) [none, none, some (vI c2), some (vA c3), some (vL (v4 + x9)), none, some (vL (v6 + x11)), none, some (vI (v8 + x14)), some (vI (v9 + (1)))] rfl ?_
        refine j_goto (pc := 91) hX 36 dX1_pensionOf_91 rfl ?_
        exact ih _ _ _ _ _ _ _ hf kx
      have hf := hm_
      refine j_if_le (pc := 77) hX 84 dX1_pensionOf_77 rfl hf (fun h_ hf => ?_) (fun h_ hf => ?_)
      · refine j_iconst (pc := 84) hX (0 : Int32) dX1_pensionOf_84 rfl ?_
        refine j_fg [8] [none, none, some (vI c2), some (vA c3), some (vL (v4 + x9)), none, some (vL (v6 + x11)), none, none, some (vI v9)] rfl ?_
        cases hf
        exact kj77
      · refine j_iconst (pc := 80) hX (1 : Int32) dX1_pensionOf_80 rfl ?_
        refine j_goto (pc := 81) hX 85 dX1_pensionOf_81 rfl ?_
        refine j_fg [8] [none, none, some (vI c2), some (vA c3), some (vL (v4 + x9)), none, some (vL (v6 + x11)), none, none, some (vI v9)] rfl ?_
        cases hf
        exact kj77
set_option maxHeartbeats 4000000 in
theorem k_X1_pensionOf {l : Launch} {n : Nat} {a0 : Option Nat} {a1 : Int32} {a2 : Int32} {w : zWd} (r : String ⊕ Int64) (w9 : zWd) (hf : f_X1_pensionOf n a0 a1 a2 w = some (r, w9)) : zCt l yX1_pensionOf cX1_pensionOf 10 (some .long) 12 [vA a0, vI a1, vI a2] w (zXL r w9) := by
  refine zCt_of (lv := [some (vA a0), some (vI a1), some (vI a2), none, none, none, none, none, none, none]) (by decide +kernel) 7 rfl rfl ?_
  intro X hX hI hN hQ
  have hX : zGd X RX1 cX1_pensionOf 10 (some .long) 12 := hX
  unfold f_X1_pensionOf at hf
  refine j_iload_n (pc := 0) hX dX1_pensionOf_0 rfl ?_
  refine j_bipush (pc := 1) hX (6 : Int32) dX1_pensionOf_1 (by decide +kernel) ?_
  obtain ⟨⟨q_, w1⟩, hc_, hf⟩ := zob hf
  cases q_ with
  | inl E_ =>
    cases hf
    exact j_callSX (pc := 3) hX mt_X1_at q507 q508 [vI a1, vI (6 : Int32)] rfl rfl (Nat.le_of_ble_eq_true rfl) (by decide) dX1_pensionOf_3 hN hQ (k_X1_at _ _ hc_)
  | inr x2 =>
    refine j_callS (pc := 3) hX mt_X1_at q507 q508 [vI a1, vI (6 : Int32)] rfl rfl (Nat.le_of_ble_eq_true rfl) (by decide) dX1_pensionOf_3 (k_X1_at _ _ hc_) ?_
    refine j_pop (pc := 6) hX rfl dX1_pensionOf_6 ?_
    refine j_iload_n (pc := 7) hX dX1_pensionOf_7 rfl ?_
    refine j_bipush (pc := 8) hX (24 : Int32) dX1_pensionOf_8 (by decide +kernel) ?_
    obtain ⟨⟨q_, w3⟩, hc_, hf⟩ := zob hf
    cases q_ with
    | inl E_ =>
      cases hf
      exact j_callSX (pc := 10) hX mt_X1_at q507 q508 [vI a2, vI (24 : Int32)] rfl rfl (Nat.le_of_ble_eq_true rfl) (by decide) dX1_pensionOf_10 hN hQ (k_X1_at _ _ hc_)
    | inr x4 =>
      refine j_callS (pc := 10) hX mt_X1_at q507 q508 [vI a2, vI (24 : Int32)] rfl rfl (Nat.le_of_ble_eq_true rfl) (by decide) dX1_pensionOf_10 (k_X1_at _ _ hc_) ?_
      refine j_pop (pc := 13) hX rfl dX1_pensionOf_13 ?_
      refine j_new (pc := 14) hX kX14 q1580 q1581 q111 df_X14 df_X14_ok dX1_pensionOf_14 hf (fun x5 w6 hf => ?_)
      refine j_dup (pc := 17) hX rfl dX1_pensionOf_17 ?_
      refine j_aload_n (pc := 18) hX dX1_pensionOf_18 rfl ?_
      refine j_iload_n (pc := 19) hX dX1_pensionOf_19 rfl ?_
      obtain ⟨w7, hc_, hf⟩ := zob hf
      obtain ⟨hi_, hc_⟩ := zV_e hc_
      refine j_callI (pc := 20) hX mt_X14_init q1582 q1583 rfl rfl [vA a0, vI a1] rfl rfl (Nat.le_of_ble_eq_true rfl) (by decide) dX1_pensionOf_20 (of_decide_eq_true hi_) (k_X14_init () _ hc_) ?_
      refine j_astore_n (pc := 23) hX dX1_pensionOf_23 (by decide) [some (vA a0), some (vI a1), some (vI a2), some (vA x5), none, none, none, none, none, none] rfl ?_
      refine j_lconst (pc := 24) hX (0 : Int64) dX1_pensionOf_24 rfl ?_
      refine j_lstore (pc := 25) hX dX1_pensionOf_25 (by decide) [some (vA a0), some (vI a1), some (vI a2), some (vA x5), some (vL (0 : Int64)), none, none, none, none, none] rfl ?_
      refine j_lconst (pc := 27) hX (0 : Int64) dX1_pensionOf_27 rfl ?_
      refine j_lstore (pc := 28) hX dX1_pensionOf_28 (by decide) [some (vA a0), some (vI a1), some (vI a2), some (vA x5), some (vL (0 : Int64)), none, some (vL (0 : Int64)), none, none, none] rfl ?_
      refine j_iconst (pc := 30) hX (0 : Int32) dX1_pensionOf_30 rfl ?_
      refine j_istore (pc := 31) hX dX1_pensionOf_31 (by decide) [some (vA a0), some (vI a1), some (vI a2), some (vA x5), some (vL (0 : Int64)), none, some (vL (0 : Int64)), none, some (vI (0 : Int32)), none] rfl ?_
      refine j_iconst (pc := 33) hX (0 : Int32) dX1_pensionOf_33 rfl ?_
      refine j_istore (pc := 34) hX dX1_pensionOf_34 (by decide) [some (vA a0), some (vI a1), some (vI a2), some (vA x5), some (vL (0 : Int64)), none, some (vL (0 : Int64)), none, some (vI (0 : Int32)), some (vI (0 : Int32))] rfl ?_
      obtain ⟨x15, x16, x17, hm_, hf⟩ := zB3_e hf
      refine j_fg [0, 1] [none, none, some (vI a2), some (vA x5), some (vL (0 : Int64)), none, some (vL (0 : Int64)), none, some (vI (0 : Int32)), some (vI (0 : Int32))] rfl ?_
      refine lp_X1_pensionOf_L36 hX n _ _ _ _ _ _ _ _ _ _ _ hm_ ?_
      refine j_lload (pc := 94) hX dX1_pensionOf_94 rfl ?_
      refine j_iload (pc := 96) hX dX1_pensionOf_96 rfl ?_
      refine j_bipush (pc := 98) hX (6 : Int32) dX1_pensionOf_98 (by decide +kernel) ?_
      obtain ⟨x18, hm_, hf⟩ := zob hf
      have kj100 : zJ X 109 [none, none, none, none, none, none, none, none, none, none] [vL x18, vL x15] w7 := by
        clear hm_
        refine j_ladd (pc := 109) hX dX1_pensionOf_109 ?_
        exact j_lreturn (pc := 110) hX hQ (by cases hf; rfl) dX1_pensionOf_110
      have hf := hm_
      refine j_icmp_lt (pc := 100) hX 108 dX1_pensionOf_100 rfl hf (fun h_ hf => ?_) (fun h_ hf => ?_)
      · refine j_lconst (pc := 108) hX (0 : Int64) dX1_pensionOf_108 rfl ?_
        refine j_fg [2, 3, 4, 6, 8] [none, none, none, none, none, none, none, none, none, none] rfl ?_
        cases hf
        exact kj100
      · refine j_lload (pc := 103) hX dX1_pensionOf_103 rfl ?_
        refine j_goto (pc := 105) hX 109 dX1_pensionOf_105 rfl ?_
        refine j_fg [2, 3, 4, 6, 8] [none, none, none, none, none, none, none, none, none, none] rfl ?_
        cases hf
        exact kj100
def f_X1_grossFor_L72b (n : Nat) (c0 : Option Nat) (c1 : Int32) (c2 : Int32) (c3 : Int32) (c5 : Option Nat) (c6 : Int32) (c7 : Int64) (rec : Int32 → Int32 → zWd → Option (Int32 × zWd)) (v9 : Int32) (v10 : Int32) (w : zWd) : Option (Int32 × zWd) :=
  if (200 : Int32) < v10 then
    some (v9, w)
  else
    (gA w 13 13 c5).bind fun x18 =>
    (aL w x18 c2).bind fun x19 =>
    if (0 : Int32) ≤ (lg_cmp x19 c7) then
      some (v9, w)
    else
      (gA w 0 8 c0).bind fun x20 =>
      (aA w x20 c1).bind fun x21 =>
      (aA w x21 c2).bind fun x22 =>
      (sI w x22 c3 (c6 + (v10 * (10000 : Int32)))).bind fun w23 =>
      (zV (isC w23 13 c5) (f_X14_go n c5 (c2 + (1 : Int32)) w23)).bind fun w24 =>
      rec (v10 * (10000 : Int32)) (v10 + (1)) w24
def f_X1_grossFor_L72 (n : Nat) (c0 : Option Nat) (c1 : Int32) (c2 : Int32) (c3 : Int32) (c5 : Option Nat) (c6 : Int32) (c7 : Int64) : Nat → Int32 → Int32 → zWd → Option (Int32 × zWd)
  | 0, _, _, _ => none
  | k + 1, v9, v10, w => f_X1_grossFor_L72b n c0 c1 c2 c3 c5 c6 c7 (f_X1_grossFor_L72 n c0 c1 c2 c3 c5 c6 c7 k) v9 v10 w
def f_X1_grossFor (n : Nat) (a0 : Option Nat) (a1 : Int32) (a2 : Int32) (a3 : Int32) (a4 : Int32) (w : zWd) : Option ((String ⊕ Int32) × zWd) :=
  zBX (f_X1_at n a1 (6 : Int32) w) fun x2 w1 =>
  zBX (f_X1_at n a2 (24 : Int32) w1) fun x4 w3 =>
  zBX (f_X1_at n a3 (3 : Int32) w3) fun x6 w5 =>
  zBX (f_X1_in n a4 (1 : Int32) (1000000 : Int32) w5) fun x8 w7 =>
  zB2 (zNew w7 18 (.inr (13, df_X14))) fun x9 w10 =>
  (zV (decide (x9 ≠ none)) (f_X14_init n x9 a0 a1 w10)).bind fun w11 =>
  (gA w11 0 8 a0).bind fun x12 =>
  (aA w11 x12 a1).bind fun x13 =>
  (aA w11 x13 a2).bind fun x14 =>
  (aI w11 x14 a3).bind fun x15 =>
  (gA w11 13 13 x9).bind fun x16 =>
  (aL w11 x16 a2).bind fun x17 =>
  zB2 (f_X1_grossFor_L72 n a0 a1 a2 a3 x9 x15 (x17 + (Int32.toInt64 a4)) n (0 : Int32) (1 : Int32) w11) fun x25 w26 =>
  (gA w26 0 8 a0).bind fun x27 =>
  (aA w26 x27 a1).bind fun x28 =>
  (aA w26 x28 a2).bind fun x29 =>
  (sI w26 x29 a3 x15).bind fun w30 =>
  (gA w30 13 13 x9).bind fun x31 =>
  (aL w30 x31 a2).bind fun x32 =>
  (
    if (0 : Int32) ≤ (lg_cmp x32 (x17 + (Int32.toInt64 a4))) then
      some x25
    else
      some (-1 : Int32)
    ).bind fun x33 =>
  some (.inr x33, w30)
theorem mt_X1_grossFor : zMt yX1_grossFor cX1_grossFor 11 (some .int) 4 := ⟨q2052, q66, ⟨by decide, by decide⟩, by decide +kernel, by decide⟩
set_option maxHeartbeats 4000000 in
theorem lp_X1_grossFor_L72 {X : zX} (hX : zGd X RX1 cX1_grossFor 11 (some .int) 12) (n : Nat) (c0 : Option Nat) (c1 : Int32) (c2 : Int32) (c3 : Int32) (c5 : Option Nat) (c6 : Int32) (c7 : Int64) : ∀ (k : Nat) (v9 : Int32) (v10 : Int32) (w : zWd) (o9 : Int32) (w9 : zWd) , f_X1_grossFor_L72 n c0 c1 c2 c3 c5 c6 c7 k v9 v10 w = some (o9, w9) → zJ X 130 [some (vA c0), some (vI c1), some (vI c2), some (vI c3), none, some (vA c5), some (vI c6), some (vL c7), none, some (vI o9), none] [] w9 → zJ X 72 [some (vA c0), some (vI c1), some (vI c2), some (vI c3), none, some (vA c5), some (vI c6), some (vL c7), none, some (vI v9), some (vI v10)] [] w := by
  intro k
  induction k with
  | zero => intro v9 v10 w o9 w9 hf _; exact nomatch (show (none : Option (Int32 × zWd)) = _ from hf)
  | succ k ih =>
    intro v9 v10 w o9 w9 hf kx
    have hf : f_X1_grossFor_L72b n c0 c1 c2 c3 c5 c6 c7 (f_X1_grossFor_L72 n c0 c1 c2 c3 c5 c6 c7 k) v9 v10 w = _ := hf
    unfold f_X1_grossFor_L72b at hf
    refine j_iload (pc := 72) hX dX1_grossFor_72 rfl ?_
    refine j_sipush (pc := 74) hX (200 : Int32) dX1_grossFor_74 (by decide +kernel) ?_
    refine j_icmp_gt (pc := 77) hX 130 dX1_grossFor_77 rfl hf (fun h_ hf => ?_) (fun h_ hf => ?_)
    · refine j_fg [10] [some (vA c0), some (vI c1), some (vI c2), some (vI c3), none, some (vA c5), some (vI c6), some (vL c7), none, some (vI v9), none] rfl ?_
      cases hf
      exact kx
    · refine j_aload (pc := 80) hX dX1_grossFor_80 rfl ?_
      refine j_getAN (pc := 82) hX kX14 (k := 13) (Nat.le_of_ble_eq_true rfl) q1973 rfl dX1_grossFor_82 hf (fun x18 hx_ hf => ?_)
      refine j_iload_n (pc := 85) hX dX1_grossFor_85 rfl ?_
      refine j_laload (pc := 86) hX dX1_grossFor_86 hf (fun x19 hx_ hf => ?_)
      refine j_lload (pc := 87) hX dX1_grossFor_87 rfl ?_
      refine j_lcmp (pc := 89) hX dX1_grossFor_89 ?_
      refine j_if_ge (pc := 90) hX 130 dX1_grossFor_90 rfl hf (fun h_ hf => ?_) (fun h_ hf => ?_)
      · refine j_fg [10] [some (vA c0), some (vI c1), some (vI c2), some (vI c3), none, some (vA c5), some (vI c6), some (vL c7), none, some (vI v9), none] rfl ?_
        cases hf
        exact kx
      · refine j_iload (pc := 93) hX dX1_grossFor_93 rfl ?_
        refine j_sipush (pc := 95) hX (10000 : Int32) dX1_grossFor_95 (by decide +kernel) ?_
        refine j_imul (pc := 98) hX dX1_grossFor_98 ?_
        refine j_istore (pc := 99) hX dX1_grossFor_99 (by decide) [some (vA c0), some (vI c1), some (vI c2), some (vI c3), none, some (vA c5), some (vI c6), some (vL c7), none, some (vI (v10 * (10000 : Int32))), some (vI v10)] rfl ?_
        refine j_aload_n (pc := 101) hX dX1_grossFor_101 rfl ?_
        refine j_getA (pc := 102) hX kX1 (k := 8) (Nat.le_of_ble_eq_true rfl) q346 (Or.inl rfl) dX1_grossFor_102 hf (fun x20 hx_ hf => ?_)
        refine j_iload_n (pc := 105) hX dX1_grossFor_105 rfl ?_
        refine j_aaload (pc := 106) hX dX1_grossFor_106 hf (fun x21 hx_ hf => ?_)
        refine j_iload_n (pc := 107) hX dX1_grossFor_107 rfl ?_
        refine j_aaload (pc := 108) hX dX1_grossFor_108 hf (fun x22 hx_ hf => ?_)
        refine j_iload_n (pc := 109) hX dX1_grossFor_109 rfl ?_
        refine j_iload (pc := 110) hX dX1_grossFor_110 rfl ?_
        refine j_iload (pc := 112) hX dX1_grossFor_112 rfl ?_
        refine j_iadd (pc := 114) hX dX1_grossFor_114 ?_
        refine j_iastore (pc := 115) hX dX1_grossFor_115 hf (fun w23 hf => ?_)
        refine j_aload (pc := 116) hX dX1_grossFor_116 rfl ?_
        refine j_iload_n (pc := 118) hX dX1_grossFor_118 rfl ?_
        refine j_iconst (pc := 119) hX (1 : Int32) dX1_grossFor_119 rfl ?_
        refine j_iadd (pc := 120) hX dX1_grossFor_120 ?_
        obtain ⟨w24, hc_, hf⟩ := zob hf
        obtain ⟨hi_, hc_⟩ := zV_e hc_
        refine j_callV (pc := 121) hX (ci := 13) mt_X14_go q2053 q1901 q1902 hi_ ⟨_, rfl, rfl⟩ [vI (c2 + (1 : Int32))] rfl rfl (Nat.le_of_ble_eq_true rfl) (by decide) dX1_grossFor_121 (k_X14_go () _ hc_) ?_
        refine j_iinc (pc := 124) hX (1) dX1_grossFor_124 rfl rfl (by decide) [some (vA c0), some (vI c1), some (vI c2), some (vI c3), none, some (vA c5), some (vI c6), some (vL c7), none, some (vI (v10 * (10000 : Int32))), some (vI (v10 + (1)))] rfl ?_
        refine j_goto (pc := 127) hX 72 dX1_grossFor_127 rfl ?_
        exact ih _ _ _ _ _ hf kx
set_option maxHeartbeats 4000000 in
theorem k_X1_grossFor {l : Launch} {n : Nat} {a0 : Option Nat} {a1 : Int32} {a2 : Int32} {a3 : Int32} {a4 : Int32} {w : zWd} (r : String ⊕ Int32) (w9 : zWd) (hf : f_X1_grossFor n a0 a1 a2 a3 a4 w = some (r, w9)) : zCt l yX1_grossFor cX1_grossFor 11 (some .int) 12 [vA a0, vI a1, vI a2, vI a3, vI a4] w (zXI r w9) := by
  refine zCt_of (lv := [some (vA a0), some (vI a1), some (vI a2), some (vI a3), some (vI a4), none, none, none, none, none, none]) (by decide +kernel) 6 rfl rfl ?_
  intro X hX hI hN hQ
  have hX : zGd X RX1 cX1_grossFor 11 (some .int) 12 := hX
  unfold f_X1_grossFor at hf
  refine j_iload_n (pc := 0) hX dX1_grossFor_0 rfl ?_
  refine j_bipush (pc := 1) hX (6 : Int32) dX1_grossFor_1 (by decide +kernel) ?_
  obtain ⟨⟨q_, w1⟩, hc_, hf⟩ := zob hf
  cases q_ with
  | inl E_ =>
    cases hf
    exact j_callSX (pc := 3) hX mt_X1_at q507 q508 [vI a1, vI (6 : Int32)] rfl rfl (Nat.le_of_ble_eq_true rfl) (by decide) dX1_grossFor_3 hN hQ (k_X1_at _ _ hc_)
  | inr x2 =>
    refine j_callS (pc := 3) hX mt_X1_at q507 q508 [vI a1, vI (6 : Int32)] rfl rfl (Nat.le_of_ble_eq_true rfl) (by decide) dX1_grossFor_3 (k_X1_at _ _ hc_) ?_
    refine j_pop (pc := 6) hX rfl dX1_grossFor_6 ?_
    refine j_iload_n (pc := 7) hX dX1_grossFor_7 rfl ?_
    refine j_bipush (pc := 8) hX (24 : Int32) dX1_grossFor_8 (by decide +kernel) ?_
    obtain ⟨⟨q_, w3⟩, hc_, hf⟩ := zob hf
    cases q_ with
    | inl E_ =>
      cases hf
      exact j_callSX (pc := 10) hX mt_X1_at q507 q508 [vI a2, vI (24 : Int32)] rfl rfl (Nat.le_of_ble_eq_true rfl) (by decide) dX1_grossFor_10 hN hQ (k_X1_at _ _ hc_)
    | inr x4 =>
      refine j_callS (pc := 10) hX mt_X1_at q507 q508 [vI a2, vI (24 : Int32)] rfl rfl (Nat.le_of_ble_eq_true rfl) (by decide) dX1_grossFor_10 (k_X1_at _ _ hc_) ?_
      refine j_pop (pc := 13) hX rfl dX1_grossFor_13 ?_
      refine j_iload_n (pc := 14) hX dX1_grossFor_14 rfl ?_
      refine j_iconst (pc := 15) hX (3 : Int32) dX1_grossFor_15 rfl ?_
      obtain ⟨⟨q_, w5⟩, hc_, hf⟩ := zob hf
      cases q_ with
      | inl E_ =>
        cases hf
        exact j_callSX (pc := 16) hX mt_X1_at q507 q508 [vI a3, vI (3 : Int32)] rfl rfl (Nat.le_of_ble_eq_true rfl) (by decide) dX1_grossFor_16 hN hQ (k_X1_at _ _ hc_)
      | inr x6 =>
        refine j_callS (pc := 16) hX mt_X1_at q507 q508 [vI a3, vI (3 : Int32)] rfl rfl (Nat.le_of_ble_eq_true rfl) (by decide) dX1_grossFor_16 (k_X1_at _ _ hc_) ?_
        refine j_pop (pc := 19) hX rfl dX1_grossFor_19 ?_
        refine j_iload (pc := 20) hX dX1_grossFor_20 rfl ?_
        refine j_iconst (pc := 22) hX (1 : Int32) dX1_grossFor_22 rfl ?_
        refine j_ldcw (pc := 23) hX q542 dX1_grossFor_23 ?_
        obtain ⟨⟨q_, w7⟩, hc_, hf⟩ := zob hf
        cases q_ with
        | inl E_ =>
          cases hf
          exact j_callSX (pc := 26) hX mt_X1_in q523 q524 [vI a4, vI (1 : Int32), vI (1000000 : Int32)] rfl rfl (Nat.le_of_ble_eq_true rfl) (by decide) dX1_grossFor_26 hN hQ (k_X1_in _ _ hc_)
        | inr x8 =>
          refine j_callS (pc := 26) hX mt_X1_in q523 q524 [vI a4, vI (1 : Int32), vI (1000000 : Int32)] rfl rfl (Nat.le_of_ble_eq_true rfl) (by decide) dX1_grossFor_26 (k_X1_in _ _ hc_) ?_
          refine j_pop (pc := 29) hX rfl dX1_grossFor_29 ?_
          refine j_new (pc := 30) hX kX14 q1580 q1581 q111 df_X14 df_X14_ok dX1_grossFor_30 hf (fun x9 w10 hf => ?_)
          refine j_dup (pc := 33) hX rfl dX1_grossFor_33 ?_
          refine j_aload_n (pc := 34) hX dX1_grossFor_34 rfl ?_
          refine j_iload_n (pc := 35) hX dX1_grossFor_35 rfl ?_
          obtain ⟨w11, hc_, hf⟩ := zob hf
          obtain ⟨hi_, hc_⟩ := zV_e hc_
          refine j_callI (pc := 36) hX mt_X14_init q1582 q1583 rfl rfl [vA a0, vI a1] rfl rfl (Nat.le_of_ble_eq_true rfl) (by decide) dX1_grossFor_36 (of_decide_eq_true hi_) (k_X14_init () _ hc_) ?_
          refine j_astore (pc := 39) hX dX1_grossFor_39 (by decide) [some (vA a0), some (vI a1), some (vI a2), some (vI a3), some (vI a4), some (vA x9), none, none, none, none, none] rfl ?_
          refine j_aload_n (pc := 41) hX dX1_grossFor_41 rfl ?_
          refine j_getA (pc := 42) hX kX1 (k := 8) (Nat.le_of_ble_eq_true rfl) q346 (Or.inl rfl) dX1_grossFor_42 hf (fun x12 hx_ hf => ?_)
          refine j_iload_n (pc := 45) hX dX1_grossFor_45 rfl ?_
          refine j_aaload (pc := 46) hX dX1_grossFor_46 hf (fun x13 hx_ hf => ?_)
          refine j_iload_n (pc := 47) hX dX1_grossFor_47 rfl ?_
          refine j_aaload (pc := 48) hX dX1_grossFor_48 hf (fun x14 hx_ hf => ?_)
          refine j_iload_n (pc := 49) hX dX1_grossFor_49 rfl ?_
          refine j_iaload (pc := 50) hX dX1_grossFor_50 hf (fun x15 hx_ hf => ?_)
          refine j_istore (pc := 51) hX dX1_grossFor_51 (by decide) [some (vA a0), some (vI a1), some (vI a2), some (vI a3), some (vI a4), some (vA x9), some (vI x15), none, none, none, none] rfl ?_
          refine j_aload (pc := 53) hX dX1_grossFor_53 rfl ?_
          refine j_getAN (pc := 55) hX kX14 (k := 13) (Nat.le_of_ble_eq_true rfl) q1973 rfl dX1_grossFor_55 hf (fun x16 hx_ hf => ?_)
          refine j_iload_n (pc := 58) hX dX1_grossFor_58 rfl ?_
          refine j_laload (pc := 59) hX dX1_grossFor_59 hf (fun x17 hx_ hf => ?_)
          refine j_iload (pc := 60) hX dX1_grossFor_60 rfl ?_
          refine j_i2l (pc := 62) hX dX1_grossFor_62 ?_
          refine j_ladd (pc := 63) hX dX1_grossFor_63 ?_
          refine j_lstore (pc := 64) hX dX1_grossFor_64 (by decide) [some (vA a0), some (vI a1), some (vI a2), some (vI a3), some (vI a4), some (vA x9), some (vI x15), some (vL (x17 + (Int32.toInt64 a4))), none, none, none] rfl ?_
          refine j_iconst (pc := 66) hX (0 : Int32) dX1_grossFor_66 rfl ?_
          refine j_istore (pc := 67) hX dX1_grossFor_67 (by decide) [some (vA a0), some (vI a1), some (vI a2), some (vI a3), some (vI a4), some (vA x9), some (vI x15), some (vL (x17 + (Int32.toInt64 a4))), none, some (vI (0 : Int32)), none] rfl ?_
          refine j_iconst (pc := 69) hX (1 : Int32) dX1_grossFor_69 rfl ?_
          refine j_istore (pc := 70) hX dX1_grossFor_70 (by decide) [some (vA a0), some (vI a1), some (vI a2), some (vI a3), some (vI a4), some (vA x9), some (vI x15), some (vL (x17 + (Int32.toInt64 a4))), none, some (vI (0 : Int32)), some (vI (1 : Int32))] rfl ?_
          obtain ⟨x25, w26, hm_, hf⟩ := zB2_e hf
          refine j_fg [4] [some (vA a0), some (vI a1), some (vI a2), some (vI a3), none, some (vA x9), some (vI x15), some (vL (x17 + (Int32.toInt64 a4))), none, some (vI (0 : Int32)), some (vI (1 : Int32))] rfl ?_
          refine lp_X1_grossFor_L72 hX n _ _ _ _ _ _ _ _ _ _ _ _ _ hm_ ?_
          refine j_aload_n (pc := 130) hX dX1_grossFor_130 rfl ?_
          refine j_getA (pc := 131) hX kX1 (k := 8) (Nat.le_of_ble_eq_true rfl) q346 (Or.inl rfl) dX1_grossFor_131 hf (fun x27 hx_ hf => ?_)
          refine j_iload_n (pc := 134) hX dX1_grossFor_134 rfl ?_
          refine j_aaload (pc := 135) hX dX1_grossFor_135 hf (fun x28 hx_ hf => ?_)
          refine j_iload_n (pc := 136) hX dX1_grossFor_136 rfl ?_
          refine j_aaload (pc := 137) hX dX1_grossFor_137 hf (fun x29 hx_ hf => ?_)
          refine j_iload_n (pc := 138) hX dX1_grossFor_138 rfl ?_
          refine j_iload (pc := 139) hX dX1_grossFor_139 rfl ?_
          refine j_iastore (pc := 141) hX dX1_grossFor_141 hf (fun w30 hf => ?_)
          refine j_aload (pc := 142) hX dX1_grossFor_142 rfl ?_
          refine j_getAN (pc := 144) hX kX14 (k := 13) (Nat.le_of_ble_eq_true rfl) q1973 rfl dX1_grossFor_144 hf (fun x31 hx_ hf => ?_)
          refine j_iload_n (pc := 147) hX dX1_grossFor_147 rfl ?_
          refine j_laload (pc := 148) hX dX1_grossFor_148 hf (fun x32 hx_ hf => ?_)
          refine j_lload (pc := 149) hX dX1_grossFor_149 rfl ?_
          refine j_lcmp (pc := 151) hX dX1_grossFor_151 ?_
          obtain ⟨x33, hm_, hf⟩ := zob hf
          have kj152 : zJ X 161 [none, none, none, none, none, none, none, none, none, none, none] [vI x33] w30 := by
            clear hm_
            exact j_ireturn (pc := 161) hX hQ (by cases hf; rfl) dX1_grossFor_161
          have hf := hm_
          refine j_if_ge (pc := 152) hX 159 dX1_grossFor_152 rfl hf (fun h_ hf => ?_) (fun h_ hf => ?_)
          · refine j_iload (pc := 159) hX dX1_grossFor_159 rfl ?_
            refine j_fg [0, 1, 2, 3, 5, 6, 7, 9] [none, none, none, none, none, none, none, none, none, none, none] rfl ?_
            cases hf
            exact kj152
          · refine j_iconst (pc := 155) hX (-1 : Int32) dX1_grossFor_155 rfl ?_
            refine j_goto (pc := 156) hX 161 dX1_grossFor_156 rfl ?_
            refine j_fg [0, 1, 2, 3, 5, 6, 7, 9] [none, none, none, none, none, none, none, none, none, none, none] rfl ?_
            simp only [Option.some.injEq, Prod.mk.injEq] at hf
            obtain rfl := hf
            exact kj152
def f_X15_init (n : Nat) (a0 : Option Nat) (a1 : Int32) (a2 : Int32) (a3 : Int32) (a4 : Int32) (a5 : Int32) (a6 : Int32) (a7 : Int32) (w : zWd) : Option zWd :=
  if a0 = none then none else
  (pI w 14 0 a0 a1).bind fun w1 =>
  (pI w1 14 1 a0 a2).bind fun w2 =>
  (pI w2 14 2 a0 a3).bind fun w3 =>
  (pI w3 14 3 a0 a4).bind fun w4 =>
  (pI w4 14 4 a0 a5).bind fun w5 =>
  (pI w5 14 5 a0 a6).bind fun w6 =>
  (pI w6 14 6 a0 a7).bind fun w7 =>
  some w7
theorem mt_X15_init : zMt yX15_init cX15_init 8 none 7 := ⟨q2065, q114, ⟨by decide, by decide⟩, by decide +kernel, by decide⟩
set_option maxHeartbeats 4000000 in
theorem k_X15_init {l : Launch} {n : Nat} {a0 : Option Nat} {a1 : Int32} {a2 : Int32} {a3 : Int32} {a4 : Int32} {a5 : Int32} {a6 : Int32} {a7 : Int32} {w : zWd} (r : Unit) (w9 : zWd) (hf : f_X15_init n a0 a1 a2 a3 a4 a5 a6 a7 w = some w9) : zCt l yX15_init cX15_init 8 none 1 [vA a0, vI a1, vI a2, vI a3, vI a4, vI a5, vI a6, vI a7] w (.inr (none, w9)) := by
  refine zCt_of (lv := [some (vA a0), some (vI a1), some (vI a2), some (vI a3), some (vI a4), some (vI a5), some (vI a6), some (vI a7)]) (by decide +kernel) 0 rfl rfl ?_
  intro X hX hI hN hQ
  have hX : zGd X RX15 cX15_init 8 none 1 := hX
  unfold f_X15_init at hf
  refine j_aload_n (pc := 0) hX dX15_init_0 rfl ?_
  obtain ⟨hne_, hf⟩ := zGd_e hf
  refine j_objInit (pc := 1) hX (by decide) q2066 q124 q125 (by rw [zCs_eq]; exact Nat.le_of_ble_eq_true rfl) dX15_init_1 hne_ ?_
  refine j_aload_n (pc := 4) hX dX15_init_4 rfl ?_
  refine j_iload_n (pc := 5) hX dX15_init_5 rfl ?_
  refine j_putIF (pc := 6) hX hI kX15 (k := 0) (Nat.le_of_ble_eq_true rfl) q2067 rfl rfl rfl rfl dX15_init_6 hf (fun w1 hf => ?_)
  refine j_aload_n (pc := 9) hX dX15_init_9 rfl ?_
  refine j_iload_n (pc := 10) hX dX15_init_10 rfl ?_
  refine j_putIF (pc := 11) hX hI kX15 (k := 1) (Nat.le_of_ble_eq_true rfl) q2071 rfl rfl rfl rfl dX15_init_11 hf (fun w2 hf => ?_)
  refine j_aload_n (pc := 14) hX dX15_init_14 rfl ?_
  refine j_iload_n (pc := 15) hX dX15_init_15 rfl ?_
  refine j_putIF (pc := 16) hX hI kX15 (k := 2) (Nat.le_of_ble_eq_true rfl) q2074 rfl rfl rfl rfl dX15_init_16 hf (fun w3 hf => ?_)
  refine j_aload_n (pc := 19) hX dX15_init_19 rfl ?_
  refine j_iload (pc := 20) hX dX15_init_20 rfl ?_
  refine j_putIF (pc := 22) hX hI kX15 (k := 3) (Nat.le_of_ble_eq_true rfl) q2076 rfl rfl rfl rfl dX15_init_22 hf (fun w4 hf => ?_)
  refine j_aload_n (pc := 25) hX dX15_init_25 rfl ?_
  refine j_iload (pc := 26) hX dX15_init_26 rfl ?_
  refine j_putIF (pc := 28) hX hI kX15 (k := 4) (Nat.le_of_ble_eq_true rfl) q2078 rfl rfl rfl rfl dX15_init_28 hf (fun w5 hf => ?_)
  refine j_aload_n (pc := 31) hX dX15_init_31 rfl ?_
  refine j_iload (pc := 32) hX dX15_init_32 rfl ?_
  refine j_putIF (pc := 34) hX hI kX15 (k := 5) (Nat.le_of_ble_eq_true rfl) q2080 rfl rfl rfl rfl dX15_init_34 hf (fun w6 hf => ?_)
  refine j_aload_n (pc := 37) hX dX15_init_37 rfl ?_
  refine j_iload (pc := 38) hX dX15_init_38 rfl ?_
  refine j_putIF (pc := 40) hX hI kX15 (k := 6) (Nat.le_of_ble_eq_true rfl) q2082 rfl rfl rfl rfl dX15_init_40 hf (fun w7 hf => ?_)
  exact j_return (pc := 43) hX hQ (by cases hf; rfl) dX15_init_43
def f_X16_init (n : Nat) (a0 : Option Nat) (w : zWd) : Option zWd :=
  if a0 = none then none else
  some w
theorem mt_X16_init : zMt yX16_init cX16_init 1 none 0 := ⟨q2103, q115, ⟨by decide, by decide⟩, by decide +kernel, by decide⟩
set_option maxHeartbeats 4000000 in
theorem k_X16_init {l : Launch} {n : Nat} {a0 : Option Nat} {w : zWd} (r : Unit) (w9 : zWd) (hf : f_X16_init n a0 w = some w9) : zCt l yX16_init cX16_init 1 none 1 [vA a0] w (.inr (none, w9)) := by
  refine zCt_of (lv := [some (vA a0)]) (by decide +kernel) 0 rfl rfl ?_
  intro X hX hI hN hQ
  have hX : zGd X RX16 cX16_init 1 none 1 := hX
  unfold f_X16_init at hf
  refine j_aload_n (pc := 0) hX dX16_init_0 rfl ?_
  obtain ⟨hne_, hf⟩ := zGd_e hf
  refine j_objInit (pc := 1) hX (by decide) q2104 q124 q125 (by rw [zCs_eq]; exact Nat.le_of_ble_eq_true rfl) dX16_init_1 hne_ ?_
  exact j_return (pc := 4) hX hQ (by cases hf; rfl) dX16_init_4
def f_J2_rangeCheckForAdd (n : Nat) (a0 : Option Nat) (a1 : Int32) (w : zWd) : Option zWd :=
  (gI w 18 2 a0).bind fun x1 =>
  if x1 < a1 then
    none
  else
    if (0 : Int32) ≤ a1 then
      some w
    else
      none
theorem mt_J2_rangeCheckForAdd : zMt yJ2_rangeCheckForAdd cJ2_rangeCheckForAdd 2 none 1 := ⟨q2120, q69, ⟨by decide, by decide⟩, by decide +kernel, by decide⟩
set_option maxHeartbeats 4000000 in
theorem k_J2_rangeCheckForAdd {l : Launch} {n : Nat} {a0 : Option Nat} {a1 : Int32} {w : zWd} (r : Unit) (w9 : zWd) (hf : f_J2_rangeCheckForAdd n a0 a1 w = some w9) : zCt l yJ2_rangeCheckForAdd cJ2_rangeCheckForAdd 2 none 1 [vA a0, vI a1] w (.inr (none, w9)) := by
  refine zCt_of (lv := [some (vA a0), some (vI a1)]) (by decide +kernel) 0 rfl rfl ?_
  intro X hX hI hN hQ
  have hX : zGd X RJ2 cJ2_rangeCheckForAdd 2 none 1 := hX
  unfold f_J2_rangeCheckForAdd at hf
  refine j_iload_n (pc := 0) hX dJ2_rangeCheckForAdd_0 rfl ?_
  refine j_aload_n (pc := 1) hX dJ2_rangeCheckForAdd_1 rfl ?_
  refine j_getI (pc := 2) hX kJ2 (k := 2) (Nat.le_of_ble_eq_true rfl) q143 (Or.inl rfl) dJ2_rangeCheckForAdd_2 hf (fun x1 hx_ hf => ?_)
  refine j_icmp_gt (pc := 5) hX 12 dJ2_rangeCheckForAdd_5 rfl hf (fun h_ hf => ?_) (fun h_ hf => ?_)
  · cases hf
  · refine j_iload_n (pc := 8) hX dJ2_rangeCheckForAdd_8 rfl ?_
    refine j_if_ge (pc := 9) hX 25 dJ2_rangeCheckForAdd_9 rfl hf (fun h_ hf => ?_) (fun h_ hf => ?_)
    · exact j_return (pc := 25) hX hQ (by cases hf; rfl) dJ2_rangeCheckForAdd_25
    · cases hf
def f_J2_add_3 (n : Nat) (a0 : Option Nat) (a1 : Int32) (a2 : Option Nat) (w : zWd) : Option zWd :=
  (zV (isC w 18 a0) (f_J2_rangeCheckForAdd n a0 a1 w)).bind fun w1 =>
  (gI w1 18 0 a0).bind fun x2 =>
  (pI w1 18 0 a0 (x2 + (1 : Int32))).bind fun w3 =>
  (gI w3 18 2 a0).bind fun x4 =>
  (gA w3 18 1 a0).bind fun x5 =>
  (aN w3 x5).bind fun x6 =>
  zB2 (
    if x4 = x6 then
      zB2 (zV (isC w3 18 a0) (f_J2_grow n a0 w3)) fun x8 w7 =>
      some (x8, w7)
    else
      some (x5, w3)
    ) fun x9 w10 =>
  (zCopy w10 x9 a1 x9 (a1 + (1 : Int32)) (x4 - a1)).bind fun w11 =>
  (sA w11 x9 a1 a2).bind fun w12 =>
  (pI w12 18 2 a0 (x4 + (1 : Int32))).bind fun w13 =>
  some w13
theorem mt_J2_add_3 : zMt yJ2_add_3 cJ2_add_3 5 none 2 := ⟨q2116, q69, ⟨by decide, by decide⟩, by decide +kernel, by decide⟩
set_option maxHeartbeats 4000000 in
theorem k_J2_add_3 {l : Launch} {n : Nat} {a0 : Option Nat} {a1 : Int32} {a2 : Option Nat} {w : zWd} (r : Unit) (w9 : zWd) (hf : f_J2_add_3 n a0 a1 a2 w = some w9) : zCt l yJ2_add_3 cJ2_add_3 5 none 6 [vA a0, vI a1, vA a2] w (.inr (none, w9)) := by
  refine zCt_of (lv := [some (vA a0), some (vI a1), some (vA a2), none, none]) (by decide +kernel) 2 rfl rfl ?_
  intro X hX hI hN hQ
  have hX : zGd X RJ2 cJ2_add_3 5 none 6 := hX
  unfold f_J2_add_3 at hf
  refine j_aload_n (pc := 0) hX dJ2_add_3_0 rfl ?_
  refine j_iload_n (pc := 1) hX dJ2_add_3_1 rfl ?_
  obtain ⟨w1, hc_, hf⟩ := zob hf
  obtain ⟨hi_, hc_⟩ := zV_e hc_
  refine j_callV (pc := 2) hX (ci := 18) mt_J2_rangeCheckForAdd q2117 q2119 qs25 hi_ ⟨_, rfl, rfl⟩ [vI a1] rfl rfl (Nat.le_of_ble_eq_true rfl) (by decide) dJ2_add_3_2 (k_J2_rangeCheckForAdd () _ hc_) ?_
  refine j_aload_n (pc := 5) hX dJ2_add_3_5 rfl ?_
  refine j_dup (pc := 6) hX rfl dJ2_add_3_6 ?_
  refine j_getI (pc := 7) hX kJ2 (k := 0) (Nat.le_of_ble_eq_true rfl) q147 (Or.inr q146) dJ2_add_3_7 hf (fun x2 hx_ hf => ?_)
  refine j_iconst (pc := 10) hX (1 : Int32) dJ2_add_3_10 rfl ?_
  refine j_iadd (pc := 11) hX dJ2_add_3_11 ?_
  refine j_putI (pc := 12) hX kJ2 (k := 0) (Nat.le_of_ble_eq_true rfl) q147 (Or.inr q146) rfl rfl dJ2_add_3_12 hf (fun w3 hf => ?_)
  refine j_aload_n (pc := 15) hX dJ2_add_3_15 rfl ?_
  refine j_getI (pc := 16) hX kJ2 (k := 2) (Nat.le_of_ble_eq_true rfl) q143 (Or.inl rfl) dJ2_add_3_16 hf (fun x4 hx_ hf => ?_)
  refine j_dup (pc := 19) hX rfl dJ2_add_3_19 ?_
  refine j_istore_n (pc := 20) hX dJ2_add_3_20 (by decide) [some (vA a0), some (vI a1), some (vA a2), some (vI x4), none] rfl ?_
  refine j_aload_n (pc := 21) hX dJ2_add_3_21 rfl ?_
  refine j_getA (pc := 22) hX kJ2 (k := 1) (Nat.le_of_ble_eq_true rfl) q140 (Or.inl rfl) dJ2_add_3_22 hf (fun x5 hx_ hf => ?_)
  refine j_dup (pc := 25) hX rfl dJ2_add_3_25 ?_
  refine j_astore (pc := 26) hX dJ2_add_3_26 (by decide) [some (vA a0), some (vI a1), some (vA a2), some (vI x4), some (vA x5)] rfl ?_
  refine j_alen (pc := 28) hX dJ2_add_3_28 hf (fun x6 hx_ hf => ?_)
  obtain ⟨x9, w10, hm_, hf⟩ := zB2_e hf
  have kj29 : zJ X 38 [some (vA a0), some (vI a1), some (vA a2), some (vI x4), some (vA x9)] [] w10 := by
    clear hm_
    refine j_aload (pc := 38) hX dJ2_add_3_38 rfl ?_
    refine j_iload_n (pc := 40) hX dJ2_add_3_40 rfl ?_
    refine j_aload (pc := 41) hX dJ2_add_3_41 rfl ?_
    refine j_iload_n (pc := 43) hX dJ2_add_3_43 rfl ?_
    refine j_iconst (pc := 44) hX (1 : Int32) dJ2_add_3_44 rfl ?_
    refine j_iadd (pc := 45) hX dJ2_add_3_45 ?_
    refine j_iload_n (pc := 46) hX dJ2_add_3_46 rfl ?_
    refine j_iload_n (pc := 47) hX dJ2_add_3_47 rfl ?_
    refine j_isub (pc := 48) hX dJ2_add_3_48 ?_
    refine j_copy (pc := 49) hX q1334 q307 q306 q78 (by decide) (Nat.le_of_ble_eq_true rfl) dJ2_add_3_49 hf (fun w11 hf => ?_)
    refine j_aload (pc := 52) hX dJ2_add_3_52 rfl ?_
    refine j_iload_n (pc := 54) hX dJ2_add_3_54 rfl ?_
    refine j_aload_n (pc := 55) hX dJ2_add_3_55 rfl ?_
    refine j_aastore (pc := 56) hX dJ2_add_3_56 hf (fun w12 hf => ?_)
    refine j_aload_n (pc := 57) hX dJ2_add_3_57 rfl ?_
    refine j_iload_n (pc := 58) hX dJ2_add_3_58 rfl ?_
    refine j_iconst (pc := 59) hX (1 : Int32) dJ2_add_3_59 rfl ?_
    refine j_iadd (pc := 60) hX dJ2_add_3_60 ?_
    refine j_putI (pc := 61) hX kJ2 (k := 2) (Nat.le_of_ble_eq_true rfl) q143 (Or.inl rfl) rfl rfl dJ2_add_3_61 hf (fun w13 hf => ?_)
    exact j_return (pc := 64) hX hQ (by cases hf; rfl) dJ2_add_3_64
  have hf := hm_
  refine j_icmp_ne (pc := 29) hX 38 dJ2_add_3_29 rfl hf (fun h_ hf => ?_) (fun h_ hf => ?_)
  · cases hf
    exact kj29
  · refine j_aload_n (pc := 32) hX dJ2_add_3_32 rfl ?_
    obtain ⟨x8, w7, hc_, hf⟩ := zB2_e hf
    obtain ⟨hi_, hc_⟩ := zV_e hc_
    refine j_callV (pc := 33) hX (ci := 18) mt_J2_grow q239 q241 qs1 hi_ ⟨_, rfl, rfl⟩ [] rfl rfl (Nat.le_of_ble_eq_true rfl) (by decide) dJ2_add_3_33 (k_J2_grow _ _ hc_) ?_
    refine j_astore (pc := 36) hX dJ2_add_3_36 (by decide) [some (vA a0), some (vI a1), some (vA a2), some (vI x4), some (vA x8)] rfl ?_
    cases hf
    exact kj29
def f_X1_garnish_L133b (n : Nat) (c0 : Option Nat) (c7 : Option Nat) (c8 : Option Nat) (rec : Int32 → zWd → Option (Int32 × zWd)) (v9 : Int32) (w : zWd) : Option (Int32 × zWd) :=
  if v9 ≤ (0 : Int32) then
    some (v9, w)
  else
    (gA w 0 14 c0).bind fun x33 =>
    zB2 (zV (isC w 18 x33) (f_J2_get n x33 (v9 - (1 : Int32)) w)) fun x35 w34 =>
    (cK w34 [14] x35).bind fun _ =>
    zB2 (zV (isC w34 15 c8) (f_X16_compare n c8 c7 x35 w34)) fun x37 w36 =>
    if (0 : Int32) ≤ x37 then
      some (v9, w36)
    else
      rec (v9 + (-1)) w36
def f_X1_garnish_L133 (n : Nat) (c0 : Option Nat) (c7 : Option Nat) (c8 : Option Nat) : Nat → Int32 → zWd → Option (Int32 × zWd)
  | 0, _, _ => none
  | k + 1, v9, w => f_X1_garnish_L133b n c0 c7 c8 (f_X1_garnish_L133 n c0 c7 c8 k) v9 w
def f_X1_garnish (n : Nat) (a0 : Option Nat) (a1 : Int32) (a2 : Int32) (a3 : Int32) (a4 : Int32) (a5 : Int32) (a6 : Int32) (w : zWd) : Option ((String ⊕ Int32) × zWd) :=
  zBX (f_X1_at n a1 (6 : Int32) w) fun x2 w1 =>
  zBX (f_X1_at n a2 (24 : Int32) w1) fun x4 w3 =>
  zBX (f_X1_in n a3 (0 : Int32) (9 : Int32) w3) fun x6 w5 =>
  zBX (f_X1_in n a4 (1 : Int32) (100000000 : Int32) w5) fun x8 w7 =>
  zBX (f_X1_in n a5 (1 : Int32) (1000 : Int32) w7) fun x10 w9 =>
  zBX (f_X1_in n a6 (0 : Int32) (100000000 : Int32) w9) fun x12 w11 =>
  (gA w11 0 13 a0).bind fun x13 =>
  zB2 (zV (isC w11 18 x13) (f_J2_size n x13 w11)) fun x15 w14 =>
  (
    if (6 : Int32) ≤ x15 then
      some (0 : Int32)
    else
      some (1 : Int32)
    ).bind fun x16 =>
  zBX (f_X1_must n x16 w14) fun _u w17 =>
  zB2 (zNew w17 7 (.inr (14, df_X15))) fun x18 w19 =>
  (gA w19 0 13 a0).bind fun x20 =>
  zB2 (zV (isC w19 18 x20) (f_J2_size n x20 w19)) fun x22 w21 =>
  (zV (decide (x18 ≠ none)) (f_X15_init n x18 x22 a1 a2 a3 a4 a5 a6 w21)).bind fun w23 =>
  (gA w23 0 13 a0).bind fun x24 =>
  zB2 (zV (isC w23 18 x24) (f_J2_add n x24 x18 w23)) fun x26 w25 =>
  zB2 (zNew w25 0 (.inr (15, df_X16))) fun x27 w28 =>
  (zV (decide (x27 ≠ none)) (f_X16_init n x27 w28)).bind fun w29 =>
  (gA w29 0 14 a0).bind fun x30 =>
  zB2 (zV (isC w29 18 x30) (f_J2_size n x30 w29)) fun x32 w31 =>
  zB2 (f_X1_garnish_L133 n a0 x18 x27 n x32 w31) fun x38 w39 =>
  (gA w39 0 14 a0).bind fun x40 =>
  (zV (isC w39 18 x40) (f_J2_add_3 n x40 x38 x18 w39)).bind fun w41 =>
  (gI w41 14 0 x18).bind fun x42 =>
  some (.inr x42, w41)
theorem mt_X1_garnish : zMt yX1_garnish cX1_garnish 10 (some .int) 6 := ⟨q2060, q66, ⟨by decide, by decide⟩, by decide +kernel, by decide⟩
set_option maxHeartbeats 4000000 in
theorem lp_X1_garnish_L133 {X : zX} (hX : zGd X RX1 cX1_garnish 10 (some .int) 8) (n : Nat) (c0 : Option Nat) (c7 : Option Nat) (c8 : Option Nat) : ∀ (k : Nat) (v9 : Int32) (w : zWd) (o9 : Int32) (w9 : zWd) , f_X1_garnish_L133 n c0 c7 c8 k v9 w = some (o9, w9) → zJ X 172 [some (vA c0), none, none, none, none, none, none, some (vA c7), some (vA c8), some (vI o9)] [] w9 → zJ X 133 [some (vA c0), none, none, none, none, none, none, some (vA c7), some (vA c8), some (vI v9)] [] w := by
  intro k
  induction k with
  | zero => intro v9 w o9 w9 hf _; exact nomatch (show (none : Option (Int32 × zWd)) = _ from hf)
  | succ k ih =>
    intro v9 w o9 w9 hf kx
    have hf : f_X1_garnish_L133b n c0 c7 c8 (f_X1_garnish_L133 n c0 c7 c8 k) v9 w = _ := hf
    unfold f_X1_garnish_L133b at hf
    refine j_iload (pc := 133) hX dX1_garnish_133 rfl ?_
    refine j_if_le (pc := 135) hX 172 dX1_garnish_135 rfl hf (fun h_ hf => ?_) (fun h_ hf => ?_)
    · cases hf
      exact kx
    · refine j_aload (pc := 138) hX dX1_garnish_138 rfl ?_
      refine j_aload (pc := 140) hX dX1_garnish_140 rfl ?_
      refine j_aload_n (pc := 142) hX dX1_garnish_142 rfl ?_
      refine j_getA (pc := 143) hX kX1 (k := 14) (Nat.le_of_ble_eq_true rfl) q356 (Or.inl rfl) dX1_garnish_143 hf (fun x33 hx_ hf => ?_)
      refine j_iload (pc := 146) hX dX1_garnish_146 rfl ?_
      refine j_iconst (pc := 148) hX (1 : Int32) dX1_garnish_148 rfl ?_
      refine j_isub (pc := 149) hX dX1_garnish_149 ?_
      obtain ⟨x35, w34, hc_, hf⟩ := zB2_e hf
      obtain ⟨hi_, hc_⟩ := zV_e hc_
      refine j_callF (pc := 150) hX (ci := 18) mt_J2_get q965 q970 q968 (by decide +kernel) rfl hi_ ⟨_, rfl, rfl⟩ [vI (v9 - (1 : Int32))] rfl rfl (Nat.le_of_ble_eq_true rfl) (by decide) dX1_garnish_150 (k_J2_get _ _ hc_) ?_
      refine j_cast (pc := 155) hX q2061 [14] (zC1 ⟨_, rfl, Or.inl rfl⟩) dX1_garnish_155 hf (fun hf => ?_)
      obtain ⟨x37, w36, hc_, hf⟩ := zB2_e hf
      obtain ⟨hi_, hc_⟩ := zV_e hc_
      refine j_callF (pc := 158) hX (ci := 15) mt_X16_compare q2107 q828 q826 (by decide +kernel) rfl hi_ ⟨_, rfl, rfl⟩ [vA c7, vA x35] rfl rfl (Nat.le_of_ble_eq_true rfl) (by decide) dX1_garnish_158 (k_X16_compare _ _ hc_) ?_
      refine j_if_ge (pc := 163) hX 172 dX1_garnish_163 rfl hf (fun h_ hf => ?_) (fun h_ hf => ?_)
      · cases hf
        exact kx
      · refine j_iinc (pc := 166) hX (-1) dX1_garnish_166 rfl rfl (by decide) [some (vA c0), none, none, none, none, none, none, some (vA c7), some (vA c8), some (vI (v9 + (-1)))] rfl ?_
        refine j_goto (pc := 169) hX 133 dX1_garnish_169 rfl ?_
        exact ih _ _ _ _ hf kx
set_option maxHeartbeats 4000000 in
theorem k_X1_garnish {l : Launch} {n : Nat} {a0 : Option Nat} {a1 : Int32} {a2 : Int32} {a3 : Int32} {a4 : Int32} {a5 : Int32} {a6 : Int32} {w : zWd} (r : String ⊕ Int32) (w9 : zWd) (hf : f_X1_garnish n a0 a1 a2 a3 a4 a5 a6 w = some (r, w9)) : zCt l yX1_garnish cX1_garnish 10 (some .int) 8 [vA a0, vI a1, vI a2, vI a3, vI a4, vI a5, vI a6] w (zXI r w9) := by
  refine zCt_of (lv := [some (vA a0), some (vI a1), some (vI a2), some (vI a3), some (vI a4), some (vI a5), some (vI a6), none, none, none]) (by decide +kernel) 3 rfl rfl ?_
  intro X hX hI hN hQ
  have hX : zGd X RX1 cX1_garnish 10 (some .int) 8 := hX
  unfold f_X1_garnish at hf
  refine j_iload_n (pc := 0) hX dX1_garnish_0 rfl ?_
  refine j_bipush (pc := 1) hX (6 : Int32) dX1_garnish_1 (by decide +kernel) ?_
  obtain ⟨⟨q_, w1⟩, hc_, hf⟩ := zob hf
  cases q_ with
  | inl E_ =>
    cases hf
    exact j_callSX (pc := 3) hX mt_X1_at q507 q508 [vI a1, vI (6 : Int32)] rfl rfl (Nat.le_of_ble_eq_true rfl) (by decide) dX1_garnish_3 hN hQ (k_X1_at _ _ hc_)
  | inr x2 =>
    refine j_callS (pc := 3) hX mt_X1_at q507 q508 [vI a1, vI (6 : Int32)] rfl rfl (Nat.le_of_ble_eq_true rfl) (by decide) dX1_garnish_3 (k_X1_at _ _ hc_) ?_
    refine j_pop (pc := 6) hX rfl dX1_garnish_6 ?_
    refine j_iload_n (pc := 7) hX dX1_garnish_7 rfl ?_
    refine j_bipush (pc := 8) hX (24 : Int32) dX1_garnish_8 (by decide +kernel) ?_
    obtain ⟨⟨q_, w3⟩, hc_, hf⟩ := zob hf
    cases q_ with
    | inl E_ =>
      cases hf
      exact j_callSX (pc := 10) hX mt_X1_at q507 q508 [vI a2, vI (24 : Int32)] rfl rfl (Nat.le_of_ble_eq_true rfl) (by decide) dX1_garnish_10 hN hQ (k_X1_at _ _ hc_)
    | inr x4 =>
      refine j_callS (pc := 10) hX mt_X1_at q507 q508 [vI a2, vI (24 : Int32)] rfl rfl (Nat.le_of_ble_eq_true rfl) (by decide) dX1_garnish_10 (k_X1_at _ _ hc_) ?_
      refine j_pop (pc := 13) hX rfl dX1_garnish_13 ?_
      refine j_iload_n (pc := 14) hX dX1_garnish_14 rfl ?_
      refine j_iconst (pc := 15) hX (0 : Int32) dX1_garnish_15 rfl ?_
      refine j_bipush (pc := 16) hX (9 : Int32) dX1_garnish_16 (by decide +kernel) ?_
      obtain ⟨⟨q_, w5⟩, hc_, hf⟩ := zob hf
      cases q_ with
      | inl E_ =>
        cases hf
        exact j_callSX (pc := 18) hX mt_X1_in q523 q524 [vI a3, vI (0 : Int32), vI (9 : Int32)] rfl rfl (Nat.le_of_ble_eq_true rfl) (by decide) dX1_garnish_18 hN hQ (k_X1_in _ _ hc_)
      | inr x6 =>
        refine j_callS (pc := 18) hX mt_X1_in q523 q524 [vI a3, vI (0 : Int32), vI (9 : Int32)] rfl rfl (Nat.le_of_ble_eq_true rfl) (by decide) dX1_garnish_18 (k_X1_in _ _ hc_) ?_
        refine j_pop (pc := 21) hX rfl dX1_garnish_21 ?_
        refine j_iload (pc := 22) hX dX1_garnish_22 rfl ?_
        refine j_iconst (pc := 24) hX (1 : Int32) dX1_garnish_24 rfl ?_
        refine j_ldcw (pc := 25) hX q1486 dX1_garnish_25 ?_
        obtain ⟨⟨q_, w7⟩, hc_, hf⟩ := zob hf
        cases q_ with
        | inl E_ =>
          cases hf
          exact j_callSX (pc := 28) hX mt_X1_in q523 q524 [vI a4, vI (1 : Int32), vI (100000000 : Int32)] rfl rfl (Nat.le_of_ble_eq_true rfl) (by decide) dX1_garnish_28 hN hQ (k_X1_in _ _ hc_)
        | inr x8 =>
          refine j_callS (pc := 28) hX mt_X1_in q523 q524 [vI a4, vI (1 : Int32), vI (100000000 : Int32)] rfl rfl (Nat.le_of_ble_eq_true rfl) (by decide) dX1_garnish_28 (k_X1_in _ _ hc_) ?_
          refine j_pop (pc := 31) hX rfl dX1_garnish_31 ?_
          refine j_iload (pc := 32) hX dX1_garnish_32 rfl ?_
          refine j_iconst (pc := 34) hX (1 : Int32) dX1_garnish_34 rfl ?_
          refine j_sipush (pc := 35) hX (1000 : Int32) dX1_garnish_35 (by decide +kernel) ?_
          obtain ⟨⟨q_, w9⟩, hc_, hf⟩ := zob hf
          cases q_ with
          | inl E_ =>
            cases hf
            exact j_callSX (pc := 38) hX mt_X1_in q523 q524 [vI a5, vI (1 : Int32), vI (1000 : Int32)] rfl rfl (Nat.le_of_ble_eq_true rfl) (by decide) dX1_garnish_38 hN hQ (k_X1_in _ _ hc_)
          | inr x10 =>
            refine j_callS (pc := 38) hX mt_X1_in q523 q524 [vI a5, vI (1 : Int32), vI (1000 : Int32)] rfl rfl (Nat.le_of_ble_eq_true rfl) (by decide) dX1_garnish_38 (k_X1_in _ _ hc_) ?_
            refine j_pop (pc := 41) hX rfl dX1_garnish_41 ?_
            refine j_iload (pc := 42) hX dX1_garnish_42 rfl ?_
            refine j_iconst (pc := 44) hX (0 : Int32) dX1_garnish_44 rfl ?_
            refine j_ldcw (pc := 45) hX q1486 dX1_garnish_45 ?_
            obtain ⟨⟨q_, w11⟩, hc_, hf⟩ := zob hf
            cases q_ with
            | inl E_ =>
              cases hf
              exact j_callSX (pc := 48) hX mt_X1_in q523 q524 [vI a6, vI (0 : Int32), vI (100000000 : Int32)] rfl rfl (Nat.le_of_ble_eq_true rfl) (by decide) dX1_garnish_48 hN hQ (k_X1_in _ _ hc_)
            | inr x12 =>
              refine j_callS (pc := 48) hX mt_X1_in q523 q524 [vI a6, vI (0 : Int32), vI (100000000 : Int32)] rfl rfl (Nat.le_of_ble_eq_true rfl) (by decide) dX1_garnish_48 (k_X1_in _ _ hc_) ?_
              refine j_pop (pc := 51) hX rfl dX1_garnish_51 ?_
              refine j_aload_n (pc := 52) hX dX1_garnish_52 rfl ?_
              refine j_getA (pc := 53) hX kX1 (k := 13) (Nat.le_of_ble_eq_true rfl) q354 (Or.inl rfl) dX1_garnish_53 hf (fun x13 hx_ hf => ?_)
              obtain ⟨x15, w14, hc_, hf⟩ := zB2_e hf
              obtain ⟨hi_, hc_⟩ := zV_e hc_
              refine j_callF (pc := 56) hX (ci := 18) mt_J2_size q413 q418 q416 (by decide +kernel) rfl hi_ ⟨_, rfl, rfl⟩ [] rfl rfl (Nat.le_of_ble_eq_true rfl) (by decide) dX1_garnish_56 (k_J2_size _ _ hc_) ?_
              refine j_bipush (pc := 61) hX (6 : Int32) dX1_garnish_61 (by decide +kernel) ?_
              obtain ⟨x16, hm_, hf⟩ := zob hf
              have kj63 : zJ X 71 [some (vA a0), some (vI a1), some (vI a2), some (vI a3), some (vI a4), some (vI a5), some (vI a6), none, none, none] [vI x16] w14 := by
                clear hm_
                obtain ⟨⟨q_, w17⟩, hc_, hf⟩ := zob hf
                cases q_ with
                | inl E_ =>
                  cases hf
                  exact j_callSX (pc := 71) hX mt_X1_must q543 q544 [vI x16] rfl rfl (Nat.le_of_ble_eq_true rfl) (by decide) dX1_garnish_71 hN hQ (k_X1_must _ _ hc_)
                | inr u_ =>
                  refine j_callS (pc := 71) hX mt_X1_must q543 q544 [vI x16] rfl rfl (Nat.le_of_ble_eq_true rfl) (by decide) dX1_garnish_71 (k_X1_must _ _ hc_) ?_
                  refine j_new (pc := 74) hX kX15 q2061 q2062 q114 df_X15 df_X15_ok dX1_garnish_74 hf (fun x18 w19 hf => ?_)
                  refine j_dup (pc := 77) hX rfl dX1_garnish_77 ?_
                  refine j_aload_n (pc := 78) hX dX1_garnish_78 rfl ?_
                  refine j_getA (pc := 79) hX kX1 (k := 13) (Nat.le_of_ble_eq_true rfl) q354 (Or.inl rfl) dX1_garnish_79 hf (fun x20 hx_ hf => ?_)
                  obtain ⟨x22, w21, hc_, hf⟩ := zB2_e hf
                  obtain ⟨hi_, hc_⟩ := zV_e hc_
                  refine j_callF (pc := 82) hX (ci := 18) mt_J2_size q413 q418 q416 (by decide +kernel) rfl hi_ ⟨_, rfl, rfl⟩ [] rfl rfl (Nat.le_of_ble_eq_true rfl) (by decide) dX1_garnish_82 (k_J2_size _ _ hc_) ?_
                  refine j_iload_n (pc := 87) hX dX1_garnish_87 rfl ?_
                  refine j_iload_n (pc := 88) hX dX1_garnish_88 rfl ?_
                  refine j_iload_n (pc := 89) hX dX1_garnish_89 rfl ?_
                  refine j_iload (pc := 90) hX dX1_garnish_90 rfl ?_
                  refine j_iload (pc := 92) hX dX1_garnish_92 rfl ?_
                  refine j_iload (pc := 94) hX dX1_garnish_94 rfl ?_
                  obtain ⟨w23, hc_, hf⟩ := zob hf
                  obtain ⟨hi_, hc_⟩ := zV_e hc_
                  refine j_callI (pc := 96) hX mt_X15_init q2063 q2064 rfl rfl [vI x22, vI a1, vI a2, vI a3, vI a4, vI a5, vI a6] rfl rfl (Nat.le_of_ble_eq_true rfl) (by decide) dX1_garnish_96 (of_decide_eq_true hi_) (k_X15_init () _ hc_) ?_
                  refine j_astore (pc := 99) hX dX1_garnish_99 (by decide) [some (vA a0), some (vI a1), some (vI a2), some (vI a3), some (vI a4), some (vI a5), some (vI a6), some (vA x18), none, none] rfl ?_
                  refine j_aload_n (pc := 101) hX dX1_garnish_101 rfl ?_
                  refine j_getA (pc := 102) hX kX1 (k := 13) (Nat.le_of_ble_eq_true rfl) q354 (Or.inl rfl) dX1_garnish_102 hf (fun x24 hx_ hf => ?_)
                  refine j_aload (pc := 105) hX dX1_garnish_105 rfl ?_
                  obtain ⟨x26, w25, hc_, hf⟩ := zB2_e hf
                  obtain ⟨hi_, hc_⟩ := zV_e hc_
                  refine j_callF (pc := 107) hX (ci := 18) mt_J2_add q226 q232 q230 (by decide +kernel) rfl hi_ ⟨_, rfl, rfl⟩ [vA x18] rfl rfl (Nat.le_of_ble_eq_true rfl) (by decide) dX1_garnish_107 (k_J2_add _ _ hc_) ?_
                  refine j_pop (pc := 112) hX rfl dX1_garnish_112 ?_
                  refine j_new (pc := 113) hX kX16 q2099 q2100 q115 df_X16 df_X16_ok dX1_garnish_113 hf (fun x27 w28 hf => ?_)
                  refine j_dup (pc := 116) hX rfl dX1_garnish_116 ?_
                  obtain ⟨w29, hc_, hf⟩ := zob hf
                  obtain ⟨hi_, hc_⟩ := zV_e hc_
                  refine j_callIN (pc := 117) hX mt_X16_init q2101 q2102 rfl rfl [] rfl rfl (Nat.le_of_ble_eq_true rfl) (by decide) dX1_garnish_117 (of_decide_eq_true hi_) (k_X16_init () _ hc_) ?_
                  refine j_astore (pc := 120) hX dX1_garnish_120 (by decide) [some (vA a0), some (vI a1), some (vI a2), some (vI a3), some (vI a4), some (vI a5), some (vI a6), some (vA x18), some (vA x27), none] rfl ?_
                  refine j_aload_n (pc := 122) hX dX1_garnish_122 rfl ?_
                  refine j_getA (pc := 123) hX kX1 (k := 14) (Nat.le_of_ble_eq_true rfl) q356 (Or.inl rfl) dX1_garnish_123 hf (fun x30 hx_ hf => ?_)
                  obtain ⟨x32, w31, hc_, hf⟩ := zB2_e hf
                  obtain ⟨hi_, hc_⟩ := zV_e hc_
                  refine j_callF (pc := 126) hX (ci := 18) mt_J2_size q413 q418 q416 (by decide +kernel) rfl hi_ ⟨_, rfl, rfl⟩ [] rfl rfl (Nat.le_of_ble_eq_true rfl) (by decide) dX1_garnish_126 (k_J2_size _ _ hc_) ?_
                  refine j_istore (pc := 131) hX dX1_garnish_131 (by decide) [some (vA a0), some (vI a1), some (vI a2), some (vI a3), some (vI a4), some (vI a5), some (vI a6), some (vA x18), some (vA x27), some (vI x32)] rfl ?_
                  obtain ⟨x38, w39, hm_, hf⟩ := zB2_e hf
                  refine j_fg [1, 2, 3, 4, 5, 6] [some (vA a0), none, none, none, none, none, none, some (vA x18), some (vA x27), some (vI x32)] rfl ?_
                  refine lp_X1_garnish_L133 hX n _ _ _ _ _ _ _ _ hm_ ?_
                  refine j_aload_n (pc := 172) hX dX1_garnish_172 rfl ?_
                  refine j_getA (pc := 173) hX kX1 (k := 14) (Nat.le_of_ble_eq_true rfl) q356 (Or.inl rfl) dX1_garnish_173 hf (fun x40 hx_ hf => ?_)
                  refine j_iload (pc := 176) hX dX1_garnish_176 rfl ?_
                  refine j_aload (pc := 178) hX dX1_garnish_178 rfl ?_
                  obtain ⟨w41, hc_, hf⟩ := zob hf
                  obtain ⟨hi_, hc_⟩ := zV_e hc_
                  refine j_callF (pc := 180) hX (ci := 18) mt_J2_add_3 q2109 q2114 q2112 (by decide +kernel) rfl hi_ ⟨_, rfl, rfl⟩ [vI x38, vA x18] rfl rfl (Nat.le_of_ble_eq_true rfl) (by decide) dX1_garnish_180 (k_J2_add_3 () _ hc_) ?_
                  refine j_aload (pc := 185) hX dX1_garnish_185 rfl ?_
                  refine j_getIN (pc := 187) hX kX15 (k := 0) (Nat.le_of_ble_eq_true rfl) q2070 rfl dX1_garnish_187 hf (fun x42 hx_ hf => ?_)
                  exact j_ireturn (pc := 190) hX hQ (by cases hf; rfl) dX1_garnish_190
              have hf := hm_
              refine j_icmp_ge (pc := 63) hX 70 dX1_garnish_63 rfl hf (fun h_ hf => ?_) (fun h_ hf => ?_)
              · refine j_iconst (pc := 70) hX (0 : Int32) dX1_garnish_70 rfl ?_
                cases hf
                exact kj63
              · refine j_iconst (pc := 66) hX (1 : Int32) dX1_garnish_66 rfl ?_
                refine j_goto (pc := 67) hX 71 dX1_garnish_67 rfl ?_
                cases hf
                exact kj63
def f_X1_takenBy (n : Nat) (a0 : Option Nat) (a1 : Int32) (a2 : Int32) (w : zWd) : Option ((String ⊕ Int64) × zWd) :=
  (gA w 0 13 a0).bind fun x1 =>
  (gA w 0 13 a0).bind fun x2 =>
  zB2 (zV (isC w 18 x2) (f_J2_size n x2 w)) fun x4 w3 =>
  zBX (f_X1_at n a1 x4 w3) fun x6 w5 =>
  zB2 (zV (isC w5 18 x1) (f_J2_get n x1 x6 w5)) fun x8 w7 =>
  (cK w7 [14] x8).bind fun _ =>
  zBX (f_X1_at n a2 (24 : Int32) w7) fun x10 w9 =>
  zB2 (zNew w9 18 (.inr (13, df_X14))) fun x11 w12 =>
  (gI w12 14 1 x8).bind fun x13 =>
  (zV (decide (x11 ≠ none)) (f_X14_init n x11 a0 x13 w12)).bind fun w14 =>
  zB2 (zV (isC w14 13 x11) (f_X14_takenBefore n x11 a1 (a2 + (1 : Int32)) w14)) fun x16 w15 =>
  some (.inr x16, w15)
theorem mt_X1_takenBy : zMt yX1_takenBy cX1_takenBy 4 (some .long) 2 := ⟨q2140, q66, ⟨by decide, by decide⟩, by decide +kernel, by decide⟩
set_option maxHeartbeats 4000000 in
theorem k_X1_takenBy {l : Launch} {n : Nat} {a0 : Option Nat} {a1 : Int32} {a2 : Int32} {w : zWd} (r : String ⊕ Int64) (w9 : zWd) (hf : f_X1_takenBy n a0 a1 a2 w = some (r, w9)) : zCt l yX1_takenBy cX1_takenBy 4 (some .long) 12 [vA a0, vI a1, vI a2] w (zXL r w9) := by
  refine zCt_of (lv := [some (vA a0), some (vI a1), some (vI a2), none]) (by decide +kernel) 1 rfl rfl ?_
  intro X hX hI hN hQ
  have hX : zGd X RX1 cX1_takenBy 4 (some .long) 12 := hX
  unfold f_X1_takenBy at hf
  refine j_aload_n (pc := 0) hX dX1_takenBy_0 rfl ?_
  refine j_getA (pc := 1) hX kX1 (k := 13) (Nat.le_of_ble_eq_true rfl) q354 (Or.inl rfl) dX1_takenBy_1 hf (fun x1 hx_ hf => ?_)
  refine j_iload_n (pc := 4) hX dX1_takenBy_4 rfl ?_
  refine j_aload_n (pc := 5) hX dX1_takenBy_5 rfl ?_
  refine j_getA (pc := 6) hX kX1 (k := 13) (Nat.le_of_ble_eq_true rfl) q354 (Or.inl rfl) dX1_takenBy_6 hf (fun x2 hx_ hf => ?_)
  obtain ⟨x4, w3, hc_, hf⟩ := zB2_e hf
  obtain ⟨hi_, hc_⟩ := zV_e hc_
  refine j_callF (pc := 9) hX (ci := 18) mt_J2_size q413 q418 q416 (by decide +kernel) rfl hi_ ⟨_, rfl, rfl⟩ [] rfl rfl (Nat.le_of_ble_eq_true rfl) (by decide) dX1_takenBy_9 (k_J2_size _ _ hc_) ?_
  obtain ⟨⟨q_, w5⟩, hc_, hf⟩ := zob hf
  cases q_ with
  | inl E_ =>
    cases hf
    exact j_callSX (pc := 14) hX mt_X1_at q507 q508 [vI a1, vI x4] rfl rfl (Nat.le_of_ble_eq_true rfl) (by decide) dX1_takenBy_14 hN hQ (k_X1_at _ _ hc_)
  | inr x6 =>
    refine j_callS (pc := 14) hX mt_X1_at q507 q508 [vI a1, vI x4] rfl rfl (Nat.le_of_ble_eq_true rfl) (by decide) dX1_takenBy_14 (k_X1_at _ _ hc_) ?_
    obtain ⟨x8, w7, hc_, hf⟩ := zB2_e hf
    obtain ⟨hi_, hc_⟩ := zV_e hc_
    refine j_callF (pc := 17) hX (ci := 18) mt_J2_get q965 q970 q968 (by decide +kernel) rfl hi_ ⟨_, rfl, rfl⟩ [vI x6] rfl rfl (Nat.le_of_ble_eq_true rfl) (by decide) dX1_takenBy_17 (k_J2_get _ _ hc_) ?_
    refine j_cast (pc := 22) hX q2061 [14] (zC1 ⟨_, rfl, Or.inl rfl⟩) dX1_takenBy_22 hf (fun hf => ?_)
    refine j_astore_n (pc := 25) hX dX1_takenBy_25 (by decide) [some (vA a0), some (vI a1), some (vI a2), some (vA x8)] rfl ?_
    refine j_iload_n (pc := 26) hX dX1_takenBy_26 rfl ?_
    refine j_bipush (pc := 27) hX (24 : Int32) dX1_takenBy_27 (by decide +kernel) ?_
    obtain ⟨⟨q_, w9⟩, hc_, hf⟩ := zob hf
    cases q_ with
    | inl E_ =>
      cases hf
      exact j_callSX (pc := 29) hX mt_X1_at q507 q508 [vI a2, vI (24 : Int32)] rfl rfl (Nat.le_of_ble_eq_true rfl) (by decide) dX1_takenBy_29 hN hQ (k_X1_at _ _ hc_)
    | inr x10 =>
      refine j_callS (pc := 29) hX mt_X1_at q507 q508 [vI a2, vI (24 : Int32)] rfl rfl (Nat.le_of_ble_eq_true rfl) (by decide) dX1_takenBy_29 (k_X1_at _ _ hc_) ?_
      refine j_pop (pc := 32) hX rfl dX1_takenBy_32 ?_
      refine j_new (pc := 33) hX kX14 q1580 q1581 q111 df_X14 df_X14_ok dX1_takenBy_33 hf (fun x11 w12 hf => ?_)
      refine j_dup (pc := 36) hX rfl dX1_takenBy_36 ?_
      refine j_aload_n (pc := 37) hX dX1_takenBy_37 rfl ?_
      refine j_aload_n (pc := 38) hX dX1_takenBy_38 rfl ?_
      refine j_getIN (pc := 39) hX kX15 (k := 1) (Nat.le_of_ble_eq_true rfl) q2073 rfl dX1_takenBy_39 hf (fun x13 hx_ hf => ?_)
      obtain ⟨w14, hc_, hf⟩ := zob hf
      obtain ⟨hi_, hc_⟩ := zV_e hc_
      refine j_callI (pc := 42) hX mt_X14_init q1582 q1583 rfl rfl [vA a0, vI x13] rfl rfl (Nat.le_of_ble_eq_true rfl) (by decide) dX1_takenBy_42 (of_decide_eq_true hi_) (k_X14_init () _ hc_) ?_
      refine j_iload_n (pc := 45) hX dX1_takenBy_45 rfl ?_
      refine j_iload_n (pc := 46) hX dX1_takenBy_46 rfl ?_
      refine j_iconst (pc := 47) hX (1 : Int32) dX1_takenBy_47 rfl ?_
      refine j_iadd (pc := 48) hX dX1_takenBy_48 ?_
      obtain ⟨x16, w15, hc_, hf⟩ := zB2_e hf
      obtain ⟨hi_, hc_⟩ := zV_e hc_
      refine j_callVN (pc := 49) hX (ci := 13) mt_X14_takenBefore q2141 q1938 qs24 hi_ ⟨_, rfl, rfl⟩ [vI a1, vI (a2 + (1 : Int32))] rfl rfl (Nat.le_of_ble_eq_true rfl) (by decide) dX1_takenBy_49 (k_X14_takenBefore _ _ hc_) ?_
      exact j_lreturn (pc := 52) hX hQ (by cases hf; rfl) dX1_takenBy_52
def f_X17_init (n : Nat) (a0 : Option Nat) (a1 : Int32) (a2 : Int32) (a3 : Int32) (w : zWd) : Option zWd :=
  (zV (decide (a0 ≠ none)) (f_J3_init n a0 w)).bind fun w1 =>
  (pI w1 16 0 a0 a1).bind fun w2 =>
  (pI w2 16 1 a0 a2).bind fun w3 =>
  (pI w3 16 2 a0 a3).bind fun w4 =>
  some w4
theorem mt_X17_init : zMt yX17_init cX17_init 4 none 3 := ⟨q2153, q116, ⟨by decide, by decide⟩, by decide +kernel, by decide⟩
set_option maxHeartbeats 4000000 in
theorem k_X17_init {l : Launch} {n : Nat} {a0 : Option Nat} {a1 : Int32} {a2 : Int32} {a3 : Int32} {w : zWd} (r : Unit) (w9 : zWd) (hf : f_X17_init n a0 a1 a2 a3 w = some w9) : zCt l yX17_init cX17_init 4 none 2 [vA a0, vI a1, vI a2, vI a3] w (.inr (none, w9)) := by
  refine zCt_of (lv := [some (vA a0), some (vI a1), some (vI a2), some (vI a3)]) (by decide +kernel) 0 rfl rfl ?_
  intro X hX hI hN hQ
  have hX : zGd X RX17 cX17_init 4 none 2 := hX
  unfold f_X17_init at hf
  refine j_aload_n (pc := 0) hX dX17_init_0 rfl ?_
  obtain ⟨w1, hc_, hf⟩ := zob hf
  obtain ⟨hi_, hc_⟩ := zV_e hc_
  refine j_callI (pc := 1) hX mt_J3_init q2154 q170 rfl rfl [] rfl rfl (Nat.le_of_ble_eq_true rfl) (by decide) dX17_init_1 (of_decide_eq_true hi_) (k_J3_init () _ hc_) ?_
  refine j_aload_n (pc := 4) hX dX17_init_4 rfl ?_
  refine j_iload_n (pc := 5) hX dX17_init_5 rfl ?_
  refine j_putIF (pc := 6) hX hI kX17 (k := 0) (Nat.le_of_ble_eq_true rfl) q2155 rfl rfl rfl rfl dX17_init_6 hf (fun w2 hf => ?_)
  refine j_aload_n (pc := 9) hX dX17_init_9 rfl ?_
  refine j_iload_n (pc := 10) hX dX17_init_10 rfl ?_
  refine j_putIF (pc := 11) hX hI kX17 (k := 1) (Nat.le_of_ble_eq_true rfl) q2156 rfl rfl rfl rfl dX17_init_11 hf (fun w3 hf => ?_)
  refine j_aload_n (pc := 14) hX dX17_init_14 rfl ?_
  refine j_iload_n (pc := 15) hX dX17_init_15 rfl ?_
  refine j_putIF (pc := 16) hX hI kX17 (k := 2) (Nat.le_of_ble_eq_true rfl) q2157 rfl rfl rfl rfl dX17_init_16 hf (fun w4 hf => ?_)
  exact j_return (pc := 19) hX hQ (by cases hf; rfl) dX17_init_19
def f_X1_advance_L69b (n : Nat) (c1 : Int32) (c5 : Option Nat) (rec : Int64 → zWd → Option (Int64 × zWd)) (v3 : Int64) (w : zWd) : Option (Int64 × zWd) :=
  zB2 (zV (isC w 22 c5) (f_J26_hasNext n c5 w)) fun x19 w18 =>
  if x19 = (0 : Int32) then
    some (v3, w18)
  else
    zB2 (zV (isC w18 22 c5) (f_J26_next n c5 w18)) fun x21 w20 =>
    (cK w20 [16] x21).bind fun _ =>
    zB2 (zV (isC w20 16 x21) (f_X17_person n x21 w20)) fun x23 w22 =>
    zB2 (
      if x23 = c1 then
        zB2 (zV (isC w22 16 x21) (f_X17_cents n x21 w22)) fun x25 w24 =>
        some ((Int32.toInt64 x25), w24)
      else
        some ((0 : Int64), w22)
      ) fun x26 w27 =>
    rec (v3 + x26) w27
def f_X1_advance_L69 (n : Nat) (c1 : Int32) (c5 : Option Nat) : Nat → Int64 → zWd → Option (Int64 × zWd)
  | 0, _, _ => none
  | k + 1, v3, w => f_X1_advance_L69b n c1 c5 (f_X1_advance_L69 n c1 c5 k) v3 w
def f_X1_advance (n : Nat) (a0 : Option Nat) (a1 : Int32) (a2 : Int32) (w : zWd) : Option ((String ⊕ Int64) × zWd) :=
  zBX (f_X1_at n a1 (6 : Int32) w) fun x2 w1 =>
  zBX (f_X1_in n a2 (1 : Int32) (1000000 : Int32) w1) fun x4 w3 =>
  (gI w3 0 17 a0).bind fun x5 =>
  (
    if (24 : Int32) ≤ x5 then
      some (0 : Int32)
    else
      some (1 : Int32)
    ).bind fun x6 =>
  zBX (f_X1_must n x6 w3) fun _u w7 =>
  (gA w7 0 15 a0).bind fun x8 =>
  zB2 (zNew w7 3 (.inr (16, df_X17))) fun x9 w10 =>
  (gI w10 0 17 a0).bind fun x11 =>
  (zV (decide (x9 ≠ none)) (f_X17_init n x9 a1 x11 a2 w10)).bind fun w12 =>
  zB2 (zV (isC w12 18 x8) (f_J2_add n x8 x9 w12)) fun x14 w13 =>
  (gA w13 0 15 a0).bind fun x15 =>
  zB2 (zV (isC w13 18 x15) (f_J2_iterator n x15 w13)) fun x17 w16 =>
  zB2 (f_X1_advance_L69 n a1 x17 n (0 : Int64) w16) fun x28 w29 =>
  some (.inr x28, w29)
theorem mt_X1_advance : zMt yX1_advance cX1_advance 7 (some .long) 2 := ⟨q2148, q66, ⟨by decide, by decide⟩, by decide +kernel, by decide⟩
set_option maxHeartbeats 4000000 in
theorem lp_X1_advance_L69 {X : zX} (hX : zGd X RX1 cX1_advance 7 (some .long) 8) (n : Nat) (c1 : Int32) (c5 : Option Nat) : ∀ (k : Nat) (v3 : Int64) (w : zWd) (o3 : Int64) (w9 : zWd) , f_X1_advance_L69 n c1 c5 k v3 w = some (o3, w9) → zJ X 116 [none, some (vI c1), none, some (vL o3), none, some (vA c5), none] [] w9 → zJ X 69 [none, some (vI c1), none, some (vL v3), none, some (vA c5), none] [] w := by
  intro k
  induction k with
  | zero => intro v3 w o3 w9 hf _; exact nomatch (show (none : Option (Int64 × zWd)) = _ from hf)
  | succ k ih =>
    intro v3 w o3 w9 hf kx
    have hf : f_X1_advance_L69b n c1 c5 (f_X1_advance_L69 n c1 c5 k) v3 w = _ := hf
    unfold f_X1_advance_L69b at hf
    refine j_aload (pc := 69) hX dX1_advance_69 rfl ?_
    obtain ⟨x19, w18, hc_, hf⟩ := zB2_e hf
    obtain ⟨hi_, hc_⟩ := zV_e hc_
    refine j_callF (pc := 71) hX (ci := 22) mt_J26_hasNext q1289 q1057 q1055 (by decide +kernel) rfl hi_ ⟨_, rfl, rfl⟩ [] rfl rfl (Nat.le_of_ble_eq_true rfl) (by decide) dX1_advance_71 (k_J26_hasNext _ _ hc_) ?_
    refine j_if_eq (pc := 76) hX 116 dX1_advance_76 rfl hf (fun h_ hf => ?_) (fun h_ hf => ?_)
    · cases hf
      exact kx
    · refine j_aload (pc := 79) hX dX1_advance_79 rfl ?_
      obtain ⟨x21, w20, hc_, hf⟩ := zB2_e hf
      obtain ⟨hi_, hc_⟩ := zV_e hc_
      refine j_callF (pc := 81) hX (ci := 22) mt_J26_next q1291 q1066 q1064 (by decide +kernel) rfl hi_ ⟨_, rfl, rfl⟩ [] rfl rfl (Nat.le_of_ble_eq_true rfl) (by decide) dX1_advance_81 (k_J26_next _ _ hc_) ?_
      refine j_cast (pc := 86) hX q2149 [16] (zC1 ⟨_, rfl, Or.inl rfl⟩) dX1_advance_86 hf (fun hf => ?_)
      refine j_astore (pc := 89) hX dX1_advance_89 (by decide) [none, some (vI c1), none, some (vL v3), none, some (vA c5), some (vA x21)] rfl ?_
      refine j_lload_n (pc := 91) hX dX1_advance_91 rfl ?_
      refine j_aload (pc := 92) hX dX1_advance_92 rfl ?_
      obtain ⟨x23, w22, hc_, hf⟩ := zB2_e hf
      obtain ⟨hi_, hc_⟩ := zV_e hc_
      refine j_callV (pc := 94) hX (ci := 16) mt_X17_person q2165 q1942 q1943 hi_ ⟨_, rfl, rfl⟩ [] rfl rfl (Nat.le_of_ble_eq_true rfl) (by decide) dX1_advance_94 (k_X17_person _ _ hc_) ?_
      refine j_iload_n (pc := 97) hX dX1_advance_97 rfl ?_
      obtain ⟨x26, w27, hm_, hf⟩ := zB2_e hf
      have kj98 : zJ X 111 [none, some (vI c1), none, none, none, some (vA c5), none] [vL x26, vL v3] w27 := by
        clear hm_
        refine j_ladd (pc := 111) hX dX1_advance_111 ?_
        refine j_lstore_n (pc := 112) hX dX1_advance_112 (by decide) [none, some (vI c1), none, some (vL (v3 + x26)), none, some (vA c5), none] rfl ?_
        refine j_goto (pc := 113) hX 69 dX1_advance_113 rfl ?_
        exact ih _ _ _ _ hf kx
      have hf := hm_
      refine j_icmp_ne (pc := 98) hX 110 dX1_advance_98 rfl hf (fun h_ hf => ?_) (fun h_ hf => ?_)
      · refine j_lconst (pc := 110) hX (0 : Int64) dX1_advance_110 rfl ?_
        refine j_fg [3, 6] [none, some (vI c1), none, none, none, some (vA c5), none] rfl ?_
        cases hf
        exact kj98
      · refine j_aload (pc := 101) hX dX1_advance_101 rfl ?_
        obtain ⟨x25, w24, hc_, hf⟩ := zB2_e hf
        obtain ⟨hi_, hc_⟩ := zV_e hc_
        refine j_callV (pc := 103) hX (ci := 16) mt_X17_cents q2166 q1950 q1951 hi_ ⟨_, rfl, rfl⟩ [] rfl rfl (Nat.le_of_ble_eq_true rfl) (by decide) dX1_advance_103 (k_X17_cents _ _ hc_) ?_
        refine j_i2l (pc := 106) hX dX1_advance_106 ?_
        refine j_goto (pc := 107) hX 111 dX1_advance_107 rfl ?_
        refine j_fg [3, 6] [none, some (vI c1), none, none, none, some (vA c5), none] rfl ?_
        cases hf
        exact kj98
set_option maxHeartbeats 4000000 in
theorem k_X1_advance {l : Launch} {n : Nat} {a0 : Option Nat} {a1 : Int32} {a2 : Int32} {w : zWd} (r : String ⊕ Int64) (w9 : zWd) (hf : f_X1_advance n a0 a1 a2 w = some (r, w9)) : zCt l yX1_advance cX1_advance 7 (some .long) 8 [vA a0, vI a1, vI a2] w (zXL r w9) := by
  refine zCt_of (lv := [some (vA a0), some (vI a1), some (vI a2), none, none, none, none]) (by decide +kernel) 4 rfl rfl ?_
  intro X hX hI hN hQ
  have hX : zGd X RX1 cX1_advance 7 (some .long) 8 := hX
  unfold f_X1_advance at hf
  refine j_iload_n (pc := 0) hX dX1_advance_0 rfl ?_
  refine j_bipush (pc := 1) hX (6 : Int32) dX1_advance_1 (by decide +kernel) ?_
  obtain ⟨⟨q_, w1⟩, hc_, hf⟩ := zob hf
  cases q_ with
  | inl E_ =>
    cases hf
    exact j_callSX (pc := 3) hX mt_X1_at q507 q508 [vI a1, vI (6 : Int32)] rfl rfl (Nat.le_of_ble_eq_true rfl) (by decide) dX1_advance_3 hN hQ (k_X1_at _ _ hc_)
  | inr x2 =>
    refine j_callS (pc := 3) hX mt_X1_at q507 q508 [vI a1, vI (6 : Int32)] rfl rfl (Nat.le_of_ble_eq_true rfl) (by decide) dX1_advance_3 (k_X1_at _ _ hc_) ?_
    refine j_pop (pc := 6) hX rfl dX1_advance_6 ?_
    refine j_iload_n (pc := 7) hX dX1_advance_7 rfl ?_
    refine j_iconst (pc := 8) hX (1 : Int32) dX1_advance_8 rfl ?_
    refine j_ldcw (pc := 9) hX q542 dX1_advance_9 ?_
    obtain ⟨⟨q_, w3⟩, hc_, hf⟩ := zob hf
    cases q_ with
    | inl E_ =>
      cases hf
      exact j_callSX (pc := 12) hX mt_X1_in q523 q524 [vI a2, vI (1 : Int32), vI (1000000 : Int32)] rfl rfl (Nat.le_of_ble_eq_true rfl) (by decide) dX1_advance_12 hN hQ (k_X1_in _ _ hc_)
    | inr x4 =>
      refine j_callS (pc := 12) hX mt_X1_in q523 q524 [vI a2, vI (1 : Int32), vI (1000000 : Int32)] rfl rfl (Nat.le_of_ble_eq_true rfl) (by decide) dX1_advance_12 (k_X1_in _ _ hc_) ?_
      refine j_pop (pc := 15) hX rfl dX1_advance_15 ?_
      refine j_aload_n (pc := 16) hX dX1_advance_16 rfl ?_
      refine j_getI (pc := 17) hX kX1 (k := 17) (Nat.le_of_ble_eq_true rfl) q360 (Or.inl rfl) dX1_advance_17 hf (fun x5 hx_ hf => ?_)
      refine j_bipush (pc := 20) hX (24 : Int32) dX1_advance_20 (by decide +kernel) ?_
      obtain ⟨x6, hm_, hf⟩ := zob hf
      have kj22 : zJ X 30 [some (vA a0), some (vI a1), some (vI a2), none, none, none, none] [vI x6] w3 := by
        clear hm_
        obtain ⟨⟨q_, w7⟩, hc_, hf⟩ := zob hf
        cases q_ with
        | inl E_ =>
          cases hf
          exact j_callSX (pc := 30) hX mt_X1_must q543 q544 [vI x6] rfl rfl (Nat.le_of_ble_eq_true rfl) (by decide) dX1_advance_30 hN hQ (k_X1_must _ _ hc_)
        | inr u_ =>
          refine j_callS (pc := 30) hX mt_X1_must q543 q544 [vI x6] rfl rfl (Nat.le_of_ble_eq_true rfl) (by decide) dX1_advance_30 (k_X1_must _ _ hc_) ?_
          refine j_aload_n (pc := 33) hX dX1_advance_33 rfl ?_
          refine j_getA (pc := 34) hX kX1 (k := 15) (Nat.le_of_ble_eq_true rfl) q357 (Or.inl rfl) dX1_advance_34 hf (fun x8 hx_ hf => ?_)
          refine j_new (pc := 37) hX kX17 q2149 q2150 q116 df_X17 df_X17_ok dX1_advance_37 hf (fun x9 w10 hf => ?_)
          refine j_dup (pc := 40) hX rfl dX1_advance_40 ?_
          refine j_iload_n (pc := 41) hX dX1_advance_41 rfl ?_
          refine j_aload_n (pc := 42) hX dX1_advance_42 rfl ?_
          refine j_getI (pc := 43) hX kX1 (k := 17) (Nat.le_of_ble_eq_true rfl) q360 (Or.inl rfl) dX1_advance_43 hf (fun x11 hx_ hf => ?_)
          refine j_iload_n (pc := 46) hX dX1_advance_46 rfl ?_
          obtain ⟨w12, hc_, hf⟩ := zob hf
          obtain ⟨hi_, hc_⟩ := zV_e hc_
          refine j_callIN (pc := 47) hX mt_X17_init q2151 q2152 rfl rfl [vI a1, vI x11, vI a2] rfl rfl (Nat.le_of_ble_eq_true rfl) (by decide) dX1_advance_47 (of_decide_eq_true hi_) (k_X17_init () _ hc_) ?_
          obtain ⟨x14, w13, hc_, hf⟩ := zB2_e hf
          obtain ⟨hi_, hc_⟩ := zV_e hc_
          refine j_callF (pc := 50) hX (ci := 18) mt_J2_add q226 q232 q230 (by decide +kernel) rfl hi_ ⟨_, rfl, rfl⟩ [vA x9] rfl rfl (Nat.le_of_ble_eq_true rfl) (by decide) dX1_advance_50 (k_J2_add _ _ hc_) ?_
          refine j_pop (pc := 55) hX rfl dX1_advance_55 ?_
          refine j_lconst (pc := 56) hX (0 : Int64) dX1_advance_56 rfl ?_
          refine j_lstore_n (pc := 57) hX dX1_advance_57 (by decide) [some (vA a0), some (vI a1), some (vI a2), some (vL (0 : Int64)), none, none, none] rfl ?_
          refine j_aload_n (pc := 58) hX dX1_advance_58 rfl ?_
          refine j_getA (pc := 59) hX kX1 (k := 15) (Nat.le_of_ble_eq_true rfl) q357 (Or.inl rfl) dX1_advance_59 hf (fun x15 hx_ hf => ?_)
          obtain ⟨x17, w16, hc_, hf⟩ := zB2_e hf
          obtain ⟨hi_, hc_⟩ := zV_e hc_
          refine j_callF (pc := 62) hX (ci := 18) mt_J2_iterator q1287 q1028 q1026 (by decide +kernel) rfl hi_ ⟨_, rfl, rfl⟩ [] rfl rfl (Nat.le_of_ble_eq_true rfl) (by decide) dX1_advance_62 (k_J2_iterator _ _ hc_) ?_
          refine j_astore (pc := 67) hX dX1_advance_67 (by decide) [some (vA a0), some (vI a1), some (vI a2), some (vL (0 : Int64)), none, some (vA x17), none] rfl ?_
          obtain ⟨x28, w29, hm_, hf⟩ := zB2_e hf
          refine j_fg [0, 2] [none, some (vI a1), none, some (vL (0 : Int64)), none, some (vA x17), none] rfl ?_
          refine lp_X1_advance_L69 hX n _ _ _ _ _ _ _ hm_ ?_
          refine j_lload_n (pc := 116) hX dX1_advance_116 rfl ?_
          exact j_lreturn (pc := 117) hX hQ (by cases hf; rfl) dX1_advance_117
      have hf := hm_
      refine j_icmp_ge (pc := 22) hX 29 dX1_advance_22 rfl hf (fun h_ hf => ?_) (fun h_ hf => ?_)
      · refine j_iconst (pc := 29) hX (0 : Int32) dX1_advance_29 rfl ?_
        cases hf
        exact kj22
      · refine j_iconst (pc := 25) hX (1 : Int32) dX1_advance_25 rfl ?_
        refine j_goto (pc := 26) hX 30 dX1_advance_26 rfl ?_
        cases hf
        exact kj22
def f_X14_payouts_L5b (n : Nat) (c0 : Option Nat) (c1 : Int32) (w : zWd) (rec : Int64 → Int32 → Option (Int64)) (v2 : Int64) (v4 : Int32) : Option (Int64) :=
  if c1 ≤ v4 then
    some v2
  else
    (gA w 13 14 c0).bind fun x1 =>
    (aL w x1 v4).bind fun x2 =>
    rec (v2 + x2) (v4 + (1))
def f_X14_payouts_L5 (n : Nat) (c0 : Option Nat) (c1 : Int32) (w : zWd) : Nat → Int64 → Int32 → Option (Int64)
  | 0, _, _ => none
  | k + 1, v2, v4 => f_X14_payouts_L5b n c0 c1 w (f_X14_payouts_L5 n c0 c1 w k) v2 v4
def f_X14_payouts (n : Nat) (a0 : Option Nat) (a1 : Int32) (w : zWd) : Option (Int64 × zWd) :=
  (f_X14_payouts_L5 n a0 a1 w n (0 : Int64) (0 : Int32)).bind fun x3 =>
  some (x3, w)
theorem mt_X14_payouts : zMt yX14_payouts cX14_payouts 5 (some .long) 1 := ⟨q2177, q111, ⟨by decide, by decide⟩, by decide +kernel, by decide⟩
set_option maxHeartbeats 4000000 in
theorem lp_X14_payouts_L5 {X : zX} (hX : zGd X RX14 cX14_payouts 5 (some .long) 1) (n : Nat) (c0 : Option Nat) (c1 : Int32) (w : zWd) : ∀ (k : Nat) (v2 : Int64) (v4 : Int32) (o2 : Int64) , f_X14_payouts_L5 n c0 c1 w k v2 v4 = some o2 → zJ X 27 [some (vA c0), some (vI c1), some (vL o2), none, none] [] w → zJ X 5 [some (vA c0), some (vI c1), some (vL v2), none, some (vI v4)] [] w := by
  intro k
  induction k with
  | zero => intro v2 v4 o2 hf _; exact nomatch (show (none : Option (Int64)) = _ from hf)
  | succ k ih =>
    intro v2 v4 o2 hf kx
    have hf : f_X14_payouts_L5b n c0 c1 w (f_X14_payouts_L5 n c0 c1 w k) v2 v4 = _ := hf
    unfold f_X14_payouts_L5b at hf
    refine j_iload (pc := 5) hX dX14_payouts_5 rfl ?_
    refine j_iload_n (pc := 7) hX dX14_payouts_7 rfl ?_
    refine j_icmp_ge (pc := 8) hX 27 dX14_payouts_8 rfl hf (fun h_ hf => ?_) (fun h_ hf => ?_)
    · refine j_fg [4] [some (vA c0), some (vI c1), some (vL v2), none, none] rfl ?_
      cases hf
      exact kx
    · refine j_lload_n (pc := 11) hX dX14_payouts_11 rfl ?_
      refine j_aload_n (pc := 12) hX dX14_payouts_12 rfl ?_
      refine j_getA (pc := 13) hX kX14 (k := 14) (Nat.le_of_ble_eq_true rfl) q1974 (Or.inl rfl) dX14_payouts_13 hf (fun x1 hx_ hf => ?_)
      refine j_iload (pc := 16) hX dX14_payouts_16 rfl ?_
      refine j_laload (pc := 18) hX dX14_payouts_18 hf (fun x2 hx_ hf => ?_)
      refine j_ladd (pc := 19) hX dX14_payouts_19 ?_
      refine j_lstore_n (pc := 20) hX dX14_payouts_20 (by decide) [some (vA c0), some (vI c1), some (vL (v2 + x2)), none, some (vI v4)] rfl ?_
      refine j_iinc (pc := 21) hX (1) dX14_payouts_21 rfl rfl (by decide) [some (vA c0), some (vI c1), some (vL (v2 + x2)), none, some (vI (v4 + (1)))] rfl ?_
      refine j_goto (pc := 24) hX 5 dX14_payouts_24 rfl ?_
      exact ih _ _ _ hf kx
set_option maxHeartbeats 4000000 in
theorem k_X14_payouts {l : Launch} {n : Nat} {a0 : Option Nat} {a1 : Int32} {w : zWd} (r : Int64) (w9 : zWd) (hf : f_X14_payouts n a0 a1 w = some (r, w9)) : zCt l yX14_payouts cX14_payouts 5 (some .long) 1 [vA a0, vI a1] w (.inr (some (vL r), w9)) := by
  refine zCt_of (lv := [some (vA a0), some (vI a1), none, none, none]) (by decide +kernel) 3 rfl rfl ?_
  intro X hX hI hN hQ
  have hX : zGd X RX14 cX14_payouts 5 (some .long) 1 := hX
  unfold f_X14_payouts at hf
  refine j_lconst (pc := 0) hX (0 : Int64) dX14_payouts_0 rfl ?_
  refine j_lstore_n (pc := 1) hX dX14_payouts_1 (by decide) [some (vA a0), some (vI a1), some (vL (0 : Int64)), none, none] rfl ?_
  refine j_iconst (pc := 2) hX (0 : Int32) dX14_payouts_2 rfl ?_
  refine j_istore (pc := 3) hX dX14_payouts_3 (by decide) [some (vA a0), some (vI a1), some (vL (0 : Int64)), none, some (vI (0 : Int32))] rfl ?_
  obtain ⟨x3, hm_, hf⟩ := zob hf
  refine lp_X14_payouts_L5 hX n _ _ _ _ _ _ _ hm_ ?_
  refine j_lload_n (pc := 27) hX dX14_payouts_27 rfl ?_
  exact j_lreturn (pc := 28) hX hQ (by cases hf; rfl) dX14_payouts_28
def f_X1_paidTo_L13b (n : Nat) (c1 : Int32) (c4 : Option Nat) (rec : Int64 → zWd → Option (Int64 × zWd)) (v2 : Int64) (w : zWd) : Option (Int64 × zWd) :=
  zB2 (zV (isC w 22 c4) (f_J26_hasNext n c4 w)) fun x5 w4 =>
  if x5 = (0 : Int32) then
    some (v2, w4)
  else
    zB2 (zV (isC w4 22 c4) (f_J26_next n c4 w4)) fun x7 w6 =>
    (cK w6 [17] x7).bind fun _ =>
    (gI w6 17 0 x7).bind fun x8 =>
    (
      if x8 = c1 then
        (gI w6 17 3 x7).bind fun x9 =>
        if x9 = (0 : Int32) then
          (gL w6 17 2 x7).bind fun x10 =>
          some x10
        else
          some (0 : Int64)
      else
        some (0 : Int64)
      ).bind fun x11 =>
    rec (v2 + x11) w6
def f_X1_paidTo_L13 (n : Nat) (c1 : Int32) (c4 : Option Nat) : Nat → Int64 → zWd → Option (Int64 × zWd)
  | 0, _, _ => none
  | k + 1, v2, w => f_X1_paidTo_L13b n c1 c4 (f_X1_paidTo_L13 n c1 c4 k) v2 w
def f_X1_paidTo (n : Nat) (a0 : Option Nat) (a1 : Int32) (w : zWd) : Option (Int64 × zWd) :=
  (gA w 0 16 a0).bind fun x1 =>
  zB2 (zV (isC w 18 x1) (f_J2_iterator n x1 w)) fun x3 w2 =>
  zB2 (f_X1_paidTo_L13 n a1 x3 n (0 : Int64) w2) fun x12 w13 =>
  some (x12, w13)
theorem mt_X1_paidTo : zMt yX1_paidTo cX1_paidTo 6 (some .long) 1 := ⟨q2181, q66, ⟨by decide, by decide⟩, by decide +kernel, by decide⟩
set_option maxHeartbeats 4000000 in
theorem lp_X1_paidTo_L13 {X : zX} (hX : zGd X RX1 cX1_paidTo 6 (some .long) 3) (n : Nat) (c1 : Int32) (c4 : Option Nat) : ∀ (k : Nat) (v2 : Int64) (w : zWd) (o2 : Int64) (w9 : zWd) , f_X1_paidTo_L13 n c1 c4 k v2 w = some (o2, w9) → zJ X 67 [none, some (vI c1), some (vL o2), none, some (vA c4), none] [] w9 → zJ X 13 [none, some (vI c1), some (vL v2), none, some (vA c4), none] [] w := by
  intro k
  induction k with
  | zero => intro v2 w o2 w9 hf _; exact nomatch (show (none : Option (Int64 × zWd)) = _ from hf)
  | succ k ih =>
    intro v2 w o2 w9 hf kx
    have hf : f_X1_paidTo_L13b n c1 c4 (f_X1_paidTo_L13 n c1 c4 k) v2 w = _ := hf
    unfold f_X1_paidTo_L13b at hf
    refine j_aload (pc := 13) hX dX1_paidTo_13 rfl ?_
    obtain ⟨x5, w4, hc_, hf⟩ := zB2_e hf
    obtain ⟨hi_, hc_⟩ := zV_e hc_
    refine j_callF (pc := 15) hX (ci := 22) mt_J26_hasNext q1289 q1057 q1055 (by decide +kernel) rfl hi_ ⟨_, rfl, rfl⟩ [] rfl rfl (Nat.le_of_ble_eq_true rfl) (by decide) dX1_paidTo_15 (k_J26_hasNext _ _ hc_) ?_
    refine j_if_eq (pc := 20) hX 67 dX1_paidTo_20 rfl hf (fun h_ hf => ?_) (fun h_ hf => ?_)
    · cases hf
      exact kx
    · refine j_aload (pc := 23) hX dX1_paidTo_23 rfl ?_
      obtain ⟨x7, w6, hc_, hf⟩ := zB2_e hf
      obtain ⟨hi_, hc_⟩ := zV_e hc_
      refine j_callF (pc := 25) hX (ci := 22) mt_J26_next q1291 q1066 q1064 (by decide +kernel) rfl hi_ ⟨_, rfl, rfl⟩ [] rfl rfl (Nat.le_of_ble_eq_true rfl) (by decide) dX1_paidTo_25 (k_J26_next _ _ hc_) ?_
      refine j_cast (pc := 30) hX q2182 [17] (zC1 ⟨_, rfl, Or.inl rfl⟩) dX1_paidTo_30 hf (fun hf => ?_)
      refine j_astore (pc := 33) hX dX1_paidTo_33 (by decide) [none, some (vI c1), some (vL v2), none, some (vA c4), some (vA x7)] rfl ?_
      refine j_lload_n (pc := 35) hX dX1_paidTo_35 rfl ?_
      refine j_aload (pc := 36) hX dX1_paidTo_36 rfl ?_
      refine j_getIN (pc := 38) hX kX18 (k := 0) (Nat.le_of_ble_eq_true rfl) q2189 rfl dX1_paidTo_38 hf (fun x8 hx_ hf => ?_)
      refine j_iload_n (pc := 41) hX dX1_paidTo_41 rfl ?_
      obtain ⟨x11, hm_, hf⟩ := zob hf
      have kj42 : zJ X 62 [none, some (vI c1), none, none, some (vA c4), none] [vL x11, vL v2] w6 := by
        clear hm_
        refine j_ladd (pc := 62) hX dX1_paidTo_62 ?_
        refine j_lstore_n (pc := 63) hX dX1_paidTo_63 (by decide) [none, some (vI c1), some (vL (v2 + x11)), none, some (vA c4), none] rfl ?_
        refine j_goto (pc := 64) hX 13 dX1_paidTo_64 rfl ?_
        exact ih _ _ _ _ hf kx
      have hf := hm_
      refine j_icmp_ne (pc := 42) hX 61 dX1_paidTo_42 rfl hf (fun h_ hf => ?_) (fun h_ hf => ?_)
      · refine j_lconst (pc := 61) hX (0 : Int64) dX1_paidTo_61 rfl ?_
        refine j_fg [2, 5] [none, some (vI c1), none, none, some (vA c4), none] rfl ?_
        cases hf
        exact kj42
      · refine j_aload (pc := 45) hX dX1_paidTo_45 rfl ?_
        refine j_getIN (pc := 47) hX kX18 (k := 3) (Nat.le_of_ble_eq_true rfl) q2194 rfl dX1_paidTo_47 hf (fun x9 hx_ hf => ?_)
        refine j_if_ne (pc := 50) hX 61 dX1_paidTo_50 rfl hf (fun h_ hf => ?_) (fun h_ hf => ?_)
        · refine j_lconst (pc := 61) hX (0 : Int64) dX1_paidTo_61 rfl ?_
          refine j_fg [2, 5] [none, some (vI c1), none, none, some (vA c4), none] rfl ?_
          cases hf
          exact kj42
        · refine j_aload (pc := 53) hX dX1_paidTo_53 rfl ?_
          refine j_getLN (pc := 55) hX kX18 (k := 2) (Nat.le_of_ble_eq_true rfl) q2193 rfl dX1_paidTo_55 hf (fun x10 hx_ hf => ?_)
          refine j_goto (pc := 58) hX 62 dX1_paidTo_58 rfl ?_
          refine j_fg [2, 5] [none, some (vI c1), none, none, some (vA c4), none] rfl ?_
          cases hf
          exact kj42
set_option maxHeartbeats 4000000 in
theorem k_X1_paidTo {l : Launch} {n : Nat} {a0 : Option Nat} {a1 : Int32} {w : zWd} (r : Int64) (w9 : zWd) (hf : f_X1_paidTo n a0 a1 w = some (r, w9)) : zCt l yX1_paidTo cX1_paidTo 6 (some .long) 3 [vA a0, vI a1] w (.inr (some (vL r), w9)) := by
  refine zCt_of (lv := [some (vA a0), some (vI a1), none, none, none, none]) (by decide +kernel) 4 rfl rfl ?_
  intro X hX hI hN hQ
  have hX : zGd X RX1 cX1_paidTo 6 (some .long) 3 := hX
  unfold f_X1_paidTo at hf
  refine j_lconst (pc := 0) hX (0 : Int64) dX1_paidTo_0 rfl ?_
  refine j_lstore_n (pc := 1) hX dX1_paidTo_1 (by decide) [some (vA a0), some (vI a1), some (vL (0 : Int64)), none, none, none] rfl ?_
  refine j_aload_n (pc := 2) hX dX1_paidTo_2 rfl ?_
  refine j_getA (pc := 3) hX kX1 (k := 16) (Nat.le_of_ble_eq_true rfl) q359 (Or.inl rfl) dX1_paidTo_3 hf (fun x1 hx_ hf => ?_)
  obtain ⟨x3, w2, hc_, hf⟩ := zB2_e hf
  obtain ⟨hi_, hc_⟩ := zV_e hc_
  refine j_callF (pc := 6) hX (ci := 18) mt_J2_iterator q1287 q1028 q1026 (by decide +kernel) rfl hi_ ⟨_, rfl, rfl⟩ [] rfl rfl (Nat.le_of_ble_eq_true rfl) (by decide) dX1_paidTo_6 (k_J2_iterator _ _ hc_) ?_
  refine j_astore (pc := 11) hX dX1_paidTo_11 (by decide) [some (vA a0), some (vI a1), some (vL (0 : Int64)), none, some (vA x3), none] rfl ?_
  obtain ⟨x12, w13, hm_, hf⟩ := zB2_e hf
  refine j_fg [0] [none, some (vI a1), some (vL (0 : Int64)), none, some (vA x3), none] rfl ?_
  refine lp_X1_paidTo_L13 hX n _ _ _ _ _ _ _ hm_ ?_
  refine j_lload_n (pc := 67) hX dX1_paidTo_67 rfl ?_
  exact j_lreturn (pc := 68) hX hQ (by cases hf; rfl) dX1_paidTo_68
