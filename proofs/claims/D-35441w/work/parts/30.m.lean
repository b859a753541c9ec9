set_option maxRecDepth 100000
def f_X4_pension (n : Nat) (a1 : Int32) (a2 : Int32) (a3 : Int32) (w : zM) : Option zM :=
  zB2 (f_X4_isPerson n a1 w) fun x2 w1 =>
  zB2 (
    if x2 = (0 : Int32) then
      some ((1 : Int32), w1)
    else
      zB2 (f_X4_isMonth n a2 w1) fun x4 w3 =>
      if x4 = (0 : Int32) then
        some ((1 : Int32), w3)
      else
        zB2 (f_X4_in n (Int32.toInt64 a3) (0 : Int64) (200 : Int64) w3) fun x6 w5 =>
        if x6 = (0 : Int32) then
          some ((2 : Int32), w5)
        else
          some ((0 : Int32), w5)
    ) fun x7 w8 =>
  zB2 (f_X4_holds n x7 w8) fun x10 w9 =>
  (
    if x10 = (0 : Int32) then
      (sIM w9 37 144 (((24 : Int32) * a1) + a2) a3).bind fun w11 =>
      some w11
    else
      some w9
    ).bind fun w12 =>
  some w12
theorem mt_X4_pension : zMt yX4_pension cX4_pension 4 none 3 := ⟨q2639, q82, ⟨by decide, by decide⟩, by decide +kernel, by decide⟩
set_option maxHeartbeats 4000000 in
theorem k_X4_pension {l : Launch} {n : Nat} {a1 : Int32} {a2 : Int32} {a3 : Int32} {b : Nat} {u : zWd} {w : zM} (r : Unit) (w9 : zM) (hf : f_X4_pension n a1 a2 a3 w = some w9) : zCt l yX4_pension cX4_pension 4 none 3 [vA (some b), vI a1, vI a2, vI a3] (zIj b u w) (.inr (none, (zIj b u w9))) := by
  refine zCt_of (lv := [some (vA (some b)), some (vI a1), some (vI a2), some (vI a3)]) (by decide +kernel) 0 rfl rfl ?_
  intro X hX hI hN hQ
  have hX : zGd X RX4 cX4_pension 4 none 3 := hX
  unfold f_X4_pension at hf
  refine j_aload_n (pc := 0) hX dX4_pension_0 rfl ?_
  refine j_aload_n (pc := 1) hX dX4_pension_1 rfl ?_
  refine j_iload_n (pc := 2) hX dX4_pension_2 rfl ?_
  obtain ⟨x2, w1, hc_, hf⟩ := zB2_e hf
  refine j_callV (pc := 3) hX (ci := 3) mt_X4_isPerson q2464 q2466 qs28 (zIj_isC b u _) ⟨_, rfl, rfl⟩ [vI a1] rfl rfl (Nat.le_of_ble_eq_true rfl) (by decide) dX4_pension_3 (k_X4_isPerson _ _ hc_) ?_
  obtain ⟨x7, w8, hm_, hf⟩ := zB2_e hf
  have kj6 : zJ X 39 [some (vA (some b)), some (vI a1), some (vI a2), some (vI a3)] [vI x7, vA (some b)] (zIj b u w8) := by
    clear hm_
    obtain ⟨x10, w9, hc_, hf⟩ := zB2_e hf
    refine j_callV (pc := 39) hX (ci := 3) mt_X4_holds q2486 q2488 qs32 (zIj_isC b u _) ⟨_, rfl, rfl⟩ [vI x7] rfl rfl (Nat.le_of_ble_eq_true rfl) (by decide) dX4_pension_39 (k_X4_holds _ _ hc_) ?_
    obtain ⟨w12, hm_, hf⟩ := zob hf
    have kj42 : zJ X 57 [none, none, none, none] [] (zIj b u w12) := by
      clear hm_
      exact j_return (pc := 57) hX hQ (by cases hf; rfl) dX4_pension_57
    have hf := hm_
    refine j_if_ne (pc := 42) hX 57 dX4_pension_42 rfl hf (fun h_ hf => ?_) (fun h_ hf => ?_)
    · refine j_fg [0, 1, 2, 3] [none, none, none, none] rfl ?_
      cases hf
      exact kj42
    · refine j_aload_n (pc := 45) hX dX4_pension_45 rfl ?_
      refine mg_A (pc := 46) hX 37 (by decide) 30 1 rfl rfl (by decide) q2282 dX4_pension_46 ?_
      refine j_bipush (pc := 49) hX (24 : Int32) dX4_pension_49 (by decide +kernel) ?_
      refine j_iload_n (pc := 51) hX dX4_pension_51 rfl ?_
      refine j_imul (pc := 52) hX dX4_pension_52 ?_
      refine j_iload_n (pc := 53) hX dX4_pension_53 rfl ?_
      refine j_iadd (pc := 54) hX dX4_pension_54 ?_
      refine j_iload_n (pc := 55) hX dX4_pension_55 rfl ?_
      refine ms_I (pc := 56) hX 37 144 30 (by decide) rfl rfl rfl dX4_pension_56 hf (fun w11 hf => ?_)
      refine j_fg [0, 1, 2, 3] [none, none, none, none] rfl ?_
      cases hf
      exact kj42
  have hf := hm_
  refine j_if_eq (pc := 6) hX 17 dX4_pension_6 rfl hf (fun h_ hf => ?_) (fun h_ hf => ?_)
  · refine j_iconst (pc := 17) hX (1 : Int32) dX4_pension_17 rfl ?_
    refine j_goto (pc := 18) hX 39 dX4_pension_18 rfl ?_
    cases hf
    exact kj6
  · refine j_aload_n (pc := 9) hX dX4_pension_9 rfl ?_
    refine j_iload_n (pc := 10) hX dX4_pension_10 rfl ?_
    obtain ⟨x4, w3, hc_, hf⟩ := zB2_e hf
    refine j_callV (pc := 11) hX (ci := 3) mt_X4_isMonth q2537 q2539 qs39 (zIj_isC b u _) ⟨_, rfl, rfl⟩ [vI a2] rfl rfl (Nat.le_of_ble_eq_true rfl) (by decide) dX4_pension_11 (k_X4_isMonth _ _ hc_) ?_
    refine j_if_ne (pc := 14) hX 21 dX4_pension_14 rfl hf (fun h_ hf => ?_) (fun h_ hf => ?_)
    · refine j_aload_n (pc := 21) hX dX4_pension_21 rfl ?_
      refine j_iload_n (pc := 22) hX dX4_pension_22 rfl ?_
      refine j_i2l (pc := 23) hX dX4_pension_23 ?_
      refine j_lconst (pc := 24) hX (0 : Int64) dX4_pension_24 rfl ?_
      refine j_ldc2 (pc := 25) hX q2640 dX4_pension_25 ?_
      obtain ⟨x6, w5, hc_, hf⟩ := zB2_e hf
      refine j_callV (pc := 28) hX (ci := 3) mt_X4_in q2469 q2471 qs29 (zIj_isC b u _) ⟨_, rfl, rfl⟩ [vL (Int32.toInt64 a3), vL (0 : Int64), vL (200 : Int64)] rfl rfl (Nat.le_of_ble_eq_true rfl) (by decide) dX4_pension_28 (k_X4_in _ _ hc_) ?_
      refine j_if_eq (pc := 31) hX 38 dX4_pension_31 rfl hf (fun h_ hf => ?_) (fun h_ hf => ?_)
      · refine j_iconst (pc := 38) hX (2 : Int32) dX4_pension_38 rfl ?_
        cases hf
        exact kj6
      · refine j_iconst (pc := 34) hX (0 : Int32) dX4_pension_34 rfl ?_
        refine j_goto (pc := 35) hX 39 dX4_pension_35 rfl ?_
        cases hf
        exact kj6
    · refine j_iconst (pc := 17) hX (1 : Int32) dX4_pension_17 rfl ?_
      refine j_goto (pc := 18) hX 39 dX4_pension_18 rfl ?_
      cases hf
      exact kj6
def f_X4_lastOf_L3b (n : Nat) (c1 : Int32) (c2 : Int32) (w : zM) (rec : Int32 → Option (Int32)) (v4 : Int32) : Option (Int32) :=
  if v4 < (0 : Int32) then
    some v4
  else
    if c1 = (0 : Int32) then
      (rIM w 31 72 (c2 + v4)).bind fun x4 =>
      if (0 : Int32) ≤ x4 then
        some v4
      else
        rec (v4 + (-1))
    else
      if c1 = (1 : Int32) then
        (rIM w 36 144 (c2 + v4)).bind fun x3 =>
        if (0 : Int32) ≤ x3 then
          some v4
        else
          rec (v4 + (-1))
      else
        if c1 = (2 : Int32) then
          (rIM w 37 144 (c2 + v4)).bind fun x2 =>
          if (0 : Int32) ≤ x2 then
            some v4
          else
            rec (v4 + (-1))
        else
          (rIM w 33 144 (c2 + v4)).bind fun x1 =>
          if x1 = (0 : Int32) then
            rec (v4 + (-1))
          else
            some v4
def f_X4_lastOf_L3 (n : Nat) (c1 : Int32) (c2 : Int32) (w : zM) : Nat → Int32 → Option (Int32)
  | 0, _ => none
  | k + 1, v4 => f_X4_lastOf_L3b n c1 c2 w (f_X4_lastOf_L3 n c1 c2 w k) v4
def f_X4_lastOf (n : Nat) (a1 : Int32) (a2 : Int32) (a3 : Int32) (w : zM) : Option (Int32 × zM) :=
  (f_X4_lastOf_L3 n a1 a2 w n a3).bind fun x5 =>
  some (x5, w)
theorem mt_X4_lastOf : zMt yX4_lastOf cX4_lastOf 5 (some .int) 3 := ⟨q2653, q82, ⟨by decide, by decide⟩, by decide +kernel, by decide⟩
set_option maxHeartbeats 4000000 in
theorem lp_X4_lastOf_L3 {X : zX} {b : Nat} {u : zWd} (hX : zGd X RX4 cX4_lastOf 5 (some .int) 1) (n : Nat) (c1 : Int32) (c2 : Int32) (w : zM) : ∀ (k : Nat) (v4 : Int32) (o4 : Int32) , f_X4_lastOf_L3 n c1 c2 w k v4 = some o4 → zJ X 85 [some (vA (some b)), some (vI c1), some (vI c2), none, some (vI o4)] [] (zIj b u w) → zJ X 3 [some (vA (some b)), some (vI c1), some (vI c2), none, some (vI v4)] [] (zIj b u w) := by
  intro k
  induction k with
  | zero => intro v4 o4 hf _; exact nomatch (show (none : Option (Int32)) = _ from hf)
  | succ k ih =>
    intro v4 o4 hf kx
    have hf : f_X4_lastOf_L3b n c1 c2 w (f_X4_lastOf_L3 n c1 c2 w k) v4 = _ := hf
    unfold f_X4_lastOf_L3b at hf
    refine j_iload (pc := 3) hX dX4_lastOf_3 rfl ?_
    refine j_if_lt (pc := 5) hX 85 dX4_lastOf_5 rfl hf (fun h_ hf => ?_) (fun h_ hf => ?_)
    · cases hf
      exact kx
    · refine j_iload_n (pc := 8) hX dX4_lastOf_8 rfl ?_
      refine j_if_ne (pc := 9) hX 27 dX4_lastOf_9 rfl hf (fun h_ hf => ?_) (fun h_ hf => ?_)
      · refine j_iload_n (pc := 27) hX dX4_lastOf_27 rfl ?_
        refine j_iconst (pc := 28) hX (1 : Int32) dX4_lastOf_28 rfl ?_
        refine j_icmp_ne (pc := 29) hX 47 dX4_lastOf_29 rfl hf (fun h_ hf => ?_) (fun h_ hf => ?_)
        · refine j_iload_n (pc := 47) hX dX4_lastOf_47 rfl ?_
          refine j_iconst (pc := 48) hX (2 : Int32) dX4_lastOf_48 rfl ?_
          refine j_icmp_ne (pc := 49) hX 67 dX4_lastOf_49 rfl hf (fun h_ hf => ?_) (fun h_ hf => ?_)
          · refine j_aload_n (pc := 67) hX dX4_lastOf_67 rfl ?_
            refine mg_A (pc := 68) hX 33 (by decide) 26 1 rfl rfl (by decide) q2278 dX4_lastOf_68 ?_
            refine j_iload_n (pc := 71) hX dX4_lastOf_71 rfl ?_
            refine j_iload (pc := 72) hX dX4_lastOf_72 rfl ?_
            refine j_iadd (pc := 74) hX dX4_lastOf_74 ?_
            refine mr_I (pc := 75) hX 33 144 26 (by decide) rfl rfl rfl dX4_lastOf_75 hf (fun x1 hx_ hf => ?_)
            refine j_if_ne (pc := 76) hX 85 dX4_lastOf_76 rfl hf (fun h_ hf => ?_) (fun h_ hf => ?_)
            · cases hf
              exact kx
            · refine j_iinc (pc := 79) hX (-1) dX4_lastOf_79 rfl rfl (by decide) [some (vA (some b)), some (vI c1), some (vI c2), none, some (vI (v4 + (-1)))] rfl ?_
              refine j_goto (pc := 82) hX 3 dX4_lastOf_82 rfl ?_
              exact ih _ _ hf kx
          · refine j_aload_n (pc := 52) hX dX4_lastOf_52 rfl ?_
            refine mg_A (pc := 53) hX 37 (by decide) 30 1 rfl rfl (by decide) q2282 dX4_lastOf_53 ?_
            refine j_iload_n (pc := 56) hX dX4_lastOf_56 rfl ?_
            refine j_iload (pc := 57) hX dX4_lastOf_57 rfl ?_
            refine j_iadd (pc := 59) hX dX4_lastOf_59 ?_
            refine mr_I (pc := 60) hX 37 144 30 (by decide) rfl rfl rfl dX4_lastOf_60 hf (fun x2 hx_ hf => ?_)
            refine j_if_ge (pc := 61) hX 85 dX4_lastOf_61 rfl hf (fun h_ hf => ?_) (fun h_ hf => ?_)
            · cases hf
              exact kx
            · refine j_goto (pc := 64) hX 79 dX4_lastOf_64 rfl ?_
              refine j_iinc (pc := 79) hX (-1) dX4_lastOf_79 rfl rfl (by decide) [some (vA (some b)), some (vI c1), some (vI c2), none, some (vI (v4 + (-1)))] rfl ?_
              refine j_goto (pc := 82) hX 3 dX4_lastOf_82 rfl ?_
              exact ih _ _ hf kx
        · refine j_aload_n (pc := 32) hX dX4_lastOf_32 rfl ?_
          refine mg_A (pc := 33) hX 36 (by decide) 29 1 rfl rfl (by decide) q2281 dX4_lastOf_33 ?_
          refine j_iload_n (pc := 36) hX dX4_lastOf_36 rfl ?_
          refine j_iload (pc := 37) hX dX4_lastOf_37 rfl ?_
          refine j_iadd (pc := 39) hX dX4_lastOf_39 ?_
          refine mr_I (pc := 40) hX 36 144 29 (by decide) rfl rfl rfl dX4_lastOf_40 hf (fun x3 hx_ hf => ?_)
          refine j_if_ge (pc := 41) hX 85 dX4_lastOf_41 rfl hf (fun h_ hf => ?_) (fun h_ hf => ?_)
          · cases hf
            exact kx
          · refine j_goto (pc := 44) hX 79 dX4_lastOf_44 rfl ?_
            refine j_iinc (pc := 79) hX (-1) dX4_lastOf_79 rfl rfl (by decide) [some (vA (some b)), some (vI c1), some (vI c2), none, some (vI (v4 + (-1)))] rfl ?_
            refine j_goto (pc := 82) hX 3 dX4_lastOf_82 rfl ?_
            exact ih _ _ hf kx
      · refine j_aload_n (pc := 12) hX dX4_lastOf_12 rfl ?_
        refine mg_A (pc := 13) hX 31 (by decide) 24 1 rfl rfl (by decide) q2276 dX4_lastOf_13 ?_
        refine j_iload_n (pc := 16) hX dX4_lastOf_16 rfl ?_
        refine j_iload (pc := 17) hX dX4_lastOf_17 rfl ?_
        refine j_iadd (pc := 19) hX dX4_lastOf_19 ?_
        refine mr_I (pc := 20) hX 31 72 24 (by decide) rfl rfl rfl dX4_lastOf_20 hf (fun x4 hx_ hf => ?_)
        refine j_if_ge (pc := 21) hX 85 dX4_lastOf_21 rfl hf (fun h_ hf => ?_) (fun h_ hf => ?_)
        · cases hf
          exact kx
        · refine j_goto (pc := 24) hX 79 dX4_lastOf_24 rfl ?_
          refine j_iinc (pc := 79) hX (-1) dX4_lastOf_79 rfl rfl (by decide) [some (vA (some b)), some (vI c1), some (vI c2), none, some (vI (v4 + (-1)))] rfl ?_
          refine j_goto (pc := 82) hX 3 dX4_lastOf_82 rfl ?_
          exact ih _ _ hf kx
set_option maxHeartbeats 4000000 in
theorem k_X4_lastOf {l : Launch} {n : Nat} {a1 : Int32} {a2 : Int32} {a3 : Int32} {b : Nat} {u : zWd} {w : zM} (r : Int32) (w9 : zM) (hf : f_X4_lastOf n a1 a2 a3 w = some (r, w9)) : zCt l yX4_lastOf cX4_lastOf 5 (some .int) 1 [vA (some b), vI a1, vI a2, vI a3] (zIj b u w) (.inr (some (vI r), (zIj b u w9))) := by
  refine zCt_of (lv := [some (vA (some b)), some (vI a1), some (vI a2), some (vI a3), none]) (by decide +kernel) 1 rfl rfl ?_
  intro X hX hI hN hQ
  have hX : zGd X RX4 cX4_lastOf 5 (some .int) 1 := hX
  unfold f_X4_lastOf at hf
  refine j_iload_n (pc := 0) hX dX4_lastOf_0 rfl ?_
  refine j_istore (pc := 1) hX dX4_lastOf_1 (by decide) [some (vA (some b)), some (vI a1), some (vI a2), some (vI a3), some (vI a3)] rfl ?_
  obtain ⟨x5, hm_, hf⟩ := zob hf
  refine j_fg [3] [some (vA (some b)), some (vI a1), some (vI a2), none, some (vI a3)] rfl ?_
  refine lp_X4_lastOf_L3 hX n _ _ _ _ _ _ hm_ ?_
  refine j_iload (pc := 85) hX dX4_lastOf_85 rfl ?_
  exact j_ireturn (pc := 87) hX hQ (by cases hf; rfl) dX4_lastOf_87
def f_X4_yearly_L30b (n : Nat) (c4 : Int64) (c6 : Int32) (c7 : Int32) (w : zM) (rec : Int64 → Int64 → Int32 → Option (Int64)) (v8 : Int64) (v10 : Int64) (v12 : Int32) : Option (Int64) :=
  if c7 < (0 : Int32) then
    some v8
  else
    (rIM w 33 144 (c6 + c7)).bind fun x3 =>
    if x3 ≤ v12 then
      some v8
    else
      (rIM w 34 576 (((4 : Int32) * (c6 + c7)) + v12)).bind fun x4 =>
      (
        if (0 : Int32) ≤ (lg_cmp c4 (Int32.toInt64 x4)) then
          some (Int32.toInt64 x4)
        else
          some c4
        ).bind fun x5 =>
      (
        if (lg_cmp (x5 - v10) (0 : Int64)) ≤ (0 : Int32) then
          some (0 : Int64)
        else
          (rIM w 35 576 (((4 : Int32) * (c6 + c7)) + v12)).bind fun x6 =>
          some (((x5 - v10) * (Int32.toInt64 x6)) / (1000 : Int64))
        ).bind fun x7 =>
      rec (v8 + x7) (Int32.toInt64 x4) (v12 + (1))
def f_X4_yearly_L30 (n : Nat) (c4 : Int64) (c6 : Int32) (c7 : Int32) (w : zM) : Nat → Int64 → Int64 → Int32 → Option (Int64)
  | 0, _, _, _ => none
  | k + 1, v8, v10, v12 => f_X4_yearly_L30b n c4 c6 c7 w (f_X4_yearly_L30 n c4 c6 c7 w k) v8 v10 v12
def f_X4_yearly (n : Nat) (a1 : Int32) (a2 : Int32) (a3 : Int32) (a4 : Int64) (w : zM) : Option (Int64 × zM) :=
  zB2 (f_X4_lastOf n (3 : Int32) (((48 : Int32) * a1) + ((24 : Int32) * a2)) a3 w) fun x2 w1 =>
  (f_X4_yearly_L30 n a4 (((48 : Int32) * a1) + ((24 : Int32) * a2)) x2 w1 n (0 : Int64) (0 : Int64) (0 : Int32)).bind fun x8 =>
  some (x8, w1)
theorem mt_X4_yearly : zMt yX4_yearly cX4_yearly 17 (some .long) 4 := ⟨q2649, q82, ⟨by decide, by decide⟩, by decide +kernel, by decide⟩
set_option maxHeartbeats 4000000 in
theorem lp_X4_yearly_L30 {X : zX} {b : Nat} {u : zWd} (hX : zGd X RX4 cX4_yearly 17 (some .long) 2) (n : Nat) (c4 : Int64) (c6 : Int32) (c7 : Int32) (w : zM) : ∀ (k : Nat) (v8 : Int64) (v10 : Int64) (v12 : Int32) (o8 : Int64) , f_X4_yearly_L30 n c4 c6 c7 w k v8 v10 v12 = some o8 → zJ X 137 [some (vA (some b)), none, none, none, some (vL c4), none, some (vI c6), some (vI c7), some (vL o8), none, none, none, none, none, none, none, none] [] (zIj b u w) → zJ X 30 [some (vA (some b)), none, none, none, some (vL c4), none, some (vI c6), some (vI c7), some (vL v8), none, some (vL v10), none, some (vI v12), none, none, none, none] [] (zIj b u w) := by
  intro k
  induction k with
  | zero => intro v8 v10 v12 o8 hf _; exact nomatch (show (none : Option (Int64)) = _ from hf)
  | succ k ih =>
    intro v8 v10 v12 o8 hf kx
    have hf : f_X4_yearly_L30b n c4 c6 c7 w (f_X4_yearly_L30 n c4 c6 c7 w k) v8 v10 v12 = _ := hf
    unfold f_X4_yearly_L30b at hf
    refine j_iload (pc := 30) hX dX4_yearly_30 rfl ?_
    refine j_if_lt (pc := 32) hX 137 dX4_yearly_32 rfl hf (fun h_ hf => ?_) (fun h_ hf => ?_)
    · refine j_fg [10, 12] [some (vA (some b)), none, none, none, some (vL c4), none, some (vI c6), some (vI c7), some (vL v8), none, none, none, none, none, none, none, none] rfl ?_
      cases hf
      exact kx
    · refine j_iload (pc := 35) hX dX4_yearly_35 rfl ?_
      refine j_aload_n (pc := 37) hX dX4_yearly_37 rfl ?_
      refine mg_A (pc := 38) hX 33 (by decide) 26 1 rfl rfl (by decide) q2278 dX4_yearly_38 ?_
      refine j_iload (pc := 41) hX dX4_yearly_41 rfl ?_
      refine j_iload (pc := 43) hX dX4_yearly_43 rfl ?_
      refine j_iadd (pc := 45) hX dX4_yearly_45 ?_
      refine mr_I (pc := 46) hX 33 144 26 (by decide) rfl rfl rfl dX4_yearly_46 hf (fun x3 hx_ hf => ?_)
      refine j_icmp_ge (pc := 47) hX 137 dX4_yearly_47 rfl hf (fun h_ hf => ?_) (fun h_ hf => ?_)
      · refine j_fg [10, 12] [some (vA (some b)), none, none, none, some (vL c4), none, some (vI c6), some (vI c7), some (vL v8), none, none, none, none, none, none, none, none] rfl ?_
        cases hf
        exact kx
      · refine j_aload_n (pc := 50) hX dX4_yearly_50 rfl ?_
        refine mg_A (pc := 51) hX 34 (by decide) 27 1 rfl rfl (by decide) q2279 dX4_yearly_51 ?_
        refine j_iconst (pc := 54) hX (4 : Int32) dX4_yearly_54 rfl ?_
        refine j_iload (pc := 55) hX dX4_yearly_55 rfl ?_
        refine j_iload (pc := 57) hX dX4_yearly_57 rfl ?_
        refine j_iadd (pc := 59) hX dX4_yearly_59 ?_
        refine j_imul (pc := 60) hX dX4_yearly_60 ?_
        refine j_iload (pc := 61) hX dX4_yearly_61 rfl ?_
        refine j_iadd (pc := 63) hX dX4_yearly_63 ?_
        refine mr_I (pc := 64) hX 34 576 27 (by decide) rfl rfl rfl dX4_yearly_64 hf (fun x4 hx_ hf => ?_)
        refine j_i2l (pc := 65) hX dX4_yearly_65 ?_
        refine j_lstore (pc := 66) hX dX4_yearly_66 (by decide) [some (vA (some b)), none, none, none, some (vL c4), none, some (vI c6), some (vI c7), some (vL v8), none, some (vL v10), none, some (vI v12), some (vL (Int32.toInt64 x4)), none, none, none] rfl ?_
        refine j_lload (pc := 68) hX dX4_yearly_68 rfl ?_
        refine j_lload (pc := 70) hX dX4_yearly_70 rfl ?_
        refine j_lcmp (pc := 72) hX dX4_yearly_72 ?_
        obtain ⟨x5, hm_, hf⟩ := zob hf
        have kj73 : zJ X 83 [some (vA (some b)), none, none, none, some (vL c4), none, some (vI c6), some (vI c7), some (vL v8), none, some (vL v10), none, some (vI v12), some (vL (Int32.toInt64 x4)), none, none, none] [vL x5] (zIj b u w) := by
          clear hm_
          refine j_lload (pc := 83) hX dX4_yearly_83 rfl ?_
          refine j_lsub (pc := 85) hX dX4_yearly_85 ?_
          refine j_lstore (pc := 86) hX dX4_yearly_86 (by decide) [some (vA (some b)), none, none, none, some (vL c4), none, some (vI c6), some (vI c7), some (vL v8), none, some (vL v10), none, some (vI v12), some (vL (Int32.toInt64 x4)), none, some (vL (x5 - v10)), none] rfl ?_
          refine j_lload (pc := 88) hX dX4_yearly_88 rfl ?_
          refine j_lload (pc := 90) hX dX4_yearly_90 rfl ?_
          refine j_lconst (pc := 92) hX (0 : Int64) dX4_yearly_92 rfl ?_
          refine j_lcmp (pc := 93) hX dX4_yearly_93 ?_
          obtain ⟨x7, hm_, hf⟩ := zob hf
          have kj94 : zJ X 124 [some (vA (some b)), none, none, none, some (vL c4), none, some (vI c6), some (vI c7), none, none, none, none, some (vI v12), some (vL (Int32.toInt64 x4)), none, none, none] [vL x7, vL v8] (zIj b u w) := by
            clear hm_
            refine j_ladd (pc := 124) hX dX4_yearly_124 ?_
            refine j_lstore (pc := 125) hX dX4_yearly_125 (by decide) [some (vA (some b)), none, none, none, some (vL c4), none, some (vI c6), some (vI c7), some (vL (v8 + x7)), none, none, none, some (vI v12), some (vL (Int32.toInt64 x4)), none, none, none] rfl ?_
            refine j_lload (pc := 127) hX dX4_yearly_127 rfl ?_
            refine j_lstore (pc := 129) hX dX4_yearly_129 (by decide) [some (vA (some b)), none, none, none, some (vL c4), none, some (vI c6), some (vI c7), some (vL (v8 + x7)), none, some (vL (Int32.toInt64 x4)), none, some (vI v12), some (vL (Int32.toInt64 x4)), none, none, none] rfl ?_
            refine j_iinc (pc := 131) hX (1) dX4_yearly_131 rfl rfl (by decide) [some (vA (some b)), none, none, none, some (vL c4), none, some (vI c6), some (vI c7), some (vL (v8 + x7)), none, some (vL (Int32.toInt64 x4)), none, some (vI (v12 + (1))), some (vL (Int32.toInt64 x4)), none, none, none] rfl ?_
            refine j_goto (pc := 134) hX 30 dX4_yearly_134 rfl ?_
            refine j_fg [13] [some (vA (some b)), none, none, none, some (vL c4), none, some (vI c6), some (vI c7), some (vL (v8 + x7)), none, some (vL (Int32.toInt64 x4)), none, some (vI (v12 + (1))), none, none, none, none] rfl ?_
            exact ih _ _ _ _ hf kx
          have hf := hm_
          refine j_if_le (pc := 94) hX 123 dX4_yearly_94 rfl hf (fun h_ hf => ?_) (fun h_ hf => ?_)
          · refine j_lconst (pc := 123) hX (0 : Int64) dX4_yearly_123 rfl ?_
            refine j_fg [8, 10, 15] [some (vA (some b)), none, none, none, some (vL c4), none, some (vI c6), some (vI c7), none, none, none, none, some (vI v12), some (vL (Int32.toInt64 x4)), none, none, none] rfl ?_
            cases hf
            exact kj94
          · refine j_lload (pc := 97) hX dX4_yearly_97 rfl ?_
            refine j_aload_n (pc := 99) hX dX4_yearly_99 rfl ?_
            refine mg_A (pc := 100) hX 35 (by decide) 28 1 rfl rfl (by decide) q2280 dX4_yearly_100 ?_
            refine j_iconst (pc := 103) hX (4 : Int32) dX4_yearly_103 rfl ?_
            refine j_iload (pc := 104) hX dX4_yearly_104 rfl ?_
            refine j_iload (pc := 106) hX dX4_yearly_106 rfl ?_
            refine j_iadd (pc := 108) hX dX4_yearly_108 ?_
            refine j_imul (pc := 109) hX dX4_yearly_109 ?_
            refine j_iload (pc := 110) hX dX4_yearly_110 rfl ?_
            refine j_iadd (pc := 112) hX dX4_yearly_112 ?_
            refine mr_I (pc := 113) hX 35 576 28 (by decide) rfl rfl rfl dX4_yearly_113 hf (fun x6 hx_ hf => ?_)
            refine j_i2l (pc := 114) hX dX4_yearly_114 ?_
            refine j_lmul (pc := 115) hX dX4_yearly_115 ?_
            refine j_ldc2 (pc := 116) hX q2654 dX4_yearly_116 ?_
            refine j_ldiv (pc := 119) hX dX4_yearly_119 (by decide) ?_
            refine j_goto (pc := 120) hX 124 dX4_yearly_120 rfl ?_
            refine j_fg [8, 10, 15] [some (vA (some b)), none, none, none, some (vL c4), none, some (vI c6), some (vI c7), none, none, none, none, some (vI v12), some (vL (Int32.toInt64 x4)), none, none, none] rfl ?_
            cases hf
            exact kj94
        have hf := hm_
        refine j_if_ge (pc := 73) hX 81 dX4_yearly_73 rfl hf (fun h_ hf => ?_) (fun h_ hf => ?_)
        · refine j_lload (pc := 81) hX dX4_yearly_81 rfl ?_
          cases hf
          exact kj73
        · refine j_lload (pc := 76) hX dX4_yearly_76 rfl ?_
          refine j_goto (pc := 78) hX 83 dX4_yearly_78 rfl ?_
          cases hf
          exact kj73
set_option maxHeartbeats 4000000 in
theorem k_X4_yearly {l : Launch} {n : Nat} {a1 : Int32} {a2 : Int32} {a3 : Int32} {a4 : Int64} {b : Nat} {u : zWd} {w : zM} (r : Int64) (w9 : zM) (hf : f_X4_yearly n a1 a2 a3 a4 w = some (r, w9)) : zCt l yX4_yearly cX4_yearly 17 (some .long) 2 [vA (some b), vI a1, vI a2, vI a3, vL a4] (zIj b u w) (.inr (some (vL r), (zIj b u w9))) := by
  refine zCt_of (lv := [some (vA (some b)), some (vI a1), some (vI a2), some (vI a3), some (vL a4), none, none, none, none, none, none, none, none, none, none, none, none]) (by decide +kernel) 11 rfl rfl ?_
  intro X hX hI hN hQ
  have hX : zGd X RX4 cX4_yearly 17 (some .long) 2 := hX
  unfold f_X4_yearly at hf
  refine j_bipush (pc := 0) hX (48 : Int32) dX4_yearly_0 (by decide +kernel) ?_
  refine j_iload_n (pc := 2) hX dX4_yearly_2 rfl ?_
  refine j_imul (pc := 3) hX dX4_yearly_3 ?_
  refine j_bipush (pc := 4) hX (24 : Int32) dX4_yearly_4 (by decide +kernel) ?_
  refine j_iload_n (pc := 6) hX dX4_yearly_6 rfl ?_
  refine j_imul (pc := 7) hX dX4_yearly_7 ?_
  refine j_iadd (pc := 8) hX dX4_yearly_8 ?_
  refine j_istore (pc := 9) hX dX4_yearly_9 (by decide) [some (vA (some b)), some (vI a1), some (vI a2), some (vI a3), some (vL a4), none, some (vI (((48 : Int32) * a1) + ((24 : Int32) * a2))), none, none, none, none, none, none, none, none, none, none] rfl ?_
  refine j_aload_n (pc := 11) hX dX4_yearly_11 rfl ?_
  refine j_iconst (pc := 12) hX (3 : Int32) dX4_yearly_12 rfl ?_
  refine j_iload (pc := 13) hX dX4_yearly_13 rfl ?_
  refine j_iload_n (pc := 15) hX dX4_yearly_15 rfl ?_
  obtain ⟨x2, w1, hc_, hf⟩ := zB2_e hf
  refine j_callV (pc := 16) hX (ci := 3) mt_X4_lastOf q2650 q2652 qs51 (zIj_isC b u _) ⟨_, rfl, rfl⟩ [vI (3 : Int32), vI (((48 : Int32) * a1) + ((24 : Int32) * a2)), vI a3] rfl rfl (Nat.le_of_ble_eq_true rfl) (by decide) dX4_yearly_16 (k_X4_lastOf _ _ hc_) ?_
  refine j_istore (pc := 19) hX dX4_yearly_19 (by decide) [some (vA (some b)), some (vI a1), some (vI a2), some (vI a3), some (vL a4), none, some (vI (((48 : Int32) * a1) + ((24 : Int32) * a2))), some (vI x2), none, none, none, none, none, none, none, none, none] rfl ?_
  refine j_lconst (pc := 21) hX (0 : Int64) dX4_yearly_21 rfl ?_
  refine j_lstore (pc := 22) hX dX4_yearly_22 (by decide) [some (vA (some b)), some (vI a1), some (vI a2), some (vI a3), some (vL a4), none, some (vI (((48 : Int32) * a1) + ((24 : Int32) * a2))), some (vI x2), some (vL (0 : Int64)), none, none, none, none, none, none, none, none] rfl ?_
  refine j_lconst (pc := 24) hX (0 : Int64) dX4_yearly_24 rfl ?_
  refine j_lstore (pc := 25) hX dX4_yearly_25 (by decide) [some (vA (some b)), some (vI a1), some (vI a2), some (vI a3), some (vL a4), none, some (vI (((48 : Int32) * a1) + ((24 : Int32) * a2))), some (vI x2), some (vL (0 : Int64)), none, some (vL (0 : Int64)), none, none, none, none, none, none] rfl ?_
  refine j_iconst (pc := 27) hX (0 : Int32) dX4_yearly_27 rfl ?_
  refine j_istore (pc := 28) hX dX4_yearly_28 (by decide) [some (vA (some b)), some (vI a1), some (vI a2), some (vI a3), some (vL a4), none, some (vI (((48 : Int32) * a1) + ((24 : Int32) * a2))), some (vI x2), some (vL (0 : Int64)), none, some (vL (0 : Int64)), none, some (vI (0 : Int32)), none, none, none, none] rfl ?_
  obtain ⟨x8, hm_, hf⟩ := zob hf
  refine j_fg [1, 2, 3] [some (vA (some b)), none, none, none, some (vL a4), none, some (vI (((48 : Int32) * a1) + ((24 : Int32) * a2))), some (vI x2), some (vL (0 : Int64)), none, some (vL (0 : Int64)), none, some (vI (0 : Int32)), none, none, none, none] rfl ?_
  refine lp_X4_yearly_L30 hX n _ _ _ _ _ _ _ _ _ hm_ ?_
  refine j_lload (pc := 137) hX dX4_yearly_137 rfl ?_
  exact j_lreturn (pc := 139) hX hQ (by cases hf; rfl) dX4_yearly_139
def f_X4_yearTax (n : Nat) (a1 : Int32) (a2 : Int32) (a3 : Int32) (a4 : Int64) (w : zM) : Option (Int64 × zM) :=
  zB2 (f_X4_isPlace n a1 w) fun x2 w1 =>
  zB2 (
    if x2 = (0 : Int32) then
      some ((0 : Int32), w1)
    else
      zB2 (f_X4_isMonth n a3 w1) fun x4 w3 =>
      if x4 = (0 : Int32) then
        some ((0 : Int32), w3)
      else
        some ((1 : Int32), w3)
    ) fun x5 w6 =>
  zB2 (
    if x5 = (0 : Int32) then
      some ((1 : Int32), w6)
    else
      zB2 (f_X4_in n (Int32.toInt64 a2) (0 : Int64) (1 : Int64) w6) fun x8 w7 =>
      if x8 = (0 : Int32) then
        some ((2 : Int32), w7)
      else
        zB2 (f_X4_in n a4 (0 : Int64) (10000000000 : Int64) w7) fun x10 w9 =>
        if x10 = (0 : Int32) then
          some ((2 : Int32), w9)
        else
          some ((0 : Int32), w9)
    ) fun x11 w12 =>
  zB2 (f_X4_holds n x11 w12) fun x14 w13 =>
  zB2 (
    if x14 = (0 : Int32) then
      zB2 (f_X4_yearly n a1 a2 a3 a4 w13) fun x16 w15 =>
      some (x16, w15)
    else
      some ((-1 : Int64), w13)
    ) fun x17 w18 =>
  some (x17, w18)
theorem mt_X4_yearTax : zMt yX4_yearTax cX4_yearTax 7 (some .long) 4 := ⟨q2644, q82, ⟨by decide, by decide⟩, by decide +kernel, by decide⟩
set_option maxHeartbeats 4000000 in
theorem k_X4_yearTax {l : Launch} {n : Nat} {a1 : Int32} {a2 : Int32} {a3 : Int32} {a4 : Int64} {b : Nat} {u : zWd} {w : zM} (r : Int64) (w9 : zM) (hf : f_X4_yearTax n a1 a2 a3 a4 w = some (r, w9)) : zCt l yX4_yearTax cX4_yearTax 7 (some .long) 3 [vA (some b), vI a1, vI a2, vI a3, vL a4] (zIj b u w) (.inr (some (vL r), (zIj b u w9))) := by
  refine zCt_of (lv := [some (vA (some b)), some (vI a1), some (vI a2), some (vI a3), some (vL a4), none, none]) (by decide +kernel) 1 rfl rfl ?_
  intro X hX hI hN hQ
  have hX : zGd X RX4 cX4_yearTax 7 (some .long) 3 := hX
  unfold f_X4_yearTax at hf
  refine j_aload_n (pc := 0) hX dX4_yearTax_0 rfl ?_
  refine j_iload_n (pc := 1) hX dX4_yearTax_1 rfl ?_
  obtain ⟨x2, w1, hc_, hf⟩ := zB2_e hf
  refine j_callV (pc := 2) hX (ci := 3) mt_X4_isPlace q2473 q2475 qs30 (zIj_isC b u _) ⟨_, rfl, rfl⟩ [vI a1] rfl rfl (Nat.le_of_ble_eq_true rfl) (by decide) dX4_yearTax_2 (k_X4_isPlace _ _ hc_) ?_
  obtain ⟨x5, w6, hm_, hf⟩ := zB2_e hf
  have kj5 : zJ X 21 [some (vA (some b)), some (vI a1), some (vI a2), some (vI a3), some (vL a4), none, none] [vI x5] (zIj b u w6) := by
    clear hm_
    refine j_istore (pc := 21) hX dX4_yearTax_21 (by decide) [some (vA (some b)), some (vI a1), some (vI a2), some (vI a3), some (vL a4), none, some (vI x5)] rfl ?_
    refine j_aload_n (pc := 23) hX dX4_yearTax_23 rfl ?_
    refine j_iload (pc := 24) hX dX4_yearTax_24 rfl ?_
    obtain ⟨x11, w12, hm_, hf⟩ := zB2_e hf
    have kj26 : zJ X 62 [some (vA (some b)), some (vI a1), some (vI a2), some (vI a3), some (vL a4), none, none] [vI x11, vA (some b)] (zIj b u w12) := by
      clear hm_
      obtain ⟨x14, w13, hc_, hf⟩ := zB2_e hf
      refine j_callV (pc := 62) hX (ci := 3) mt_X4_holds q2486 q2488 qs32 (zIj_isC b u _) ⟨_, rfl, rfl⟩ [vI x11] rfl rfl (Nat.le_of_ble_eq_true rfl) (by decide) dX4_yearTax_62 (k_X4_holds _ _ hc_) ?_
      obtain ⟨x17, w18, hm_, hf⟩ := zB2_e hf
      have kj65 : zJ X 83 [none, none, none, none, none, none, none] [vL x17] (zIj b u w18) := by
        clear hm_
        exact j_lreturn (pc := 83) hX hQ (by cases hf; rfl) dX4_yearTax_83
      have hf := hm_
      refine j_if_eq (pc := 65) hX 74 dX4_yearTax_65 rfl hf (fun h_ hf => ?_) (fun h_ hf => ?_)
      · refine j_aload_n (pc := 74) hX dX4_yearTax_74 rfl ?_
        refine j_iload_n (pc := 75) hX dX4_yearTax_75 rfl ?_
        refine j_iload_n (pc := 76) hX dX4_yearTax_76 rfl ?_
        refine j_iload_n (pc := 77) hX dX4_yearTax_77 rfl ?_
        refine j_lload (pc := 78) hX dX4_yearTax_78 rfl ?_
        obtain ⟨x16, w15, hc_, hf⟩ := zB2_e hf
        refine j_callV (pc := 80) hX (ci := 3) mt_X4_yearly q2646 q2648 qs50 (zIj_isC b u _) ⟨_, rfl, rfl⟩ [vI a1, vI a2, vI a3, vL a4] rfl rfl (Nat.le_of_ble_eq_true rfl) (by decide) dX4_yearTax_80 (k_X4_yearly _ _ hc_) ?_
        refine j_fg [0, 1, 2, 3, 4] [none, none, none, none, none, none, none] rfl ?_
        cases hf
        exact kj65
      · refine j_ldc2 (pc := 68) hX q2542 dX4_yearTax_68 ?_
        refine j_goto (pc := 71) hX 83 dX4_yearTax_71 rfl ?_
        refine j_fg [0, 1, 2, 3, 4] [none, none, none, none, none, none, none] rfl ?_
        simp only [Option.some.injEq, Prod.mk.injEq] at hf
        obtain ⟨rfl, rfl⟩ := hf
        exact kj65
    have hf := hm_
    refine j_if_ne (pc := 26) hX 33 dX4_yearTax_26 rfl hf (fun h_ hf => ?_) (fun h_ hf => ?_)
    · refine j_aload_n (pc := 33) hX dX4_yearTax_33 rfl ?_
      refine j_iload_n (pc := 34) hX dX4_yearTax_34 rfl ?_
      refine j_i2l (pc := 35) hX dX4_yearTax_35 ?_
      refine j_lconst (pc := 36) hX (0 : Int64) dX4_yearTax_36 rfl ?_
      refine j_lconst (pc := 37) hX (1 : Int64) dX4_yearTax_37 rfl ?_
      obtain ⟨x8, w7, hc_, hf⟩ := zB2_e hf
      refine j_callV (pc := 38) hX (ci := 3) mt_X4_in q2469 q2471 qs29 (zIj_isC b u _) ⟨_, rfl, rfl⟩ [vL (Int32.toInt64 a2), vL (0 : Int64), vL (1 : Int64)] rfl rfl (Nat.le_of_ble_eq_true rfl) (by decide) dX4_yearTax_38 (k_X4_in _ _ hc_) ?_
      refine j_if_eq (pc := 41) hX 61 dX4_yearTax_41 rfl hf (fun h_ hf => ?_) (fun h_ hf => ?_)
      · refine j_iconst (pc := 61) hX (2 : Int32) dX4_yearTax_61 rfl ?_
        refine j_fg [6] [some (vA (some b)), some (vI a1), some (vI a2), some (vI a3), some (vL a4), none, none] rfl ?_
        cases hf
        exact kj26
      · refine j_aload_n (pc := 44) hX dX4_yearTax_44 rfl ?_
        refine j_lload (pc := 45) hX dX4_yearTax_45 rfl ?_
        refine j_lconst (pc := 47) hX (0 : Int64) dX4_yearTax_47 rfl ?_
        refine j_ldc2 (pc := 48) hX q2645 dX4_yearTax_48 ?_
        obtain ⟨x10, w9, hc_, hf⟩ := zB2_e hf
        refine j_callV (pc := 51) hX (ci := 3) mt_X4_in q2469 q2471 qs29 (zIj_isC b u _) ⟨_, rfl, rfl⟩ [vL a4, vL (0 : Int64), vL (10000000000 : Int64)] rfl rfl (Nat.le_of_ble_eq_true rfl) (by decide) dX4_yearTax_51 (k_X4_in _ _ hc_) ?_
        refine j_if_eq (pc := 54) hX 61 dX4_yearTax_54 rfl hf (fun h_ hf => ?_) (fun h_ hf => ?_)
        · refine j_iconst (pc := 61) hX (2 : Int32) dX4_yearTax_61 rfl ?_
          refine j_fg [6] [some (vA (some b)), some (vI a1), some (vI a2), some (vI a3), some (vL a4), none, none] rfl ?_
          cases hf
          exact kj26
        · refine j_iconst (pc := 57) hX (0 : Int32) dX4_yearTax_57 rfl ?_
          refine j_goto (pc := 58) hX 62 dX4_yearTax_58 rfl ?_
          refine j_fg [6] [some (vA (some b)), some (vI a1), some (vI a2), some (vI a3), some (vL a4), none, none] rfl ?_
          cases hf
          exact kj26
    · refine j_iconst (pc := 29) hX (1 : Int32) dX4_yearTax_29 rfl ?_
      refine j_goto (pc := 30) hX 62 dX4_yearTax_30 rfl ?_
      refine j_fg [6] [some (vA (some b)), some (vI a1), some (vI a2), some (vI a3), some (vL a4), none, none] rfl ?_
      cases hf
      exact kj26
  have hf := hm_
  refine j_if_eq (pc := 5) hX 20 dX4_yearTax_5 rfl hf (fun h_ hf => ?_) (fun h_ hf => ?_)
  · refine j_iconst (pc := 20) hX (0 : Int32) dX4_yearTax_20 rfl ?_
    cases hf
    exact kj5
  · refine j_aload_n (pc := 8) hX dX4_yearTax_8 rfl ?_
    refine j_iload_n (pc := 9) hX dX4_yearTax_9 rfl ?_
    obtain ⟨x4, w3, hc_, hf⟩ := zB2_e hf
    refine j_callV (pc := 10) hX (ci := 3) mt_X4_isMonth q2537 q2539 qs39 (zIj_isC b u _) ⟨_, rfl, rfl⟩ [vI a3] rfl rfl (Nat.le_of_ble_eq_true rfl) (by decide) dX4_yearTax_10 (k_X4_isMonth _ _ hc_) ?_
    refine j_if_eq (pc := 13) hX 20 dX4_yearTax_13 rfl hf (fun h_ hf => ?_) (fun h_ hf => ?_)
    · refine j_iconst (pc := 20) hX (0 : Int32) dX4_yearTax_20 rfl ?_
      cases hf
      exact kj5
    · refine j_iconst (pc := 16) hX (1 : Int32) dX4_yearTax_16 rfl ?_
      refine j_goto (pc := 17) hX 21 dX4_yearTax_17 rfl ?_
      cases hf
      exact kj5
def f_X4_kept (n : Nat) (a1 : Int64) (w : zM) : Option (Int64 × zM) :=
  (
    if (lg_cmp a1 (100000000 : Int64)) ≤ (0 : Int32) then
      if (0 : Int32) ≤ (lg_cmp a1 (-100000000 : Int64)) then
        some a1
      else
        some (-100000000 : Int64)
    else
      some (100000000 : Int64)
    ).bind fun x1 =>
  some (x1, w)
theorem mt_X4_kept : zMt yX4_kept cX4_kept 3 (some .long) 1 := ⟨q2675, q82, ⟨by decide, by decide⟩, by decide +kernel, by decide⟩
set_option maxHeartbeats 4000000 in
theorem k_X4_kept {l : Launch} {n : Nat} {a1 : Int64} {b : Nat} {u : zWd} {w : zM} (r : Int64) (w9 : zM) (hf : f_X4_kept n a1 w = some (r, w9)) : zCt l yX4_kept cX4_kept 3 (some .long) 1 [vA (some b), vL a1] (zIj b u w) (.inr (some (vL r), (zIj b u w9))) := by
  refine zCt_of (lv := [some (vA (some b)), some (vL a1), none]) (by decide +kernel) 0 rfl rfl ?_
  intro X hX hI hN hQ
  have hX : zGd X RX4 cX4_kept 3 (some .long) 1 := hX
  unfold f_X4_kept at hf
  refine j_lload_n (pc := 0) hX dX4_kept_0 rfl ?_
  refine j_ldc2 (pc := 1) hX q2625 dX4_kept_1 ?_
  refine j_lcmp (pc := 4) hX dX4_kept_4 ?_
  obtain ⟨x1, hm_, hf⟩ := zob hf
  have kj5 : zJ X 29 [none, none, none] [vL x1] (zIj b u w) := by
    clear hm_
    exact j_lreturn (pc := 29) hX hQ (by cases hf; rfl) dX4_kept_29
  have hf := hm_
  refine j_if_le (pc := 5) hX 14 dX4_kept_5 rfl hf (fun h_ hf => ?_) (fun h_ hf => ?_)
  · refine j_lload_n (pc := 14) hX dX4_kept_14 rfl ?_
    refine j_ldc2 (pc := 15) hX q2676 dX4_kept_15 ?_
    refine j_lcmp (pc := 18) hX dX4_kept_18 ?_
    refine j_if_ge (pc := 19) hX 28 dX4_kept_19 rfl hf (fun h_ hf => ?_) (fun h_ hf => ?_)
    · refine j_lload_n (pc := 28) hX dX4_kept_28 rfl ?_
      refine j_fg [0, 1] [none, none, none] rfl ?_
      cases hf
      exact kj5
    · refine j_ldc2 (pc := 22) hX q2676 dX4_kept_22 ?_
      refine j_goto (pc := 25) hX 29 dX4_kept_25 rfl ?_
      refine j_fg [0, 1] [none, none, none] rfl ?_
      simp only [Option.some.injEq, Prod.mk.injEq] at hf
      obtain rfl := hf
      exact kj5
  · refine j_ldc2 (pc := 8) hX q2625 dX4_kept_8 ?_
    refine j_goto (pc := 11) hX 29 dX4_kept_11 rfl ?_
    refine j_fg [0, 1] [none, none, none] rfl ?_
    cases hf
    exact kj5
def f_X4_joined (n : Nat) (a1 : Int32) (a2 : Int64) (a3 : Int64) (w : zM) : Option (Int64 × zM) :=
  zB2 (
    if a1 = (4 : Int32) then
      some ((a2 + a3), w)
    else
      if a1 = (5 : Int32) then
        some ((a2 - a3), w)
      else
        if a1 = (6 : Int32) then
          some ((a2 * a3), w)
        else
          if a1 = (7 : Int32) then
            zB2 (f_X4_round n (a2 * a3) (1000 : Int64) w) fun x2 w1 =>
            some (x2, w1)
          else
            if a1 = (8 : Int32) then
              if (0 : Int32) ≤ (lg_cmp a2 a3) then
                some (a3, w)
              else
                some (a2, w)
            else
              if (lg_cmp a2 a3) ≤ (0 : Int32) then
                some (a3, w)
              else
                some (a2, w)
    ) fun x3 w4 =>
  some (x3, w4)
theorem mt_X4_joined : zMt yX4_joined cX4_joined 6 (some .long) 3 := ⟨q2680, q82, ⟨by decide, by decide⟩, by decide +kernel, by decide⟩
set_option maxHeartbeats 4000000 in
theorem k_X4_joined {l : Launch} {n : Nat} {a1 : Int32} {a2 : Int64} {a3 : Int64} {b : Nat} {u : zWd} {w : zM} (r : Int64) (w9 : zM) (hf : f_X4_joined n a1 a2 a3 w = some (r, w9)) : zCt l yX4_joined cX4_joined 6 (some .long) 3 [vA (some b), vI a1, vL a2, vL a3] (zIj b u w) (.inr (some (vL r), (zIj b u w9))) := by
  refine zCt_of (lv := [some (vA (some b)), some (vI a1), some (vL a2), none, some (vL a3), none]) (by decide +kernel) 0 rfl rfl ?_
  intro X hX hI hN hQ
  have hX : zGd X RX4 cX4_joined 6 (some .long) 3 := hX
  unfold f_X4_joined at hf
  refine j_iload_n (pc := 0) hX dX4_joined_0 rfl ?_
  refine j_iconst (pc := 1) hX (4 : Int32) dX4_joined_1 rfl ?_
  obtain ⟨x3, w4, hm_, hf⟩ := zB2_e hf
  have kj2 : zJ X 92 [none, none, none, none, none, none] [vL x3] (zIj b u w4) := by
    clear hm_
    exact j_lreturn (pc := 92) hX hQ (by cases hf; rfl) dX4_joined_92
  have hf := hm_
  refine j_icmp_ne (pc := 2) hX 12 dX4_joined_2 rfl hf (fun h_ hf => ?_) (fun h_ hf => ?_)
  · refine j_iload_n (pc := 12) hX dX4_joined_12 rfl ?_
    refine j_iconst (pc := 13) hX (5 : Int32) dX4_joined_13 rfl ?_
    refine j_icmp_ne (pc := 14) hX 24 dX4_joined_14 rfl hf (fun h_ hf => ?_) (fun h_ hf => ?_)
    · refine j_iload_n (pc := 24) hX dX4_joined_24 rfl ?_
      refine j_bipush (pc := 25) hX (6 : Int32) dX4_joined_25 (by decide +kernel) ?_
      refine j_icmp_ne (pc := 27) hX 37 dX4_joined_27 rfl hf (fun h_ hf => ?_) (fun h_ hf => ?_)
      · refine j_iload_n (pc := 37) hX dX4_joined_37 rfl ?_
        refine j_bipush (pc := 38) hX (7 : Int32) dX4_joined_38 (by decide +kernel) ?_
        refine j_icmp_ne (pc := 40) hX 57 dX4_joined_40 rfl hf (fun h_ hf => ?_) (fun h_ hf => ?_)
        · refine j_iload_n (pc := 57) hX dX4_joined_57 rfl ?_
          refine j_bipush (pc := 58) hX (8 : Int32) dX4_joined_58 (by decide +kernel) ?_
          refine j_icmp_ne (pc := 60) hX 79 dX4_joined_60 rfl hf (fun h_ hf => ?_) (fun h_ hf => ?_)
          · refine j_lload_n (pc := 79) hX dX4_joined_79 rfl ?_
            refine j_lload (pc := 80) hX dX4_joined_80 rfl ?_
            refine j_lcmp (pc := 82) hX dX4_joined_82 ?_
            refine j_if_le (pc := 83) hX 90 dX4_joined_83 rfl hf (fun h_ hf => ?_) (fun h_ hf => ?_)
            · refine j_lload (pc := 90) hX dX4_joined_90 rfl ?_
              refine j_fg [0, 1, 2, 4] [none, none, none, none, none, none] rfl ?_
              cases hf
              exact kj2
            · refine j_lload_n (pc := 86) hX dX4_joined_86 rfl ?_
              refine j_goto (pc := 87) hX 92 dX4_joined_87 rfl ?_
              refine j_fg [0, 1, 2, 4] [none, none, none, none, none, none] rfl ?_
              cases hf
              exact kj2
          · refine j_lload_n (pc := 63) hX dX4_joined_63 rfl ?_
            refine j_lload (pc := 64) hX dX4_joined_64 rfl ?_
            refine j_lcmp (pc := 66) hX dX4_joined_66 ?_
            refine j_if_ge (pc := 67) hX 74 dX4_joined_67 rfl hf (fun h_ hf => ?_) (fun h_ hf => ?_)
            · refine j_lload (pc := 74) hX dX4_joined_74 rfl ?_
              refine j_goto (pc := 76) hX 92 dX4_joined_76 rfl ?_
              refine j_fg [0, 1, 2, 4] [none, none, none, none, none, none] rfl ?_
              cases hf
              exact kj2
            · refine j_lload_n (pc := 70) hX dX4_joined_70 rfl ?_
              refine j_goto (pc := 71) hX 92 dX4_joined_71 rfl ?_
              refine j_fg [0, 1, 2, 4] [none, none, none, none, none, none] rfl ?_
              cases hf
              exact kj2
        · refine j_aload_n (pc := 43) hX dX4_joined_43 rfl ?_
          refine j_lload_n (pc := 44) hX dX4_joined_44 rfl ?_
          refine j_lload (pc := 45) hX dX4_joined_45 rfl ?_
          refine j_lmul (pc := 47) hX dX4_joined_47 ?_
          refine j_ldc2 (pc := 48) hX q2654 dX4_joined_48 ?_
          obtain ⟨x2, w1, hc_, hf⟩ := zB2_e hf
          refine j_callV (pc := 51) hX (ci := 3) mt_X4_round q2556 q2558 qs43 (zIj_isC b u _) ⟨_, rfl, rfl⟩ [vL (a2 * a3), vL (1000 : Int64)] rfl rfl (Nat.le_of_ble_eq_true rfl) (by decide) dX4_joined_51 (k_X4_round _ _ hc_) ?_
          refine j_goto (pc := 54) hX 92 dX4_joined_54 rfl ?_
          refine j_fg [0, 1, 2, 4] [none, none, none, none, none, none] rfl ?_
          cases hf
          exact kj2
      · refine j_lload_n (pc := 30) hX dX4_joined_30 rfl ?_
        refine j_lload (pc := 31) hX dX4_joined_31 rfl ?_
        refine j_lmul (pc := 33) hX dX4_joined_33 ?_
        refine j_goto (pc := 34) hX 92 dX4_joined_34 rfl ?_
        refine j_fg [0, 1, 2, 4] [none, none, none, none, none, none] rfl ?_
        cases hf
        exact kj2
    · refine j_lload_n (pc := 17) hX dX4_joined_17 rfl ?_
      refine j_lload (pc := 18) hX dX4_joined_18 rfl ?_
      refine j_lsub (pc := 20) hX dX4_joined_20 ?_
      refine j_goto (pc := 21) hX 92 dX4_joined_21 rfl ?_
      refine j_fg [0, 1, 2, 4] [none, none, none, none, none, none] rfl ?_
      cases hf
      exact kj2
  · refine j_lload_n (pc := 5) hX dX4_joined_5 rfl ?_
    refine j_lload (pc := 6) hX dX4_joined_6 rfl ?_
    refine j_ladd (pc := 8) hX dX4_joined_8 ?_
    refine j_goto (pc := 9) hX 92 dX4_joined_9 rfl ?_
    refine j_fg [0, 1, 2, 4] [none, none, none, none, none, none] rfl ?_
    cases hf
    exact kj2
def f_X4_formula_L6b (n : Nat) (c1 : Int32) (c2 : Int64) (c4 : Int64) (rec : Int32 → Int32 → zM → Option (zM)) (v6 : Int32) (v7 : Int32) (w : zM) : Option (zM) :=
  (rIM w 24 7 c1).bind fun x1 =>
  if x1 ≤ v7 then
    some w
  else
    (rIM w 22 70 (((10 : Int32) * c1) + v7)).bind fun x2 =>
    (rIM w 23 70 (((10 : Int32) * c1) + v7)).bind fun x3 =>
    zB2 (
      if (4 : Int32) ≤ x2 then
        (rLM w 28 10 ((v6 + (-1)) - (1 : Int32))).bind fun x4 =>
        (rLM w 28 10 (v6 + (-1))).bind fun x5 =>
        zB2 (f_X4_joined n x2 x4 x5 w) fun x7 w6 =>
        zB2 (f_X4_kept n x7 w6) fun x9 w8 =>
        (sLM w8 28 10 ((v6 + (-1)) - (1 : Int32)) x9).bind fun w10 =>
        some ((v6 + (-1)), w10)
      else
        (
          if x2 = (0 : Int32) then
            some c2
          else
            if x2 = (1 : Int32) then
              some c4
            else
              if x2 = (3 : Int32) then
                some (Int32.toInt64 x3)
              else
                if (mI w 26) ≤ x3 then
                  some (0 : Int64)
                else
                  (rLM w 29 6 x3).bind fun x11 =>
                  some x11
          ).bind fun x12 =>
        zB2 (f_X4_kept n x12 w) fun x14 w13 =>
        (sLM w13 28 10 v6 x14).bind fun w15 =>
        some ((v6 + (1)), w15)
      ) fun x16 w17 =>
    rec x16 (v7 + (1)) w17
def f_X4_formula_L6 (n : Nat) (c1 : Int32) (c2 : Int64) (c4 : Int64) : Nat → Int32 → Int32 → zM → Option (zM)
  | 0, _, _, _ => none
  | k + 1, v6, v7, w => f_X4_formula_L6b n c1 c2 c4 (f_X4_formula_L6 n c1 c2 c4 k) v6 v7 w
def f_X4_formula (n : Nat) (a1 : Int32) (a2 : Int64) (a3 : Int64) (w : zM) : Option (Int64 × zM) :=
  (f_X4_formula_L6 n a1 a2 a3 n (0 : Int32) (0 : Int32) w).bind fun w18 =>
  (rLM w18 28 10 (0 : Int32)).bind fun x19 =>
  some (x19, w18)
theorem mt_X4_formula : zMt yX4_formula cX4_formula 10 (some .long) 3 := ⟨q2671, q82, ⟨by decide, by decide⟩, by decide +kernel, by decide⟩
set_option maxHeartbeats 4000000 in
theorem lp_X4_formula_L6 {X : zX} {b : Nat} {u : zWd} (hX : zGd X RX4 cX4_formula 10 (some .long) 4) (n : Nat) (c1 : Int32) (c2 : Int64) (c4 : Int64) : ∀ (k : Nat) (v6 : Int32) (v7 : Int32) (w : zM) (w9 : zM) , f_X4_formula_L6 n c1 c2 c4 k v6 v7 w = some w9 → zJ X 164 [some (vA (some b)), some (vI c1), some (vL c2), none, some (vL c4), none, none, none, none, none] [] (zIj b u w9) → zJ X 6 [some (vA (some b)), some (vI c1), some (vL c2), none, some (vL c4), none, some (vI v6), some (vI v7), none, none] [] (zIj b u w) := by
  intro k
  induction k with
  | zero => intro v6 v7 w w9 hf _; exact nomatch (show (none : Option (zM)) = _ from hf)
  | succ k ih =>
    intro v6 v7 w w9 hf kx
    have hf : f_X4_formula_L6b n c1 c2 c4 (f_X4_formula_L6 n c1 c2 c4 k) v6 v7 w = _ := hf
    unfold f_X4_formula_L6b at hf
    refine j_iload (pc := 6) hX dX4_formula_6 rfl ?_
    refine j_aload_n (pc := 8) hX dX4_formula_8 rfl ?_
    refine mg_A (pc := 9) hX 24 (by decide) 18 1 rfl rfl (by decide) q2269 dX4_formula_9 ?_
    refine j_iload_n (pc := 12) hX dX4_formula_12 rfl ?_
    refine mr_I (pc := 13) hX 24 7 18 (by decide) rfl rfl rfl dX4_formula_13 hf (fun x1 hx_ hf => ?_)
    refine j_icmp_ge (pc := 14) hX 164 dX4_formula_14 rfl hf (fun h_ hf => ?_) (fun h_ hf => ?_)
    · refine j_fg [6, 7] [some (vA (some b)), some (vI c1), some (vL c2), none, some (vL c4), none, none, none, none, none] rfl ?_
      cases hf
      exact kx
    · refine j_aload_n (pc := 17) hX dX4_formula_17 rfl ?_
      refine mg_A (pc := 18) hX 22 (by decide) 16 1 rfl rfl (by decide) q2267 dX4_formula_18 ?_
      refine j_bipush (pc := 21) hX (10 : Int32) dX4_formula_21 (by decide +kernel) ?_
      refine j_iload_n (pc := 23) hX dX4_formula_23 rfl ?_
      refine j_imul (pc := 24) hX dX4_formula_24 ?_
      refine j_iload (pc := 25) hX dX4_formula_25 rfl ?_
      refine j_iadd (pc := 27) hX dX4_formula_27 ?_
      refine mr_I (pc := 28) hX 22 70 16 (by decide) rfl rfl rfl dX4_formula_28 hf (fun x2 hx_ hf => ?_)
      refine j_istore (pc := 29) hX dX4_formula_29 (by decide) [some (vA (some b)), some (vI c1), some (vL c2), none, some (vL c4), none, some (vI v6), some (vI v7), some (vI x2), none] rfl ?_
      refine j_aload_n (pc := 31) hX dX4_formula_31 rfl ?_
      refine mg_A (pc := 32) hX 23 (by decide) 17 1 rfl rfl (by decide) q2268 dX4_formula_32 ?_
      refine j_bipush (pc := 35) hX (10 : Int32) dX4_formula_35 (by decide +kernel) ?_
      refine j_iload_n (pc := 37) hX dX4_formula_37 rfl ?_
      refine j_imul (pc := 38) hX dX4_formula_38 ?_
      refine j_iload (pc := 39) hX dX4_formula_39 rfl ?_
      refine j_iadd (pc := 41) hX dX4_formula_41 ?_
      refine mr_I (pc := 42) hX 23 70 17 (by decide) rfl rfl rfl dX4_formula_42 hf (fun x3 hx_ hf => ?_)
      refine j_istore (pc := 43) hX dX4_formula_43 (by decide) [some (vA (some b)), some (vI c1), some (vL c2), none, some (vL c4), none, some (vI v6), some (vI v7), some (vI x2), some (vI x3)] rfl ?_
      refine j_iload (pc := 45) hX dX4_formula_45 rfl ?_
      refine j_iconst (pc := 47) hX (4 : Int32) dX4_formula_47 rfl ?_
      obtain ⟨x16, w17, hm_, hf⟩ := zB2_e hf
      have kj48 : zJ X 158 [some (vA (some b)), some (vI c1), some (vL c2), none, some (vL c4), none, some (vI x16), some (vI v7), none, none] [] (zIj b u w17) := by
        clear hm_
        refine j_iinc (pc := 158) hX (1) dX4_formula_158 rfl rfl (by decide) [some (vA (some b)), some (vI c1), some (vL c2), none, some (vL c4), none, some (vI x16), some (vI (v7 + (1))), none, none] rfl ?_
        refine j_goto (pc := 161) hX 6 dX4_formula_161 rfl ?_
        exact ih _ _ _ _ hf kx
      have hf := hm_
      refine j_icmp_ge (pc := 48) hX 120 dX4_formula_48 rfl hf (fun h_ hf => ?_) (fun h_ hf => ?_)
      · refine j_iinc (pc := 120) hX (-1) dX4_formula_120 rfl rfl (by decide) [some (vA (some b)), some (vI c1), some (vL c2), none, some (vL c4), none, some (vI (v6 + (-1))), some (vI v7), some (vI x2), some (vI x3)] rfl ?_
        refine j_aload_n (pc := 123) hX dX4_formula_123 rfl ?_
        refine mg_A (pc := 124) hX 28 (by decide) 21 2 rfl rfl (by decide) q2273 dX4_formula_124 ?_
        refine j_iload (pc := 127) hX dX4_formula_127 rfl ?_
        refine j_iconst (pc := 129) hX (1 : Int32) dX4_formula_129 rfl ?_
        refine j_isub (pc := 130) hX dX4_formula_130 ?_
        refine j_aload_n (pc := 131) hX dX4_formula_131 rfl ?_
        refine j_aload_n (pc := 132) hX dX4_formula_132 rfl ?_
        refine j_iload (pc := 133) hX dX4_formula_133 rfl ?_
        refine j_aload_n (pc := 135) hX dX4_formula_135 rfl ?_
        refine mg_A (pc := 136) hX 28 (by decide) 21 2 rfl rfl (by decide) q2273 dX4_formula_136 ?_
        refine j_iload (pc := 139) hX dX4_formula_139 rfl ?_
        refine j_iconst (pc := 141) hX (1 : Int32) dX4_formula_141 rfl ?_
        refine j_isub (pc := 142) hX dX4_formula_142 ?_
        refine mr_L (pc := 143) hX 28 10 21 (by decide) rfl rfl rfl dX4_formula_143 hf (fun x4 hx_ hf => ?_)
        refine j_aload_n (pc := 144) hX dX4_formula_144 rfl ?_
        refine mg_A (pc := 145) hX 28 (by decide) 21 2 rfl rfl (by decide) q2273 dX4_formula_145 ?_
        refine j_iload (pc := 148) hX dX4_formula_148 rfl ?_
        refine mr_L (pc := 150) hX 28 10 21 (by decide) rfl rfl rfl dX4_formula_150 hf (fun x5 hx_ hf => ?_)
        obtain ⟨x7, w6, hc_, hf⟩ := zB2_e hf
        refine j_callV (pc := 151) hX (ci := 3) mt_X4_joined q2677 q2679 qs56 (zIj_isC b u _) ⟨_, rfl, rfl⟩ [vI x2, vL x4, vL x5] rfl rfl (Nat.le_of_ble_eq_true rfl) (by decide) dX4_formula_151 (k_X4_joined _ _ hc_) ?_
        obtain ⟨x9, w8, hc_, hf⟩ := zB2_e hf
        refine j_callV (pc := 154) hX (ci := 3) mt_X4_kept q2672 q2674 qs55 (zIj_isC b u _) ⟨_, rfl, rfl⟩ [vL x7] rfl rfl (Nat.le_of_ble_eq_true rfl) (by decide) dX4_formula_154 (k_X4_kept _ _ hc_) ?_
        refine ms_L (pc := 157) hX 28 10 21 (by decide) rfl rfl rfl dX4_formula_157 hf (fun w10 hf => ?_)
        refine j_fg [8, 9] [some (vA (some b)), some (vI c1), some (vL c2), none, some (vL c4), none, some (vI (v6 + (-1))), some (vI v7), none, none] rfl ?_
        simp only [Option.some.injEq, Prod.mk.injEq] at hf
        obtain ⟨rfl, rfl⟩ := hf
        exact kj48
      · refine j_aload_n (pc := 51) hX dX4_formula_51 rfl ?_
        refine mg_A (pc := 52) hX 28 (by decide) 21 2 rfl rfl (by decide) q2273 dX4_formula_52 ?_
        refine j_iload (pc := 55) hX dX4_formula_55 rfl ?_
        refine j_aload_n (pc := 57) hX dX4_formula_57 rfl ?_
        refine j_iload (pc := 58) hX dX4_formula_58 rfl ?_
        obtain ⟨x12, hm_, hf⟩ := zob hf
        have kj60 : zJ X 110 [some (vA (some b)), some (vI c1), some (vL c2), none, some (vL c4), none, some (vI v6), some (vI v7), none, none] [vL x12, vA (some b), vI v6, vA (some (b + 21))] (zIj b u w) := by
          clear hm_
          obtain ⟨x14, w13, hc_, hf⟩ := zB2_e hf
          refine j_callV (pc := 110) hX (ci := 3) mt_X4_kept q2672 q2674 qs55 (zIj_isC b u _) ⟨_, rfl, rfl⟩ [vL x12] rfl rfl (Nat.le_of_ble_eq_true rfl) (by decide) dX4_formula_110 (k_X4_kept _ _ hc_) ?_
          refine ms_L (pc := 113) hX 28 10 21 (by decide) rfl rfl rfl dX4_formula_113 hf (fun w15 hf => ?_)
          refine j_iinc (pc := 114) hX (1) dX4_formula_114 rfl rfl (by decide) [some (vA (some b)), some (vI c1), some (vL c2), none, some (vL c4), none, some (vI (v6 + (1))), some (vI v7), none, none] rfl ?_
          refine j_goto (pc := 117) hX 158 dX4_formula_117 rfl ?_
          cases hf
          exact kj48
        have hf := hm_
        refine j_if_ne (pc := 60) hX 67 dX4_formula_60 rfl hf (fun h_ hf => ?_) (fun h_ hf => ?_)
        · refine j_iload (pc := 67) hX dX4_formula_67 rfl ?_
          refine j_iconst (pc := 69) hX (1 : Int32) dX4_formula_69 rfl ?_
          refine j_icmp_ne (pc := 70) hX 78 dX4_formula_70 rfl hf (fun h_ hf => ?_) (fun h_ hf => ?_)
          · refine j_iload (pc := 78) hX dX4_formula_78 rfl ?_
            refine j_iconst (pc := 80) hX (3 : Int32) dX4_formula_80 rfl ?_
            refine j_icmp_ne (pc := 81) hX 90 dX4_formula_81 rfl hf (fun h_ hf => ?_) (fun h_ hf => ?_)
            · refine j_iload (pc := 90) hX dX4_formula_90 rfl ?_
              refine j_aload_n (pc := 92) hX dX4_formula_92 rfl ?_
              refine mg_I (pc := 93) hX 26 (by decide) rfl q2271 dX4_formula_93 ?_
              refine j_icmp_ge (pc := 96) hX 109 dX4_formula_96 rfl hf (fun h_ hf => ?_) (fun h_ hf => ?_)
              · refine j_lconst (pc := 109) hX (0 : Int64) dX4_formula_109 rfl ?_
                refine j_fg [8, 9] [some (vA (some b)), some (vI c1), some (vL c2), none, some (vL c4), none, some (vI v6), some (vI v7), none, none] rfl ?_
                cases hf
                exact kj60
              · refine j_aload_n (pc := 99) hX dX4_formula_99 rfl ?_
                refine mg_A (pc := 100) hX 29 (by decide) 22 2 rfl rfl (by decide) q2274 dX4_formula_100 ?_
                refine j_iload (pc := 103) hX dX4_formula_103 rfl ?_
                refine mr_L (pc := 105) hX 29 6 22 (by decide) rfl rfl rfl dX4_formula_105 hf (fun x11 hx_ hf => ?_)
                refine j_goto (pc := 106) hX 110 dX4_formula_106 rfl ?_
                refine j_fg [8, 9] [some (vA (some b)), some (vI c1), some (vL c2), none, some (vL c4), none, some (vI v6), some (vI v7), none, none] rfl ?_
                cases hf
                exact kj60
            · refine j_iload (pc := 84) hX dX4_formula_84 rfl ?_
              refine j_i2l (pc := 86) hX dX4_formula_86 ?_
              refine j_goto (pc := 87) hX 110 dX4_formula_87 rfl ?_
              refine j_fg [8, 9] [some (vA (some b)), some (vI c1), some (vL c2), none, some (vL c4), none, some (vI v6), some (vI v7), none, none] rfl ?_
              cases hf
              exact kj60
          · refine j_lload (pc := 73) hX dX4_formula_73 rfl ?_
            refine j_goto (pc := 75) hX 110 dX4_formula_75 rfl ?_
            refine j_fg [8, 9] [some (vA (some b)), some (vI c1), some (vL c2), none, some (vL c4), none, some (vI v6), some (vI v7), none, none] rfl ?_
            cases hf
            exact kj60
        · refine j_lload_n (pc := 63) hX dX4_formula_63 rfl ?_
          refine j_goto (pc := 64) hX 110 dX4_formula_64 rfl ?_
          refine j_fg [8, 9] [some (vA (some b)), some (vI c1), some (vL c2), none, some (vL c4), none, some (vI v6), some (vI v7), none, none] rfl ?_
          cases hf
          exact kj60
set_option maxHeartbeats 4000000 in
theorem k_X4_formula {l : Launch} {n : Nat} {a1 : Int32} {a2 : Int64} {a3 : Int64} {b : Nat} {u : zWd} {w : zM} (r : Int64) (w9 : zM) (hf : f_X4_formula n a1 a2 a3 w = some (r, w9)) : zCt l yX4_formula cX4_formula 10 (some .long) 4 [vA (some b), vI a1, vL a2, vL a3] (zIj b u w) (.inr (some (vL r), (zIj b u w9))) := by
  refine zCt_of (lv := [some (vA (some b)), some (vI a1), some (vL a2), none, some (vL a3), none, none, none, none, none]) (by decide +kernel) 4 rfl rfl ?_
  intro X hX hI hN hQ
  have hX : zGd X RX4 cX4_formula 10 (some .long) 4 := hX
  unfold f_X4_formula at hf
  refine j_iconst (pc := 0) hX (0 : Int32) dX4_formula_0 rfl ?_
  refine j_istore (pc := 1) hX dX4_formula_1 (by decide) [some (vA (some b)), some (vI a1), some (vL a2), none, some (vL a3), none, some (vI (0 : Int32)), none, none, none] rfl ?_
  refine j_iconst (pc := 3) hX (0 : Int32) dX4_formula_3 rfl ?_
  refine j_istore (pc := 4) hX dX4_formula_4 (by decide) [some (vA (some b)), some (vI a1), some (vL a2), none, some (vL a3), none, some (vI (0 : Int32)), some (vI (0 : Int32)), none, none] rfl ?_
  obtain ⟨w18, hm_, hf⟩ := zob hf
  refine lp_X4_formula_L6 hX n _ _ _ _ _ _ _ _ hm_ ?_
  refine j_aload_n (pc := 164) hX dX4_formula_164 rfl ?_
  refine mg_A (pc := 165) hX 28 (by decide) 21 2 rfl rfl (by decide) q2273 dX4_formula_165 ?_
  refine j_iconst (pc := 168) hX (0 : Int32) dX4_formula_168 rfl ?_
  refine mr_L (pc := 169) hX 28 10 21 (by decide) rfl rfl rfl dX4_formula_169 hf (fun x19 hx_ hf => ?_)
  exact j_lreturn (pc := 170) hX hQ (by cases hf; rfl) dX4_formula_170
def f_X4_home_L10b (n : Nat) (c1 : Int32) (c2 : Int32) (w : zM) (rec : Int32 → Int32 → Option (Int32)) (v3 : Int32) (v4 : Int32) : Option (Int32) :=
  if v4 < (0 : Int32) then
    some v3
  else
    (rIM w 0 10 v4).bind fun x1 =>
    (
      if x1 = c1 then
        (rIM w 2 10 v4).bind fun x2 =>
        if (((30 : Int32) * c2) + (30 : Int32)) ≤ x2 then
          some (0 : Int32)
        else
          (rIM w 3 10 v4).bind fun x3 =>
          if x3 < ((30 : Int32) * c2) then
            some (0 : Int32)
          else
            some (1 : Int32)
      else
        some (0 : Int32)
      ).bind fun x4 =>
    (
      if x4 = (0 : Int32) then
        some v3
      else
        some v4
      ).bind fun x5 =>
    rec x5 (v4 + (-1))
def f_X4_home_L10 (n : Nat) (c1 : Int32) (c2 : Int32) (w : zM) : Nat → Int32 → Int32 → Option (Int32)
  | 0, _, _ => none
  | k + 1, v3, v4 => f_X4_home_L10b n c1 c2 w (f_X4_home_L10 n c1 c2 w k) v3 v4
def f_X4_home (n : Nat) (a1 : Int32) (a2 : Int32) (w : zM) : Option (Int32 × zM) :=
  (f_X4_home_L10 n a1 a2 w n (-1 : Int32) ((mI w 9) - (1 : Int32))).bind fun x6 =>
  (
    if (0 : Int32) ≤ x6 then
      (rIM w 1 10 x6).bind fun x7 =>
      some x7
    else
      some (0 : Int32)
    ).bind fun x8 =>
  some (x8, w)
theorem mt_X4_home : zMt yX4_home cX4_home 6 (some .int) 2 := ⟨q2684, q82, ⟨by decide, by decide⟩, by decide +kernel, by decide⟩
set_option maxHeartbeats 4000000 in
theorem lp_X4_home_L10 {X : zX} {b : Nat} {u : zWd} (hX : zGd X RX4 cX4_home 6 (some .int) 1) (n : Nat) (c1 : Int32) (c2 : Int32) (w : zM) : ∀ (k : Nat) (v3 : Int32) (v4 : Int32) (o3 : Int32) , f_X4_home_L10 n c1 c2 w k v3 v4 = some o3 → zJ X 82 [some (vA (some b)), some (vI c1), some (vI c2), some (vI o3), none, none] [] (zIj b u w) → zJ X 10 [some (vA (some b)), some (vI c1), some (vI c2), some (vI v3), some (vI v4), none] [] (zIj b u w) := by
  intro k
  induction k with
  | zero => intro v3 v4 o3 hf _; exact nomatch (show (none : Option (Int32)) = _ from hf)
  | succ k ih =>
    intro v3 v4 o3 hf kx
    have hf : f_X4_home_L10b n c1 c2 w (f_X4_home_L10 n c1 c2 w k) v3 v4 = _ := hf
    unfold f_X4_home_L10b at hf
    refine j_iload (pc := 10) hX dX4_home_10 rfl ?_
    refine j_if_lt (pc := 12) hX 82 dX4_home_12 rfl hf (fun h_ hf => ?_) (fun h_ hf => ?_)
    · refine j_fg [4] [some (vA (some b)), some (vI c1), some (vI c2), some (vI v3), none, none] rfl ?_
      cases hf
      exact kx
    · refine j_aload_n (pc := 15) hX dX4_home_15 rfl ?_
      refine mg_A (pc := 16) hX 0 (by decide) 1 1 rfl rfl (by decide) q2245 dX4_home_16 ?_
      refine j_iload (pc := 19) hX dX4_home_19 rfl ?_
      refine mr_I (pc := 21) hX 0 10 1 (by decide) rfl rfl rfl dX4_home_21 hf (fun x1 hx_ hf => ?_)
      refine j_iload_n (pc := 22) hX dX4_home_22 rfl ?_
      obtain ⟨x4, hm_, hf⟩ := zob hf
      have kj23 : zJ X 62 [some (vA (some b)), some (vI c1), some (vI c2), some (vI v3), some (vI v4), none] [vI x4] (zIj b u w) := by
        clear hm_
        refine j_istore (pc := 62) hX dX4_home_62 (by decide) [some (vA (some b)), some (vI c1), some (vI c2), some (vI v3), some (vI v4), some (vI x4)] rfl ?_
        refine j_iload (pc := 64) hX dX4_home_64 rfl ?_
        obtain ⟨x5, hm_, hf⟩ := zob hf
        have kj66 : zJ X 75 [some (vA (some b)), some (vI c1), some (vI c2), none, some (vI v4), none] [vI x5] (zIj b u w) := by
          clear hm_
          refine j_istore_n (pc := 75) hX dX4_home_75 (by decide) [some (vA (some b)), some (vI c1), some (vI c2), some (vI x5), some (vI v4), none] rfl ?_
          refine j_iinc (pc := 76) hX (-1) dX4_home_76 rfl rfl (by decide) [some (vA (some b)), some (vI c1), some (vI c2), some (vI x5), some (vI (v4 + (-1))), none] rfl ?_
          refine j_goto (pc := 79) hX 10 dX4_home_79 rfl ?_
          exact ih _ _ _ hf kx
        have hf := hm_
        refine j_if_eq (pc := 66) hX 74 dX4_home_66 rfl hf (fun h_ hf => ?_) (fun h_ hf => ?_)
        · refine j_iload_n (pc := 74) hX dX4_home_74 rfl ?_
          refine j_fg [3, 5] [some (vA (some b)), some (vI c1), some (vI c2), none, some (vI v4), none] rfl ?_
          cases hf
          exact kj66
        · refine j_iload (pc := 69) hX dX4_home_69 rfl ?_
          refine j_goto (pc := 71) hX 75 dX4_home_71 rfl ?_
          refine j_fg [3, 5] [some (vA (some b)), some (vI c1), some (vI c2), none, some (vI v4), none] rfl ?_
          cases hf
          exact kj66
      have hf := hm_
      refine j_icmp_ne (pc := 23) hX 61 dX4_home_23 rfl hf (fun h_ hf => ?_) (fun h_ hf => ?_)
      · refine j_iconst (pc := 61) hX (0 : Int32) dX4_home_61 rfl ?_
        cases hf
        exact kj23
      · refine j_aload_n (pc := 26) hX dX4_home_26 rfl ?_
        refine mg_A (pc := 27) hX 2 (by decide) 3 1 rfl rfl (by decide) q2247 dX4_home_27 ?_
        refine j_iload (pc := 30) hX dX4_home_30 rfl ?_
        refine mr_I (pc := 32) hX 2 10 3 (by decide) rfl rfl rfl dX4_home_32 hf (fun x2 hx_ hf => ?_)
        refine j_bipush (pc := 33) hX (30 : Int32) dX4_home_33 (by decide +kernel) ?_
        refine j_iload_n (pc := 35) hX dX4_home_35 rfl ?_
        refine j_imul (pc := 36) hX dX4_home_36 ?_
        refine j_bipush (pc := 37) hX (30 : Int32) dX4_home_37 (by decide +kernel) ?_
        refine j_iadd (pc := 39) hX dX4_home_39 ?_
        refine j_icmp_ge (pc := 40) hX 61 dX4_home_40 rfl hf (fun h_ hf => ?_) (fun h_ hf => ?_)
        · refine j_iconst (pc := 61) hX (0 : Int32) dX4_home_61 rfl ?_
          cases hf
          exact kj23
        · refine j_aload_n (pc := 43) hX dX4_home_43 rfl ?_
          refine mg_A (pc := 44) hX 3 (by decide) 4 1 rfl rfl (by decide) q2248 dX4_home_44 ?_
          refine j_iload (pc := 47) hX dX4_home_47 rfl ?_
          refine mr_I (pc := 49) hX 3 10 4 (by decide) rfl rfl rfl dX4_home_49 hf (fun x3 hx_ hf => ?_)
          refine j_bipush (pc := 50) hX (30 : Int32) dX4_home_50 (by decide +kernel) ?_
          refine j_iload_n (pc := 52) hX dX4_home_52 rfl ?_
          refine j_imul (pc := 53) hX dX4_home_53 ?_
          refine j_icmp_lt (pc := 54) hX 61 dX4_home_54 rfl hf (fun h_ hf => ?_) (fun h_ hf => ?_)
          · refine j_iconst (pc := 61) hX (0 : Int32) dX4_home_61 rfl ?_
            cases hf
            exact kj23
          · refine j_iconst (pc := 57) hX (1 : Int32) dX4_home_57 rfl ?_
            refine j_goto (pc := 58) hX 62 dX4_home_58 rfl ?_
            cases hf
            exact kj23
set_option maxHeartbeats 4000000 in
theorem k_X4_home {l : Launch} {n : Nat} {a1 : Int32} {a2 : Int32} {b : Nat} {u : zWd} {w : zM} (r : Int32) (w9 : zM) (hf : f_X4_home n a1 a2 w = some (r, w9)) : zCt l yX4_home cX4_home 6 (some .int) 1 [vA (some b), vI a1, vI a2] (zIj b u w) (.inr (some (vI r), (zIj b u w9))) := by
  refine zCt_of (lv := [some (vA (some b)), some (vI a1), some (vI a2), none, none, none]) (by decide +kernel) 3 rfl rfl ?_
  intro X hX hI hN hQ
  have hX : zGd X RX4 cX4_home 6 (some .int) 1 := hX
  unfold f_X4_home at hf
  refine j_iconst (pc := 0) hX (-1 : Int32) dX4_home_0 rfl ?_
  refine j_istore_n (pc := 1) hX dX4_home_1 (by decide) [some (vA (some b)), some (vI a1), some (vI a2), some (vI (-1 : Int32)), none, none] rfl ?_
  refine j_aload_n (pc := 2) hX dX4_home_2 rfl ?_
  refine mg_I (pc := 3) hX 9 (by decide) rfl q2254 dX4_home_3 ?_
  refine j_iconst (pc := 6) hX (1 : Int32) dX4_home_6 rfl ?_
  refine j_isub (pc := 7) hX dX4_home_7 ?_
  refine j_istore (pc := 8) hX dX4_home_8 (by decide) [some (vA (some b)), some (vI a1), some (vI a2), some (vI (-1 : Int32)), some (vI ((mI w 9) - (1 : Int32))), none] rfl ?_
  obtain ⟨x6, hm_, hf⟩ := zob hf
  refine lp_X4_home_L10 hX n _ _ _ _ _ _ _ hm_ ?_
  refine j_iload_n (pc := 82) hX dX4_home_82 rfl ?_
  obtain ⟨x8, hm_, hf⟩ := zob hf
  have kj83 : zJ X 96 [none, none, none, none, none, none] [vI x8] (zIj b u w) := by
    clear hm_
    exact j_ireturn (pc := 96) hX hQ (by cases hf; rfl) dX4_home_96
  have hf := hm_
  refine j_if_ge (pc := 83) hX 90 dX4_home_83 rfl hf (fun h_ hf => ?_) (fun h_ hf => ?_)
  · refine j_aload_n (pc := 90) hX dX4_home_90 rfl ?_
    refine mg_A (pc := 91) hX 1 (by decide) 2 1 rfl rfl (by decide) q2246 dX4_home_91 ?_
    refine j_iload_n (pc := 94) hX dX4_home_94 rfl ?_
    refine mr_I (pc := 95) hX 1 10 2 (by decide) rfl rfl rfl dX4_home_95 hf (fun x7 hx_ hf => ?_)
    refine j_fg [0, 1, 2, 3] [none, none, none, none, none, none] rfl ?_
    cases hf
    exact kj83
  · refine j_iconst (pc := 86) hX (0 : Int32) dX4_home_86 rfl ?_
    refine j_goto (pc := 87) hX 96 dX4_home_87 rfl ?_
    refine j_fg [0, 1, 2, 3] [none, none, none, none, none, none] rfl ?_
    cases hf
    exact kj83
def f_X4_grossOf_L8b (n : Nat) (c1 : Int32) (c2 : Int32) (c3 : Int64) (c5 : Int64) (rec : Int32 → zM → Option (zM)) (v7 : Int32) (w : zM) : Option (zM) :=
  if (3 : Int32) ≤ v7 then
    some w
  else
    (rIM w 30 432 ((((72 : Int32) * c1) + ((3 : Int32) * c2)) + v7)).bind fun x1 =>
    (sLM w 55 72 (((3 : Int32) * c2) + v7) (Int32.toInt64 x1)).bind fun w2 =>
    rec (v7 + (1)) w2
def f_X4_grossOf_L8 (n : Nat) (c1 : Int32) (c2 : Int32) (c3 : Int64) (c5 : Int64) : Nat → Int32 → zM → Option (zM)
  | 0, _, _ => none
  | k + 1, v7, w => f_X4_grossOf_L8b n c1 c2 c3 c5 (f_X4_grossOf_L8 n c1 c2 c3 c5 k) v7 w
def f_X4_grossOf_L112b (n : Nat) (c1 : Int32) (c2 : Int32) (c3 : Int64) (c7 : Int32) (w : zM) (rec : Int64 → Int32 → Option (Int64)) (v5 : Int64) (v10 : Int32) : Option (Int64) :=
  if (((30 : Int32) * c2) + (30 : Int32)) ≤ v10 then
    some v5
  else
    (rIM w 8 7200 (((720 : Int32) * c7) + v10)).bind fun x10 =>
    rec (v5 + (Int32.toInt64 x10)) (v10 + (1))
def f_X4_grossOf_L112 (n : Nat) (c1 : Int32) (c2 : Int32) (c3 : Int64) (c7 : Int32) (w : zM) : Nat → Int64 → Int32 → Option (Int64)
  | 0, _, _ => none
  | k + 1, v5, v10 => f_X4_grossOf_L112b n c1 c2 c3 c7 w (f_X4_grossOf_L112 n c1 c2 c3 c7 w k) v5 v10
def f_X4_grossOf_L51b (n : Nat) (c1 : Int32) (c2 : Int32) (rec : Int64 → Int64 → Int32 → zM → Option (Int64 × Int64 × zM)) (v3 : Int64) (v5 : Int64) (v7 : Int32) (w : zM) : Option (Int64 × Int64 × zM) :=
  if (mI w 9) ≤ v7 then
    some (v3, v5, w)
  else
    (rIM w 0 10 v7).bind fun x4 =>
    zB3 (
      if x4 = c1 then
        zB2 (f_X4_baseOf n v7 c2 w) fun x6 w5 =>
        (rIM w5 1 10 v7).bind fun x7 =>
        (rLM w5 55 72 (((3 : Int32) * c2) + x7)).bind fun x8 =>
        (sLM w5 55 72 (((3 : Int32) * c2) + x7) (x8 + x6)).bind fun w9 =>
        (f_X4_grossOf_L112 n c1 c2 (v3 + x6) v7 w9 n v5 ((30 : Int32) * c2)).bind fun x11 =>
        some ((v3 + x6), x11, w9)
      else
        some (v3, v5, w)
      ) fun x12 x13 w14 =>
    rec x12 x13 (v7 + (1)) w14
def f_X4_grossOf_L51 (n : Nat) (c1 : Int32) (c2 : Int32) : Nat → Int64 → Int64 → Int32 → zM → Option (Int64 × Int64 × zM)
  | 0, _, _, _, _ => none
  | k + 1, v3, v5, v7, w => f_X4_grossOf_L51b n c1 c2 (f_X4_grossOf_L51 n c1 c2 k) v3 v5 v7 w
def f_X4_grossOf_L159b (n : Nat) (c1 : Int32) (c2 : Int32) (c3 : Int64) (c5 : Int64) (rec : Int32 → zM → Option (zM)) (v7 : Int32) (w : zM) : Option (zM) :=
  if (6 : Int32) ≤ v7 then
    some w
  else
    (sLM w 29 6 v7 (0 : Int64)).bind fun w18 =>
    rec (v7 + (1)) w18
def f_X4_grossOf_L159 (n : Nat) (c1 : Int32) (c2 : Int32) (c3 : Int64) (c5 : Int64) : Nat → Int32 → zM → Option (zM)
  | 0, _, _ => none
  | k + 1, v7, w => f_X4_grossOf_L159b n c1 c2 c3 c5 (f_X4_grossOf_L159 n c1 c2 c3 c5 k) v7 w
def f_X4_grossOf_L183b (n : Nat) (c1 : Int32) (c2 : Int32) (c3 : Int64) (c5 : Int64) (rec : Int32 → zM → Option (zM)) (v7 : Int32) (w : zM) : Option (zM) :=
  if (mI w 26) ≤ v7 then
    some w
  else
    (rIM w 27 6 v7).bind fun x20 =>
    (rIM w 25 6 x20).bind fun x21 =>
    zB2 (
      if ((x21 >>> (c1 &&& 31)) &&& (1 : Int32)) = (1 : Int32) then
        zB2 (f_X4_formula n x20 c3 (c5 / (60 : Int64)) w) fun x23 w22 =>
        some (x23, w22)
      else
        some ((0 : Int64), w)
      ) fun x24 w25 =>
    (sLM w25 29 6 x20 x24).bind fun w26 =>
    zB2 (f_X4_home n c1 c2 w26) fun x28 w27 =>
    (rLM w27 55 72 (((3 : Int32) * c2) + x28)).bind fun x29 =>
    (rLM w27 29 6 x20).bind fun x30 =>
    (sLM w27 55 72 (((3 : Int32) * c2) + x28) (x29 + x30)).bind fun w31 =>
    rec (v7 + (1)) w31
def f_X4_grossOf_L183 (n : Nat) (c1 : Int32) (c2 : Int32) (c3 : Int64) (c5 : Int64) : Nat → Int32 → zM → Option (zM)
  | 0, _, _ => none
  | k + 1, v7, w => f_X4_grossOf_L183b n c1 c2 c3 c5 (f_X4_grossOf_L183 n c1 c2 c3 c5 k) v7 w
def f_X4_grossOf_L274b (n : Nat) (c2 : Int32) (rec : Int32 → zM → Option (zM)) (v7 : Int32) (w : zM) : Option (zM) :=
  if (6 : Int32) ≤ v7 then
    some w
  else
    (rLM w 29 6 v7).bind fun x33 =>
    (sLM w 65 144 (((24 : Int32) * v7) + c2) x33).bind fun w34 =>
    rec (v7 + (1)) w34
def f_X4_grossOf_L274 (n : Nat) (c2 : Int32) : Nat → Int32 → zM → Option (zM)
  | 0, _, _ => none
  | k + 1, v7, w => f_X4_grossOf_L274b n c2 (f_X4_grossOf_L274 n c2 k) v7 w
def f_X4_grossOf (n : Nat) (a1 : Int32) (a2 : Int32) (w : zM) : Option zM :=
  (f_X4_grossOf_L8 n a1 a2 (0 : Int64) (0 : Int64) n (0 : Int32) w).bind fun w3 =>
  zB3 (f_X4_grossOf_L51 n a1 a2 n (0 : Int64) (0 : Int64) (0 : Int32) w3) fun x15 x16 w17 =>
  (f_X4_grossOf_L159 n a1 a2 x15 x16 n (0 : Int32) w17).bind fun w19 =>
  (f_X4_grossOf_L183 n a1 a2 x15 x16 n (0 : Int32) w19).bind fun w32 =>
  (f_X4_grossOf_L274 n a2 n (0 : Int32) w32).bind fun w35 =>
  some w35
theorem mt_X4_grossOf : zMt yX4_grossOf cX4_grossOf 11 none 2 := ⟨q2667, q82, ⟨by decide, by decide⟩, by decide +kernel, by decide⟩
set_option maxHeartbeats 4000000 in
theorem lp_X4_grossOf_L8 {X : zX} {b : Nat} {u : zWd} (hX : zGd X RX4 cX4_grossOf 11 none 5) (n : Nat) (c1 : Int32) (c2 : Int32) (c3 : Int64) (c5 : Int64) : ∀ (k : Nat) (v7 : Int32) (w : zM) (w9 : zM) , f_X4_grossOf_L8 n c1 c2 c3 c5 k v7 w = some w9 → zJ X 48 [some (vA (some b)), some (vI c1), some (vI c2), some (vL c3), none, some (vL c5), none, none, none, none, none] [] (zIj b u w9) → zJ X 8 [some (vA (some b)), some (vI c1), some (vI c2), some (vL c3), none, some (vL c5), none, some (vI v7), none, none, none] [] (zIj b u w) := by
  intro k
  induction k with
  | zero => intro v7 w w9 hf _; exact nomatch (show (none : Option (zM)) = _ from hf)
  | succ k ih =>
    intro v7 w w9 hf kx
    have hf : f_X4_grossOf_L8b n c1 c2 c3 c5 (f_X4_grossOf_L8 n c1 c2 c3 c5 k) v7 w = _ := hf
    unfold f_X4_grossOf_L8b at hf
    refine j_iload (pc := 8) hX dX4_grossOf_8 rfl ?_
    refine j_iconst (pc := 10) hX (3 : Int32) dX4_grossOf_10 rfl ?_
    refine j_icmp_ge (pc := 11) hX 48 dX4_grossOf_11 rfl hf (fun h_ hf => ?_) (fun h_ hf => ?_)
    · refine j_fg [7] [some (vA (some b)), some (vI c1), some (vI c2), some (vL c3), none, some (vL c5), none, none, none, none, none] rfl ?_
      cases hf
      exact kx
    · refine j_aload_n (pc := 14) hX dX4_grossOf_14 rfl ?_
      refine mg_A (pc := 15) hX 55 (by decide) 45 2 rfl rfl (by decide) q2300 dX4_grossOf_15 ?_
      refine j_iconst (pc := 18) hX (3 : Int32) dX4_grossOf_18 rfl ?_
      refine j_iload_n (pc := 19) hX dX4_grossOf_19 rfl ?_
      refine j_imul (pc := 20) hX dX4_grossOf_20 ?_
      refine j_iload (pc := 21) hX dX4_grossOf_21 rfl ?_
      refine j_iadd (pc := 23) hX dX4_grossOf_23 ?_
      refine j_aload_n (pc := 24) hX dX4_grossOf_24 rfl ?_
      refine mg_A (pc := 25) hX 30 (by decide) 23 1 rfl rfl (by decide) q2275 dX4_grossOf_25 ?_
      refine j_bipush (pc := 28) hX (72 : Int32) dX4_grossOf_28 (by decide +kernel) ?_
      refine j_iload_n (pc := 30) hX dX4_grossOf_30 rfl ?_
      refine j_imul (pc := 31) hX dX4_grossOf_31 ?_
      refine j_iconst (pc := 32) hX (3 : Int32) dX4_grossOf_32 rfl ?_
      refine j_iload_n (pc := 33) hX dX4_grossOf_33 rfl ?_
      refine j_imul (pc := 34) hX dX4_grossOf_34 ?_
      refine j_iadd (pc := 35) hX dX4_grossOf_35 ?_
      refine j_iload (pc := 36) hX dX4_grossOf_36 rfl ?_
      refine j_iadd (pc := 38) hX dX4_grossOf_38 ?_
      refine mr_I (pc := 39) hX 30 432 23 (by decide) rfl rfl rfl dX4_grossOf_39 hf (fun x1 hx_ hf => ?_)
      refine j_i2l (pc := 40) hX dX4_grossOf_40 ?_
      refine ms_L (pc := 41) hX 55 72 45 (by decide) rfl rfl rfl dX4_grossOf_41 hf (fun w2 hf => ?_)
      refine j_iinc (pc := 42) hX (1) dX4_grossOf_42 rfl rfl (by decide) [some (vA (some b)), some (vI c1), some (vI c2), some (vL c3), none, some (vL c5), none, some (vI (v7 + (1))), none, none, none] rfl ?_
      refine j_goto (pc := 45) hX 8 dX4_grossOf_45 rfl ?_
      exact ih _ _ _ hf kx
set_option maxHeartbeats 4000000 in
theorem lp_X4_grossOf_L112 {X : zX} {b : Nat} {u : zWd} (hX : zGd X RX4 cX4_grossOf 11 none 5) (n : Nat) (c1 : Int32) (c2 : Int32) (c3 : Int64) (c7 : Int32) (w : zM) : ∀ (k : Nat) (v5 : Int64) (v10 : Int32) (o5 : Int64) , f_X4_grossOf_L112 n c1 c2 c3 c7 w k v5 v10 = some o5 → zJ X 150 [some (vA (some b)), some (vI c1), some (vI c2), some (vL c3), none, some (vL o5), none, some (vI c7), none, none, none] [] (zIj b u w) → zJ X 112 [some (vA (some b)), some (vI c1), some (vI c2), some (vL c3), none, some (vL v5), none, some (vI c7), none, none, some (vI v10)] [] (zIj b u w) := by
  intro k
  induction k with
  | zero => intro v5 v10 o5 hf _; exact nomatch (show (none : Option (Int64)) = _ from hf)
  | succ k ih =>
    intro v5 v10 o5 hf kx
    have hf : f_X4_grossOf_L112b n c1 c2 c3 c7 w (f_X4_grossOf_L112 n c1 c2 c3 c7 w k) v5 v10 = _ := hf
    unfold f_X4_grossOf_L112b at hf
    refine j_iload (pc := 112) hX dX4_grossOf_112 rfl ?_
    refine j_bipush (pc := 114) hX (30 : Int32) dX4_grossOf_114 (by decide +kernel) ?_
    refine j_iload_n (pc := 116) hX dX4_grossOf_116 rfl ?_
    refine j_imul (pc := 117) hX dX4_grossOf_117 ?_
    refine j_bipush (pc := 118) hX (30 : Int32) dX4_grossOf_118 (by decide +kernel) ?_
    refine j_iadd (pc := 120) hX dX4_grossOf_120 ?_
    refine j_icmp_ge (pc := 121) hX 150 dX4_grossOf_121 rfl hf (fun h_ hf => ?_) (fun h_ hf => ?_)
    · refine j_fg [10] [some (vA (some b)), some (vI c1), some (vI c2), some (vL c3), none, some (vL v5), none, some (vI c7), none, none, none] rfl ?_
      cases hf
      exact kx
    · refine j_lload (pc := 124) hX dX4_grossOf_124 rfl ?_
      refine j_aload_n (pc := 126) hX dX4_grossOf_126 rfl ?_
      refine mg_A (pc := 127) hX 8 (by decide) 9 1 rfl rfl (by decide) q2253 dX4_grossOf_127 ?_
      refine j_sipush (pc := 130) hX (720 : Int32) dX4_grossOf_130 (by decide +kernel) ?_
      refine j_iload (pc := 133) hX dX4_grossOf_133 rfl ?_
      refine j_imul (pc := 135) hX dX4_grossOf_135 ?_
      refine j_iload (pc := 136) hX dX4_grossOf_136 rfl ?_
      refine j_iadd (pc := 138) hX dX4_grossOf_138 ?_
      refine mr_I (pc := 139) hX 8 7200 9 (by decide) rfl rfl rfl dX4_grossOf_139 hf (fun x10 hx_ hf => ?_)
      refine j_i2l (pc := 140) hX dX4_grossOf_140 ?_
      refine j_ladd (pc := 141) hX dX4_grossOf_141 ?_
      refine j_lstore (pc := 142) hX dX4_grossOf_142 (by decide) [some (vA (some b)), some (vI c1), some (vI c2), some (vL c3), none, some (vL (v5 + (Int32.toInt64 x10))), none, some (vI c7), none, none, some (vI v10)] rfl ?_
      refine j_iinc (pc := 144) hX (1) dX4_grossOf_144 rfl rfl (by decide) [some (vA (some b)), some (vI c1), some (vI c2), some (vL c3), none, some (vL (v5 + (Int32.toInt64 x10))), none, some (vI c7), none, none, some (vI (v10 + (1)))] rfl ?_
      refine j_goto (pc := 147) hX 112 dX4_grossOf_147 rfl ?_
      exact ih _ _ _ hf kx
set_option maxHeartbeats 4000000 in
theorem lp_X4_grossOf_L51 {X : zX} {b : Nat} {u : zWd} (hX : zGd X RX4 cX4_grossOf 11 none 5) (n : Nat) (c1 : Int32) (c2 : Int32) : ∀ (k : Nat) (v3 : Int64) (v5 : Int64) (v7 : Int32) (w : zM) (o3 : Int64) (o5 : Int64) (w9 : zM) , f_X4_grossOf_L51 n c1 c2 k v3 v5 v7 w = some (o3, o5, w9) → zJ X 156 [some (vA (some b)), some (vI c1), some (vI c2), some (vL o3), none, some (vL o5), none, none, none, none, none] [] (zIj b u w9) → zJ X 51 [some (vA (some b)), some (vI c1), some (vI c2), some (vL v3), none, some (vL v5), none, some (vI v7), none, none, none] [] (zIj b u w) := by
  intro k
  induction k with
  | zero => intro v3 v5 v7 w o3 o5 w9 hf _; exact nomatch (show (none : Option (Int64 × Int64 × zM)) = _ from hf)
  | succ k ih =>
    intro v3 v5 v7 w o3 o5 w9 hf kx
    have hf : f_X4_grossOf_L51b n c1 c2 (f_X4_grossOf_L51 n c1 c2 k) v3 v5 v7 w = _ := hf
    unfold f_X4_grossOf_L51b at hf
    refine j_iload (pc := 51) hX dX4_grossOf_51 rfl ?_
    refine j_aload_n (pc := 53) hX dX4_grossOf_53 rfl ?_
    refine mg_I (pc := 54) hX 9 (by decide) rfl q2254 dX4_grossOf_54 ?_
    refine j_icmp_ge (pc := 57) hX 156 dX4_grossOf_57 rfl hf (fun h_ hf => ?_) (fun h_ hf => ?_)
    · refine j_fg [7] [some (vA (some b)), some (vI c1), some (vI c2), some (vL v3), none, some (vL v5), none, none, none, none, none] rfl ?_
      cases hf
      exact kx
    · refine j_aload_n (pc := 60) hX dX4_grossOf_60 rfl ?_
      refine mg_A (pc := 61) hX 0 (by decide) 1 1 rfl rfl (by decide) q2245 dX4_grossOf_61 ?_
      refine j_iload (pc := 64) hX dX4_grossOf_64 rfl ?_
      refine mr_I (pc := 66) hX 0 10 1 (by decide) rfl rfl rfl dX4_grossOf_66 hf (fun x4 hx_ hf => ?_)
      refine j_iload_n (pc := 67) hX dX4_grossOf_67 rfl ?_
      obtain ⟨x12, x13, w14, hm_, hf⟩ := zB3_e hf
      have kj68 : zJ X 150 [some (vA (some b)), some (vI c1), some (vI c2), some (vL x12), none, some (vL x13), none, some (vI v7), none, none, none] [] (zIj b u w14) := by
        clear hm_
        refine j_iinc (pc := 150) hX (1) dX4_grossOf_150 rfl rfl (by decide) [some (vA (some b)), some (vI c1), some (vI c2), some (vL x12), none, some (vL x13), none, some (vI (v7 + (1))), none, none, none] rfl ?_
        refine j_goto (pc := 153) hX 51 dX4_grossOf_153 rfl ?_
        exact ih _ _ _ _ _ _ _ hf kx
      have hf := hm_
      refine j_icmp_ne (pc := 68) hX 150 dX4_grossOf_68 rfl hf (fun h_ hf => ?_) (fun h_ hf => ?_)
      · cases hf
        exact kj68
      · refine j_aload_n (pc := 71) hX dX4_grossOf_71 rfl ?_
        refine j_iload (pc := 72) hX dX4_grossOf_72 rfl ?_
        refine j_iload_n (pc := 74) hX dX4_grossOf_74 rfl ?_
        obtain ⟨x6, w5, hc_, hf⟩ := zB2_e hf
        refine j_callV (pc := 75) hX (ci := 3) mt_X4_baseOf q2551 q2553 qs42 (zIj_isC b u _) ⟨_, rfl, rfl⟩ [vI v7, vI c2] rfl rfl (Nat.le_of_ble_eq_true rfl) (by decide) dX4_grossOf_75 (k_X4_baseOf _ _ hc_) ?_
        refine j_lstore (pc := 78) hX dX4_grossOf_78 (by decide) [some (vA (some b)), some (vI c1), some (vI c2), some (vL v3), none, some (vL v5), none, some (vI v7), some (vL x6), none, none] rfl ?_
        refine j_lload_n (pc := 80) hX dX4_grossOf_80 rfl ?_
        refine j_lload (pc := 81) hX dX4_grossOf_81 rfl ?_
        refine j_ladd (pc := 83) hX dX4_grossOf_83 ?_
        refine j_lstore_n (pc := 84) hX dX4_grossOf_84 (by decide) [some (vA (some b)), some (vI c1), some (vI c2), some (vL (v3 + x6)), none, some (vL v5), none, some (vI v7), some (vL x6), none, none] rfl ?_
        refine j_aload_n (pc := 85) hX dX4_grossOf_85 rfl ?_
        refine mg_A (pc := 86) hX 55 (by decide) 45 2 rfl rfl (by decide) q2300 dX4_grossOf_86 ?_
        refine j_iconst (pc := 89) hX (3 : Int32) dX4_grossOf_89 rfl ?_
        refine j_iload_n (pc := 90) hX dX4_grossOf_90 rfl ?_
        refine j_imul (pc := 91) hX dX4_grossOf_91 ?_
        refine j_aload_n (pc := 92) hX dX4_grossOf_92 rfl ?_
        refine mg_A (pc := 93) hX 1 (by decide) 2 1 rfl rfl (by decide) q2246 dX4_grossOf_93 ?_
        refine j_iload (pc := 96) hX dX4_grossOf_96 rfl ?_
        refine mr_I (pc := 98) hX 1 10 2 (by decide) rfl rfl rfl dX4_grossOf_98 hf (fun x7 hx_ hf => ?_)
        refine j_iadd (pc := 99) hX dX4_grossOf_99 ?_
        refine j_dup2 (pc := 100) hX rfl rfl dX4_grossOf_100 ?_
        refine mr_L (pc := 101) hX 55 72 45 (by decide) rfl rfl rfl dX4_grossOf_101 hf (fun x8 hx_ hf => ?_)
        refine j_lload (pc := 102) hX dX4_grossOf_102 rfl ?_
        refine j_ladd (pc := 104) hX dX4_grossOf_104 ?_
        refine ms_L (pc := 105) hX 55 72 45 (by decide) rfl rfl rfl dX4_grossOf_105 hf (fun w9 hf => ?_)
        refine j_bipush (pc := 106) hX (30 : Int32) dX4_grossOf_106 (by decide +kernel) ?_
        refine j_iload_n (pc := 108) hX dX4_grossOf_108 rfl ?_
        refine j_imul (pc := 109) hX dX4_grossOf_109 ?_
        refine j_istore (pc := 110) hX dX4_grossOf_110 (by decide) [some (vA (some b)), some (vI c1), some (vI c2), some (vL (v3 + x6)), none, some (vL v5), none, some (vI v7), some (vL x6), none, some (vI ((30 : Int32) * c2))] rfl ?_
        obtain ⟨x11, hm_, hf⟩ := zob hf
        refine j_fg [8] [some (vA (some b)), some (vI c1), some (vI c2), some (vL (v3 + x6)), none, some (vL v5), none, some (vI v7), none, none, some (vI ((30 : Int32) * c2))] rfl ?_
        refine lp_X4_grossOf_L112 hX n _ _ _ _ _ _ _ _ _ hm_ ?_
        cases hf
        exact kj68
set_option maxHeartbeats 4000000 in
theorem lp_X4_grossOf_L159 {X : zX} {b : Nat} {u : zWd} (hX : zGd X RX4 cX4_grossOf 11 none 5) (n : Nat) (c1 : Int32) (c2 : Int32) (c3 : Int64) (c5 : Int64) : ∀ (k : Nat) (v7 : Int32) (w : zM) (w9 : zM) , f_X4_grossOf_L159 n c1 c2 c3 c5 k v7 w = some w9 → zJ X 180 [some (vA (some b)), some (vI c1), some (vI c2), some (vL c3), none, some (vL c5), none, none, none, none, none] [] (zIj b u w9) → zJ X 159 [some (vA (some b)), some (vI c1), some (vI c2), some (vL c3), none, some (vL c5), none, some (vI v7), none, none, none] [] (zIj b u w) := by
  intro k
  induction k with
  | zero => intro v7 w w9 hf _; exact nomatch (show (none : Option (zM)) = _ from hf)
  | succ k ih =>
    intro v7 w w9 hf kx
    have hf : f_X4_grossOf_L159b n c1 c2 c3 c5 (f_X4_grossOf_L159 n c1 c2 c3 c5 k) v7 w = _ := hf
    unfold f_X4_grossOf_L159b at hf
    refine j_iload (pc := 159) hX dX4_grossOf_159 rfl ?_
    refine j_bipush (pc := 161) hX (6 : Int32) dX4_grossOf_161 (by decide +kernel) ?_
    refine j_icmp_ge (pc := 163) hX 180 dX4_grossOf_163 rfl hf (fun h_ hf => ?_) (fun h_ hf => ?_)
    · refine j_fg [7] [some (vA (some b)), some (vI c1), some (vI c2), some (vL c3), none, some (vL c5), none, none, none, none, none] rfl ?_
      cases hf
      exact kx
    · refine j_aload_n (pc := 166) hX dX4_grossOf_166 rfl ?_
      refine mg_A (pc := 167) hX 29 (by decide) 22 2 rfl rfl (by decide) q2274 dX4_grossOf_167 ?_
      refine j_iload (pc := 170) hX dX4_grossOf_170 rfl ?_
      refine j_lconst (pc := 172) hX (0 : Int64) dX4_grossOf_172 rfl ?_
      refine ms_L (pc := 173) hX 29 6 22 (by decide) rfl rfl rfl dX4_grossOf_173 hf (fun w18 hf => ?_)
      refine j_iinc (pc := 174) hX (1) dX4_grossOf_174 rfl rfl (by decide) [some (vA (some b)), some (vI c1), some (vI c2), some (vL c3), none, some (vL c5), none, some (vI (v7 + (1))), none, none, none] rfl ?_
      refine j_goto (pc := 177) hX 159 dX4_grossOf_177 rfl ?_
      exact ih _ _ _ hf kx
set_option maxHeartbeats 4000000 in
theorem lp_X4_grossOf_L183 {X : zX} {b : Nat} {u : zWd} (hX : zGd X RX4 cX4_grossOf 11 none 5) (n : Nat) (c1 : Int32) (c2 : Int32) (c3 : Int64) (c5 : Int64) : ∀ (k : Nat) (v7 : Int32) (w : zM) (w9 : zM) , f_X4_grossOf_L183 n c1 c2 c3 c5 k v7 w = some w9 → zJ X 271 [some (vA (some b)), some (vI c1), some (vI c2), some (vL c3), none, some (vL c5), none, none, none, none, none] [] (zIj b u w9) → zJ X 183 [some (vA (some b)), some (vI c1), some (vI c2), some (vL c3), none, some (vL c5), none, some (vI v7), none, none, none] [] (zIj b u w) := by
  intro k
  induction k with
  | zero => intro v7 w w9 hf _; exact nomatch (show (none : Option (zM)) = _ from hf)
  | succ k ih =>
    intro v7 w w9 hf kx
    have hf : f_X4_grossOf_L183b n c1 c2 c3 c5 (f_X4_grossOf_L183 n c1 c2 c3 c5 k) v7 w = _ := hf
    unfold f_X4_grossOf_L183b at hf
    refine j_iload (pc := 183) hX dX4_grossOf_183 rfl ?_
    refine j_aload_n (pc := 185) hX dX4_grossOf_185 rfl ?_
    refine mg_I (pc := 186) hX 26 (by decide) rfl q2271 dX4_grossOf_186 ?_
    refine j_icmp_ge (pc := 189) hX 271 dX4_grossOf_189 rfl hf (fun h_ hf => ?_) (fun h_ hf => ?_)
    · refine j_fg [7] [some (vA (some b)), some (vI c1), some (vI c2), some (vL c3), none, some (vL c5), none, none, none, none, none] rfl ?_
      cases hf
      exact kx
    · refine j_aload_n (pc := 192) hX dX4_grossOf_192 rfl ?_
      refine mg_A (pc := 193) hX 27 (by decide) 20 1 rfl rfl (by decide) q2272 dX4_grossOf_193 ?_
      refine j_iload (pc := 196) hX dX4_grossOf_196 rfl ?_
      refine mr_I (pc := 198) hX 27 6 20 (by decide) rfl rfl rfl dX4_grossOf_198 hf (fun x20 hx_ hf => ?_)
      refine j_istore (pc := 199) hX dX4_grossOf_199 (by decide) [some (vA (some b)), some (vI c1), some (vI c2), some (vL c3), none, some (vL c5), none, some (vI v7), some (vI x20), none, none] rfl ?_
      refine j_aload_n (pc := 201) hX dX4_grossOf_201 rfl ?_
      refine mg_A (pc := 202) hX 29 (by decide) 22 2 rfl rfl (by decide) q2274 dX4_grossOf_202 ?_
      refine j_iload (pc := 205) hX dX4_grossOf_205 rfl ?_
      refine j_aload_n (pc := 207) hX dX4_grossOf_207 rfl ?_
      refine mg_A (pc := 208) hX 25 (by decide) 19 1 rfl rfl (by decide) q2270 dX4_grossOf_208 ?_
      refine j_iload (pc := 211) hX dX4_grossOf_211 rfl ?_
      refine mr_I (pc := 213) hX 25 6 19 (by decide) rfl rfl rfl dX4_grossOf_213 hf (fun x21 hx_ hf => ?_)
      refine j_iload_n (pc := 214) hX dX4_grossOf_214 rfl ?_
      refine j_ishr (pc := 215) hX dX4_grossOf_215 ?_
      refine j_iconst (pc := 216) hX (1 : Int32) dX4_grossOf_216 rfl ?_
      refine j_iand (pc := 217) hX dX4_grossOf_217 ?_
      refine j_iconst (pc := 218) hX (1 : Int32) dX4_grossOf_218 rfl ?_
      obtain ⟨x24, w25, hm_, hf⟩ := zB2_e hf
      have kj219 : zJ X 239 [some (vA (some b)), some (vI c1), some (vI c2), some (vL c3), none, some (vL c5), none, some (vI v7), some (vI x20), none, none] [vL x24, vI x20, vA (some (b + 22))] (zIj b u w25) := by
        clear hm_
        refine ms_L (pc := 239) hX 29 6 22 (by decide) rfl rfl rfl dX4_grossOf_239 hf (fun w26 hf => ?_)
        refine j_aload_n (pc := 240) hX dX4_grossOf_240 rfl ?_
        refine mg_A (pc := 241) hX 55 (by decide) 45 2 rfl rfl (by decide) q2300 dX4_grossOf_241 ?_
        refine j_iconst (pc := 244) hX (3 : Int32) dX4_grossOf_244 rfl ?_
        refine j_iload_n (pc := 245) hX dX4_grossOf_245 rfl ?_
        refine j_imul (pc := 246) hX dX4_grossOf_246 ?_
        refine j_aload_n (pc := 247) hX dX4_grossOf_247 rfl ?_
        refine j_iload_n (pc := 248) hX dX4_grossOf_248 rfl ?_
        refine j_iload_n (pc := 249) hX dX4_grossOf_249 rfl ?_
        obtain ⟨x28, w27, hc_, hf⟩ := zB2_e hf
        refine j_callV (pc := 250) hX (ci := 3) mt_X4_home q2681 q2683 qs57 (zIj_isC b u _) ⟨_, rfl, rfl⟩ [vI c1, vI c2] rfl rfl (Nat.le_of_ble_eq_true rfl) (by decide) dX4_grossOf_250 (k_X4_home _ _ hc_) ?_
        refine j_iadd (pc := 253) hX dX4_grossOf_253 ?_
        refine j_dup2 (pc := 254) hX rfl rfl dX4_grossOf_254 ?_
        refine mr_L (pc := 255) hX 55 72 45 (by decide) rfl rfl rfl dX4_grossOf_255 hf (fun x29 hx_ hf => ?_)
        refine j_aload_n (pc := 256) hX dX4_grossOf_256 rfl ?_
        refine mg_A (pc := 257) hX 29 (by decide) 22 2 rfl rfl (by decide) q2274 dX4_grossOf_257 ?_
        refine j_iload (pc := 260) hX dX4_grossOf_260 rfl ?_
        refine mr_L (pc := 262) hX 29 6 22 (by decide) rfl rfl rfl dX4_grossOf_262 hf (fun x30 hx_ hf => ?_)
        refine j_ladd (pc := 263) hX dX4_grossOf_263 ?_
        refine ms_L (pc := 264) hX 55 72 45 (by decide) rfl rfl rfl dX4_grossOf_264 hf (fun w31 hf => ?_)
        refine j_iinc (pc := 265) hX (1) dX4_grossOf_265 rfl rfl (by decide) [some (vA (some b)), some (vI c1), some (vI c2), some (vL c3), none, some (vL c5), none, some (vI (v7 + (1))), some (vI x20), none, none] rfl ?_
        refine j_goto (pc := 268) hX 183 dX4_grossOf_268 rfl ?_
        refine j_fg [8] [some (vA (some b)), some (vI c1), some (vI c2), some (vL c3), none, some (vL c5), none, some (vI (v7 + (1))), none, none, none] rfl ?_
        exact ih _ _ _ hf kx
      have hf := hm_
      refine j_icmp_ne (pc := 219) hX 238 dX4_grossOf_219 rfl hf (fun h_ hf => ?_) (fun h_ hf => ?_)
      · refine j_lconst (pc := 238) hX (0 : Int64) dX4_grossOf_238 rfl ?_
        cases hf
        exact kj219
      · refine j_aload_n (pc := 222) hX dX4_grossOf_222 rfl ?_
        refine j_iload (pc := 223) hX dX4_grossOf_223 rfl ?_
        refine j_lload_n (pc := 225) hX dX4_grossOf_225 rfl ?_
        refine j_lload (pc := 226) hX dX4_grossOf_226 rfl ?_
        refine j_ldc2 (pc := 228) hX q2483 dX4_grossOf_228 ?_
        refine j_ldiv (pc := 231) hX dX4_grossOf_231 (by decide) ?_
        obtain ⟨x23, w22, hc_, hf⟩ := zB2_e hf
        refine j_callV (pc := 232) hX (ci := 3) mt_X4_formula q2668 q2670 qs54 (zIj_isC b u _) ⟨_, rfl, rfl⟩ [vI x20, vL c3, vL (c5 / (60 : Int64))] rfl rfl (Nat.le_of_ble_eq_true rfl) (by decide) dX4_grossOf_232 (k_X4_formula _ _ hc_) ?_
        refine j_goto (pc := 235) hX 239 dX4_grossOf_235 rfl ?_
        cases hf
        exact kj219
set_option maxHeartbeats 4000000 in
theorem lp_X4_grossOf_L274 {X : zX} {b : Nat} {u : zWd} (hX : zGd X RX4 cX4_grossOf 11 none 5) (n : Nat) (c2 : Int32) : ∀ (k : Nat) (v7 : Int32) (w : zM) (w9 : zM) , f_X4_grossOf_L274 n c2 k v7 w = some w9 → zJ X 306 [some (vA (some b)), none, some (vI c2), none, none, none, none, none, none, none, none] [] (zIj b u w9) → zJ X 274 [some (vA (some b)), none, some (vI c2), none, none, none, none, some (vI v7), none, none, none] [] (zIj b u w) := by
  intro k
  induction k with
  | zero => intro v7 w w9 hf _; exact nomatch (show (none : Option (zM)) = _ from hf)
  | succ k ih =>
    intro v7 w w9 hf kx
    have hf : f_X4_grossOf_L274b n c2 (f_X4_grossOf_L274 n c2 k) v7 w = _ := hf
    unfold f_X4_grossOf_L274b at hf
    refine j_iload (pc := 274) hX dX4_grossOf_274 rfl ?_
    refine j_bipush (pc := 276) hX (6 : Int32) dX4_grossOf_276 (by decide +kernel) ?_
    refine j_icmp_ge (pc := 278) hX 306 dX4_grossOf_278 rfl hf (fun h_ hf => ?_) (fun h_ hf => ?_)
    · refine j_fg [7] [some (vA (some b)), none, some (vI c2), none, none, none, none, none, none, none, none] rfl ?_
      cases hf
      exact kx
    · refine j_aload_n (pc := 281) hX dX4_grossOf_281 rfl ?_
      refine mg_A (pc := 282) hX 65 (by decide) 55 2 rfl rfl (by decide) q2310 dX4_grossOf_282 ?_
      refine j_bipush (pc := 285) hX (24 : Int32) dX4_grossOf_285 (by decide +kernel) ?_
      refine j_iload (pc := 287) hX dX4_grossOf_287 rfl ?_
      refine j_imul (pc := 289) hX dX4_grossOf_289 ?_
      refine j_iload_n (pc := 290) hX dX4_grossOf_290 rfl ?_
      refine j_iadd (pc := 291) hX dX4_grossOf_291 ?_
      refine j_aload_n (pc := 292) hX dX4_grossOf_292 rfl ?_
      refine mg_A (pc := 293) hX 29 (by decide) 22 2 rfl rfl (by decide) q2274 dX4_grossOf_293 ?_
      refine j_iload (pc := 296) hX dX4_grossOf_296 rfl ?_
      refine mr_L (pc := 298) hX 29 6 22 (by decide) rfl rfl rfl dX4_grossOf_298 hf (fun x33 hx_ hf => ?_)
      refine ms_L (pc := 299) hX 65 144 55 (by decide) rfl rfl rfl dX4_grossOf_299 hf (fun w34 hf => ?_)
      refine j_iinc (pc := 300) hX (1) dX4_grossOf_300 rfl rfl (by decide) [some (vA (some b)), none, some (vI c2), none, none, none, none, some (vI (v7 + (1))), none, none, none] rfl ?_
      refine j_goto (pc := 303) hX 274 dX4_grossOf_303 rfl ?_
      exact ih _ _ _ hf kx
set_option maxHeartbeats 4000000 in
theorem k_X4_grossOf {l : Launch} {n : Nat} {a1 : Int32} {a2 : Int32} {b : Nat} {u : zWd} {w : zM} (r : Unit) (w9 : zM) (hf : f_X4_grossOf n a1 a2 w = some w9) : zCt l yX4_grossOf cX4_grossOf 11 none 5 [vA (some b), vI a1, vI a2] (zIj b u w) (.inr (none, (zIj b u w9))) := by
  refine zCt_of (lv := [some (vA (some b)), some (vI a1), some (vI a2), none, none, none, none, none, none, none, none]) (by decide +kernel) 8 rfl rfl ?_
  intro X hX hI hN hQ
  have hX : zGd X RX4 cX4_grossOf 11 none 5 := hX
  unfold f_X4_grossOf at hf
  refine j_lconst (pc := 0) hX (0 : Int64) dX4_grossOf_0 rfl ?_
  refine j_lstore_n (pc := 1) hX dX4_grossOf_1 (by decide) [some (vA (some b)), some (vI a1), some (vI a2), some (vL (0 : Int64)), none, none, none, none, none, none, none] rfl ?_
  refine j_lconst (pc := 2) hX (0 : Int64) dX4_grossOf_2 rfl ?_
  refine j_lstore (pc := 3) hX dX4_grossOf_3 (by decide) [some (vA (some b)), some (vI a1), some (vI a2), some (vL (0 : Int64)), none, some (vL (0 : Int64)), none, none, none, none, none] rfl ?_
  refine j_iconst (pc := 5) hX (0 : Int32) dX4_grossOf_5 rfl ?_
  refine j_istore (pc := 6) hX dX4_grossOf_6 (by decide) [some (vA (some b)), some (vI a1), some (vI a2), some (vL (0 : Int64)), none, some (vL (0 : Int64)), none, some (vI (0 : Int32)), none, none, none] rfl ?_
  obtain ⟨w3, hm_, hf⟩ := zob hf
  refine lp_X4_grossOf_L8 hX n _ _ _ _ _ _ _ _ hm_ ?_
  refine j_iconst (pc := 48) hX (0 : Int32) dX4_grossOf_48 rfl ?_
  refine j_istore (pc := 49) hX dX4_grossOf_49 (by decide) [some (vA (some b)), some (vI a1), some (vI a2), some (vL (0 : Int64)), none, some (vL (0 : Int64)), none, some (vI (0 : Int32)), none, none, none] rfl ?_
  obtain ⟨x15, x16, w17, hm_, hf⟩ := zB3_e hf
  refine lp_X4_grossOf_L51 hX n _ _ _ _ _ _ _ _ _ _ hm_ ?_
  refine j_iconst (pc := 156) hX (0 : Int32) dX4_grossOf_156 rfl ?_
  refine j_istore (pc := 157) hX dX4_grossOf_157 (by decide) [some (vA (some b)), some (vI a1), some (vI a2), some (vL x15), none, some (vL x16), none, some (vI (0 : Int32)), none, none, none] rfl ?_
  obtain ⟨w19, hm_, hf⟩ := zob hf
  refine lp_X4_grossOf_L159 hX n _ _ _ _ _ _ _ _ hm_ ?_
  refine j_iconst (pc := 180) hX (0 : Int32) dX4_grossOf_180 rfl ?_
  refine j_istore (pc := 181) hX dX4_grossOf_181 (by decide) [some (vA (some b)), some (vI a1), some (vI a2), some (vL x15), none, some (vL x16), none, some (vI (0 : Int32)), none, none, none] rfl ?_
  obtain ⟨w32, hm_, hf⟩ := zob hf
  refine lp_X4_grossOf_L183 hX n _ _ _ _ _ _ _ _ hm_ ?_
  refine j_iconst (pc := 271) hX (0 : Int32) dX4_grossOf_271 rfl ?_
  refine j_istore (pc := 272) hX dX4_grossOf_272 (by decide) [some (vA (some b)), some (vI a1), some (vI a2), some (vL x15), none, some (vL x16), none, some (vI (0 : Int32)), none, none, none] rfl ?_
  obtain ⟨w35, hm_, hf⟩ := zob hf
  refine j_fg [1, 3, 5] [some (vA (some b)), none, some (vI a2), none, none, none, none, some (vI (0 : Int32)), none, none, none] rfl ?_
  refine lp_X4_grossOf_L274 hX n _ _ _ _ _ hm_ ?_
  exact j_return (pc := 306) hX hQ (by cases hf; rfl) dX4_grossOf_306
def f_X4_yearSum_L12b (n : Nat) (c1 : Int32) (c2 : Int32) (c3 : Int32) (w : zM) (rec : Int64 → Int32 → Option (Int64)) (v4 : Int64) (v6 : Int32) : Option (Int64) :=
  if c2 ≤ v6 then
    some v4
  else
    (
      if c1 = (0 : Int32) then
        (rLM w 55 72 (((3 : Int32) * v6) + c3)).bind fun x4 =>
        some x4
      else
        if c1 = (1 : Int32) then
          (rLM w 56 72 (((3 : Int32) * v6) + c3)).bind fun x3 =>
          some x3
        else
          if c1 = (2 : Int32) then
            (rLM w 58 72 (((3 : Int32) * v6) + c3)).bind fun x2 =>
            some x2
          else
            (rLM w 59 72 (((3 : Int32) * v6) + c3)).bind fun x1 =>
            some x1
      ).bind fun x5 =>
    rec (v4 + x5) (v6 + (1))
def f_X4_yearSum_L12 (n : Nat) (c1 : Int32) (c2 : Int32) (c3 : Int32) (w : zM) : Nat → Int64 → Int32 → Option (Int64)
  | 0, _, _ => none
  | k + 1, v4, v6 => f_X4_yearSum_L12b n c1 c2 c3 w (f_X4_yearSum_L12 n c1 c2 c3 w k) v4 v6
def f_X4_yearSum (n : Nat) (a1 : Int32) (a2 : Int32) (a3 : Int32) (w : zM) : Option (Int64 × zM) :=
  (f_X4_yearSum_L12 n a1 a2 a3 w n (0 : Int64) ((a2 / (12 : Int32)) * (12 : Int32))).bind fun x6 =>
  some (x6, w)
theorem mt_X4_yearSum : zMt yX4_yearSum cX4_yearSum 7 (some .long) 3 := ⟨q2692, q82, ⟨by decide, by decide⟩, by decide +kernel, by decide⟩
set_option maxHeartbeats 4000000 in
theorem lp_X4_yearSum_L12 {X : zX} {b : Nat} {u : zWd} (hX : zGd X RX4 cX4_yearSum 7 (some .long) 1) (n : Nat) (c1 : Int32) (c2 : Int32) (c3 : Int32) (w : zM) : ∀ (k : Nat) (v4 : Int64) (v6 : Int32) (o4 : Int64) , f_X4_yearSum_L12 n c1 c2 c3 w k v4 v6 = some o4 → zJ X 96 [some (vA (some b)), some (vI c1), some (vI c2), some (vI c3), some (vL o4), none, none] [] (zIj b u w) → zJ X 12 [some (vA (some b)), some (vI c1), some (vI c2), some (vI c3), some (vL v4), none, some (vI v6)] [] (zIj b u w) := by
  intro k
  induction k with
  | zero => intro v4 v6 o4 hf _; exact nomatch (show (none : Option (Int64)) = _ from hf)
  | succ k ih =>
    intro v4 v6 o4 hf kx
    have hf : f_X4_yearSum_L12b n c1 c2 c3 w (f_X4_yearSum_L12 n c1 c2 c3 w k) v4 v6 = _ := hf
    unfold f_X4_yearSum_L12b at hf
    refine j_iload (pc := 12) hX dX4_yearSum_12 rfl ?_
    refine j_iload_n (pc := 14) hX dX4_yearSum_14 rfl ?_
    refine j_icmp_ge (pc := 15) hX 96 dX4_yearSum_15 rfl hf (fun h_ hf => ?_) (fun h_ hf => ?_)
    · refine j_fg [6] [some (vA (some b)), some (vI c1), some (vI c2), some (vI c3), some (vL v4), none, none] rfl ?_
      cases hf
      exact kx
    · refine j_lload (pc := 18) hX dX4_yearSum_18 rfl ?_
      refine j_iload_n (pc := 20) hX dX4_yearSum_20 rfl ?_
      obtain ⟨x5, hm_, hf⟩ := zob hf
      have kj21 : zJ X 87 [some (vA (some b)), some (vI c1), some (vI c2), some (vI c3), none, none, some (vI v6)] [vL x5, vL v4] (zIj b u w) := by
        clear hm_
        refine j_ladd (pc := 87) hX dX4_yearSum_87 ?_
        refine j_lstore (pc := 88) hX dX4_yearSum_88 (by decide) [some (vA (some b)), some (vI c1), some (vI c2), some (vI c3), some (vL (v4 + x5)), none, some (vI v6)] rfl ?_
        refine j_iinc (pc := 90) hX (1) dX4_yearSum_90 rfl rfl (by decide) [some (vA (some b)), some (vI c1), some (vI c2), some (vI c3), some (vL (v4 + x5)), none, some (vI (v6 + (1)))] rfl ?_
        refine j_goto (pc := 93) hX 12 dX4_yearSum_93 rfl ?_
        exact ih _ _ _ hf kx
      have hf := hm_
      refine j_if_ne (pc := 21) hX 38 dX4_yearSum_21 rfl hf (fun h_ hf => ?_) (fun h_ hf => ?_)
      · refine j_iload_n (pc := 38) hX dX4_yearSum_38 rfl ?_
        refine j_iconst (pc := 39) hX (1 : Int32) dX4_yearSum_39 rfl ?_
        refine j_icmp_ne (pc := 40) hX 57 dX4_yearSum_40 rfl hf (fun h_ hf => ?_) (fun h_ hf => ?_)
        · refine j_iload_n (pc := 57) hX dX4_yearSum_57 rfl ?_
          refine j_iconst (pc := 58) hX (2 : Int32) dX4_yearSum_58 rfl ?_
          refine j_icmp_ne (pc := 59) hX 76 dX4_yearSum_59 rfl hf (fun h_ hf => ?_) (fun h_ hf => ?_)
          · refine j_aload_n (pc := 76) hX dX4_yearSum_76 rfl ?_
            refine mg_A (pc := 77) hX 59 (by decide) 49 2 rfl rfl (by decide) q2304 dX4_yearSum_77 ?_
            refine j_iconst (pc := 80) hX (3 : Int32) dX4_yearSum_80 rfl ?_
            refine j_iload (pc := 81) hX dX4_yearSum_81 rfl ?_
            refine j_imul (pc := 83) hX dX4_yearSum_83 ?_
            refine j_iload_n (pc := 84) hX dX4_yearSum_84 rfl ?_
            refine j_iadd (pc := 85) hX dX4_yearSum_85 ?_
            refine mr_L (pc := 86) hX 59 72 49 (by decide) rfl rfl rfl dX4_yearSum_86 hf (fun x1 hx_ hf => ?_)
            refine j_fg [4] [some (vA (some b)), some (vI c1), some (vI c2), some (vI c3), none, none, some (vI v6)] rfl ?_
            cases hf
            exact kj21
          · refine j_aload_n (pc := 62) hX dX4_yearSum_62 rfl ?_
            refine mg_A (pc := 63) hX 58 (by decide) 48 2 rfl rfl (by decide) q2303 dX4_yearSum_63 ?_
            refine j_iconst (pc := 66) hX (3 : Int32) dX4_yearSum_66 rfl ?_
            refine j_iload (pc := 67) hX dX4_yearSum_67 rfl ?_
            refine j_imul (pc := 69) hX dX4_yearSum_69 ?_
            refine j_iload_n (pc := 70) hX dX4_yearSum_70 rfl ?_
            refine j_iadd (pc := 71) hX dX4_yearSum_71 ?_
            refine mr_L (pc := 72) hX 58 72 48 (by decide) rfl rfl rfl dX4_yearSum_72 hf (fun x2 hx_ hf => ?_)
            refine j_goto (pc := 73) hX 87 dX4_yearSum_73 rfl ?_
            refine j_fg [4] [some (vA (some b)), some (vI c1), some (vI c2), some (vI c3), none, none, some (vI v6)] rfl ?_
            cases hf
            exact kj21
        · refine j_aload_n (pc := 43) hX dX4_yearSum_43 rfl ?_
          refine mg_A (pc := 44) hX 56 (by decide) 46 2 rfl rfl (by decide) q2301 dX4_yearSum_44 ?_
          refine j_iconst (pc := 47) hX (3 : Int32) dX4_yearSum_47 rfl ?_
          refine j_iload (pc := 48) hX dX4_yearSum_48 rfl ?_
          refine j_imul (pc := 50) hX dX4_yearSum_50 ?_
          refine j_iload_n (pc := 51) hX dX4_yearSum_51 rfl ?_
          refine j_iadd (pc := 52) hX dX4_yearSum_52 ?_
          refine mr_L (pc := 53) hX 56 72 46 (by decide) rfl rfl rfl dX4_yearSum_53 hf (fun x3 hx_ hf => ?_)
          refine j_goto (pc := 54) hX 87 dX4_yearSum_54 rfl ?_
          refine j_fg [4] [some (vA (some b)), some (vI c1), some (vI c2), some (vI c3), none, none, some (vI v6)] rfl ?_
          cases hf
          exact kj21
      · refine j_aload_n (pc := 24) hX dX4_yearSum_24 rfl ?_
        refine mg_A (pc := 25) hX 55 (by decide) 45 2 rfl rfl (by decide) q2300 dX4_yearSum_25 ?_
        refine j_iconst (pc := 28) hX (3 : Int32) dX4_yearSum_28 rfl ?_
        refine j_iload (pc := 29) hX dX4_yearSum_29 rfl ?_
        refine j_imul (pc := 31) hX dX4_yearSum_31 ?_
        refine j_iload_n (pc := 32) hX dX4_yearSum_32 rfl ?_
        refine j_iadd (pc := 33) hX dX4_yearSum_33 ?_
        refine mr_L (pc := 34) hX 55 72 45 (by decide) rfl rfl rfl dX4_yearSum_34 hf (fun x4 hx_ hf => ?_)
        refine j_goto (pc := 35) hX 87 dX4_yearSum_35 rfl ?_
        refine j_fg [4] [some (vA (some b)), some (vI c1), some (vI c2), some (vI c3), none, none, some (vI v6)] rfl ?_
        cases hf
        exact kj21
set_option maxHeartbeats 4000000 in
theorem k_X4_yearSum {l : Launch} {n : Nat} {a1 : Int32} {a2 : Int32} {a3 : Int32} {b : Nat} {u : zWd} {w : zM} (r : Int64) (w9 : zM) (hf : f_X4_yearSum n a1 a2 a3 w = some (r, w9)) : zCt l yX4_yearSum cX4_yearSum 7 (some .long) 1 [vA (some b), vI a1, vI a2, vI a3] (zIj b u w) (.inr (some (vL r), (zIj b u w9))) := by
  refine zCt_of (lv := [some (vA (some b)), some (vI a1), some (vI a2), some (vI a3), none, none, none]) (by decide +kernel) 3 rfl rfl ?_
  intro X hX hI hN hQ
  have hX : zGd X RX4 cX4_yearSum 7 (some .long) 1 := hX
  unfold f_X4_yearSum at hf
  refine j_lconst (pc := 0) hX (0 : Int64) dX4_yearSum_0 rfl ?_
  refine j_lstore (pc := 1) hX dX4_yearSum_1 (by decide) [some (vA (some b)), some (vI a1), some (vI a2), some (vI a3), some (vL (0 : Int64)), none, none] rfl ?_
  refine j_iload_n (pc := 3) hX dX4_yearSum_3 rfl ?_
  refine j_bipush (pc := 4) hX (12 : Int32) dX4_yearSum_4 (by decide +kernel) ?_
  refine j_idiv (pc := 6) hX dX4_yearSum_6 (by decide) ?_
  refine j_bipush (pc := 7) hX (12 : Int32) dX4_yearSum_7 (by decide +kernel) ?_
  refine j_imul (pc := 9) hX dX4_yearSum_9 ?_
  refine j_istore (pc := 10) hX dX4_yearSum_10 (by decide) [some (vA (some b)), some (vI a1), some (vI a2), some (vI a3), some (vL (0 : Int64)), none, some (vI ((a2 / (12 : Int32)) * (12 : Int32)))] rfl ?_
  obtain ⟨x6, hm_, hf⟩ := zob hf
  refine lp_X4_yearSum_L12 hX n _ _ _ _ _ _ _ _ hm_ ?_
  refine j_lload (pc := 96) hX dX4_yearSum_96 rfl ?_
  exact j_lreturn (pc := 98) hX hQ (by cases hf; rfl) dX4_yearSum_98
def f_X4_contribute (n : Nat) (a1 : Int32) (a2 : Int32) (w : zM) : Option zM :=
  zB2 (f_X4_lastOf n (0 : Int32) ((24 : Int32) * a2) a1 w) fun x2 w1 =>
  (
    if (0 : Int32) ≤ x2 then
      (rIM w1 32 72 (((24 : Int32) * a2) + x2)).bind fun x3 =>
      some (Int32.toInt64 x3)
    else
      some (0 : Int64)
    ).bind fun x4 =>
  zB2 (f_X4_yearSum n (0 : Int32) a1 a2 w1) fun x6 w5 =>
  (rLM w5 55 72 (((3 : Int32) * a1) + a2)).bind fun x7 =>
  (
    if (0 : Int32) ≤ (lg_cmp (x6 + x7) x4) then
      some x4
    else
      some (x6 + x7)
    ).bind fun x8 =>
  zB2 (f_X4_yearSum n (1 : Int32) a1 a2 w5) fun x10 w9 =>
  (
    if (lg_cmp (x8 - x10) (0 : Int64)) ≤ (0 : Int32) then
      some (0 : Int64)
    else
      some (x8 - x10)
    ).bind fun x11 =>
  (sLM w9 56 72 (((3 : Int32) * a1) + a2) x11).bind fun w12 =>
  (rLM w12 56 72 (((3 : Int32) * a1) + a2)).bind fun x13 =>
  (
    if (0 : Int32) ≤ x2 then
      (rIM w12 31 72 (((24 : Int32) * a2) + x2)).bind fun x14 =>
      some x14
    else
      some (0 : Int32)
    ).bind fun x15 =>
  zB2 (f_X4_round n (x13 * (Int32.toInt64 x15)) (1000 : Int64) w12) fun x17 w16 =>
  (sLM w16 57 72 (((3 : Int32) * a1) + a2) x17).bind fun w18 =>
  some w18
theorem mt_X4_contribute : zMt yX4_contribute cX4_contribute 11 none 2 := ⟨q2688, q82, ⟨by decide, by decide⟩, by decide +kernel, by decide⟩
set_option maxHeartbeats 4000000 in
theorem k_X4_contribute {l : Launch} {n : Nat} {a1 : Int32} {a2 : Int32} {b : Nat} {u : zWd} {w : zM} (r : Unit) (w9 : zM) (hf : f_X4_contribute n a1 a2 w = some w9) : zCt l yX4_contribute cX4_contribute 11 none 3 [vA (some b), vI a1, vI a2] (zIj b u w) (.inr (none, (zIj b u w9))) := by
  refine zCt_of (lv := [some (vA (some b)), some (vI a1), some (vI a2), none, none, none, none, none, none, none, none]) (by decide +kernel) 8 rfl rfl ?_
  intro X hX hI hN hQ
  have hX : zGd X RX4 cX4_contribute 11 none 3 := hX
  unfold f_X4_contribute at hf
  refine j_iconst (pc := 0) hX (3 : Int32) dX4_contribute_0 rfl ?_
  refine j_iload_n (pc := 1) hX dX4_contribute_1 rfl ?_
  refine j_imul (pc := 2) hX dX4_contribute_2 ?_
  refine j_iload_n (pc := 3) hX dX4_contribute_3 rfl ?_
  refine j_iadd (pc := 4) hX dX4_contribute_4 ?_
  refine j_istore_n (pc := 5) hX dX4_contribute_5 (by decide) [some (vA (some b)), some (vI a1), some (vI a2), some (vI (((3 : Int32) * a1) + a2)), none, none, none, none, none, none, none] rfl ?_
  refine j_aload_n (pc := 6) hX dX4_contribute_6 rfl ?_
  refine j_iconst (pc := 7) hX (0 : Int32) dX4_contribute_7 rfl ?_
  refine j_bipush (pc := 8) hX (24 : Int32) dX4_contribute_8 (by decide +kernel) ?_
  refine j_iload_n (pc := 10) hX dX4_contribute_10 rfl ?_
  refine j_imul (pc := 11) hX dX4_contribute_11 ?_
  refine j_iload_n (pc := 12) hX dX4_contribute_12 rfl ?_
  obtain ⟨x2, w1, hc_, hf⟩ := zB2_e hf
  refine j_callV (pc := 13) hX (ci := 3) mt_X4_lastOf q2650 q2652 qs51 (zIj_isC b u _) ⟨_, rfl, rfl⟩ [vI (0 : Int32), vI ((24 : Int32) * a2), vI a1] rfl rfl (Nat.le_of_ble_eq_true rfl) (by decide) dX4_contribute_13 (k_X4_lastOf _ _ hc_) ?_
  refine j_istore (pc := 16) hX dX4_contribute_16 (by decide) [some (vA (some b)), some (vI a1), some (vI a2), some (vI (((3 : Int32) * a1) + a2)), some (vI x2), none, none, none, none, none, none] rfl ?_
  refine j_iload (pc := 18) hX dX4_contribute_18 rfl ?_
  obtain ⟨x4, hm_, hf⟩ := zob hf
  have kj20 : zJ X 40 [some (vA (some b)), some (vI a1), some (vI a2), some (vI (((3 : Int32) * a1) + a2)), some (vI x2), none, none, none, none, none, none] [vL x4] (zIj b u w1) := by
    clear hm_
    refine j_lstore (pc := 40) hX dX4_contribute_40 (by decide) [some (vA (some b)), some (vI a1), some (vI a2), some (vI (((3 : Int32) * a1) + a2)), some (vI x2), some (vL x4), none, none, none, none, none] rfl ?_
    refine j_aload_n (pc := 42) hX dX4_contribute_42 rfl ?_
    refine j_iconst (pc := 43) hX (0 : Int32) dX4_contribute_43 rfl ?_
    refine j_iload_n (pc := 44) hX dX4_contribute_44 rfl ?_
    refine j_iload_n (pc := 45) hX dX4_contribute_45 rfl ?_
    obtain ⟨x6, w5, hc_, hf⟩ := zB2_e hf
    refine j_callV (pc := 46) hX (ci := 3) mt_X4_yearSum q2689 q2691 qs59 (zIj_isC b u _) ⟨_, rfl, rfl⟩ [vI (0 : Int32), vI a1, vI a2] rfl rfl (Nat.le_of_ble_eq_true rfl) (by decide) dX4_contribute_46 (k_X4_yearSum _ _ hc_) ?_
    refine j_aload_n (pc := 49) hX dX4_contribute_49 rfl ?_
    refine mg_A (pc := 50) hX 55 (by decide) 45 2 rfl rfl (by decide) q2300 dX4_contribute_50 ?_
    refine j_iload_n (pc := 53) hX dX4_contribute_53 rfl ?_
    refine mr_L (pc := 54) hX 55 72 45 (by decide) rfl rfl rfl dX4_contribute_54 hf (fun x7 hx_ hf => ?_)
    refine j_ladd (pc := 55) hX dX4_contribute_55 ?_
    refine j_lstore (pc := 56) hX dX4_contribute_56 (by decide) [some (vA (some b)), some (vI a1), some (vI a2), some (vI (((3 : Int32) * a1) + a2)), some (vI x2), some (vL x4), none, some (vL (x6 + x7)), none, none, none] rfl ?_
    refine j_lload (pc := 58) hX dX4_contribute_58 rfl ?_
    refine j_lload (pc := 60) hX dX4_contribute_60 rfl ?_
    refine j_lcmp (pc := 62) hX dX4_contribute_62 ?_
    obtain ⟨x8, hm_, hf⟩ := zob hf
    have kj63 : zJ X 73 [some (vA (some b)), some (vI a1), some (vI a2), some (vI (((3 : Int32) * a1) + a2)), some (vI x2), none, none, none, none, none, none] [vL x8] (zIj b u w5) := by
      clear hm_
      refine j_aload_n (pc := 73) hX dX4_contribute_73 rfl ?_
      refine j_iconst (pc := 74) hX (1 : Int32) dX4_contribute_74 rfl ?_
      refine j_iload_n (pc := 75) hX dX4_contribute_75 rfl ?_
      refine j_iload_n (pc := 76) hX dX4_contribute_76 rfl ?_
      obtain ⟨x10, w9, hc_, hf⟩ := zB2_e hf
      refine j_callV (pc := 77) hX (ci := 3) mt_X4_yearSum q2689 q2691 qs59 (zIj_isC b u _) ⟨_, rfl, rfl⟩ [vI (1 : Int32), vI a1, vI a2] rfl rfl (Nat.le_of_ble_eq_true rfl) (by decide) dX4_contribute_77 (k_X4_yearSum _ _ hc_) ?_
      refine j_lsub (pc := 80) hX dX4_contribute_80 ?_
      refine j_lstore (pc := 81) hX dX4_contribute_81 (by decide) [some (vA (some b)), some (vI a1), some (vI a2), some (vI (((3 : Int32) * a1) + a2)), some (vI x2), none, none, none, none, some (vL (x8 - x10)), none] rfl ?_
      refine j_aload_n (pc := 83) hX dX4_contribute_83 rfl ?_
      refine mg_A (pc := 84) hX 56 (by decide) 46 2 rfl rfl (by decide) q2301 dX4_contribute_84 ?_
      refine j_iload_n (pc := 87) hX dX4_contribute_87 rfl ?_
      refine j_lload (pc := 88) hX dX4_contribute_88 rfl ?_
      refine j_lconst (pc := 90) hX (0 : Int64) dX4_contribute_90 rfl ?_
      refine j_lcmp (pc := 91) hX dX4_contribute_91 ?_
      obtain ⟨x11, hm_, hf⟩ := zob hf
      have kj92 : zJ X 101 [some (vA (some b)), none, some (vI a2), some (vI (((3 : Int32) * a1) + a2)), some (vI x2), none, none, none, none, none, none] [vL x11, vI (((3 : Int32) * a1) + a2), vA (some (b + 46))] (zIj b u w9) := by
        clear hm_
        refine ms_L (pc := 101) hX 56 72 46 (by decide) rfl rfl rfl dX4_contribute_101 hf (fun w12 hf => ?_)
        refine j_aload_n (pc := 102) hX dX4_contribute_102 rfl ?_
        refine mg_A (pc := 103) hX 57 (by decide) 47 2 rfl rfl (by decide) q2302 dX4_contribute_103 ?_
        refine j_iload_n (pc := 106) hX dX4_contribute_106 rfl ?_
        refine j_aload_n (pc := 107) hX dX4_contribute_107 rfl ?_
        refine j_aload_n (pc := 108) hX dX4_contribute_108 rfl ?_
        refine mg_A (pc := 109) hX 56 (by decide) 46 2 rfl rfl (by decide) q2301 dX4_contribute_109 ?_
        refine j_iload_n (pc := 112) hX dX4_contribute_112 rfl ?_
        refine mr_L (pc := 113) hX 56 72 46 (by decide) rfl rfl rfl dX4_contribute_113 hf (fun x13 hx_ hf => ?_)
        refine j_iload (pc := 114) hX dX4_contribute_114 rfl ?_
        obtain ⟨x15, hm_, hf⟩ := zob hf
        have kj116 : zJ X 135 [none, none, none, none, none, none, none, none, none, none, none] [vI x15, vL x13, vA (some b), vI (((3 : Int32) * a1) + a2), vA (some (b + 47))] (zIj b u w12) := by
          clear hm_
          refine j_i2l (pc := 135) hX dX4_contribute_135 ?_
          refine j_lmul (pc := 136) hX dX4_contribute_136 ?_
          refine j_ldc2 (pc := 137) hX q2654 dX4_contribute_137 ?_
          obtain ⟨x17, w16, hc_, hf⟩ := zB2_e hf
          refine j_callV (pc := 140) hX (ci := 3) mt_X4_round q2556 q2558 qs43 (zIj_isC b u _) ⟨_, rfl, rfl⟩ [vL (x13 * (Int32.toInt64 x15)), vL (1000 : Int64)] rfl rfl (Nat.le_of_ble_eq_true rfl) (by decide) dX4_contribute_140 (k_X4_round _ _ hc_) ?_
          refine ms_L (pc := 143) hX 57 72 47 (by decide) rfl rfl rfl dX4_contribute_143 hf (fun w18 hf => ?_)
          exact j_return (pc := 144) hX hQ (by cases hf; rfl) dX4_contribute_144
        have hf := hm_
        refine j_if_ge (pc := 116) hX 123 dX4_contribute_116 rfl hf (fun h_ hf => ?_) (fun h_ hf => ?_)
        · refine j_aload_n (pc := 123) hX dX4_contribute_123 rfl ?_
          refine mg_A (pc := 124) hX 31 (by decide) 24 1 rfl rfl (by decide) q2276 dX4_contribute_124 ?_
          refine j_bipush (pc := 127) hX (24 : Int32) dX4_contribute_127 (by decide +kernel) ?_
          refine j_iload_n (pc := 129) hX dX4_contribute_129 rfl ?_
          refine j_imul (pc := 130) hX dX4_contribute_130 ?_
          refine j_iload (pc := 131) hX dX4_contribute_131 rfl ?_
          refine j_iadd (pc := 133) hX dX4_contribute_133 ?_
          refine mr_I (pc := 134) hX 31 72 24 (by decide) rfl rfl rfl dX4_contribute_134 hf (fun x14 hx_ hf => ?_)
          refine j_fg [0, 2, 3, 4] [none, none, none, none, none, none, none, none, none, none, none] rfl ?_
          cases hf
          exact kj116
        · refine j_iconst (pc := 119) hX (0 : Int32) dX4_contribute_119 rfl ?_
          refine j_goto (pc := 120) hX 135 dX4_contribute_120 rfl ?_
          refine j_fg [0, 2, 3, 4] [none, none, none, none, none, none, none, none, none, none, none] rfl ?_
          cases hf
          exact kj116
      have hf := hm_
      refine j_if_le (pc := 92) hX 100 dX4_contribute_92 rfl hf (fun h_ hf => ?_) (fun h_ hf => ?_)
      · refine j_lconst (pc := 100) hX (0 : Int64) dX4_contribute_100 rfl ?_
        refine j_fg [1, 9] [some (vA (some b)), none, some (vI a2), some (vI (((3 : Int32) * a1) + a2)), some (vI x2), none, none, none, none, none, none] rfl ?_
        cases hf
        exact kj92
      · refine j_lload (pc := 95) hX dX4_contribute_95 rfl ?_
        refine j_goto (pc := 97) hX 101 dX4_contribute_97 rfl ?_
        refine j_fg [1, 9] [some (vA (some b)), none, some (vI a2), some (vI (((3 : Int32) * a1) + a2)), some (vI x2), none, none, none, none, none, none] rfl ?_
        cases hf
        exact kj92
    have hf := hm_
    refine j_if_ge (pc := 63) hX 71 dX4_contribute_63 rfl hf (fun h_ hf => ?_) (fun h_ hf => ?_)
    · refine j_lload (pc := 71) hX dX4_contribute_71 rfl ?_
      refine j_fg [5, 7] [some (vA (some b)), some (vI a1), some (vI a2), some (vI (((3 : Int32) * a1) + a2)), some (vI x2), none, none, none, none, none, none] rfl ?_
      cases hf
      exact kj63
    · refine j_lload (pc := 66) hX dX4_contribute_66 rfl ?_
      refine j_goto (pc := 68) hX 73 dX4_contribute_68 rfl ?_
      refine j_fg [5, 7] [some (vA (some b)), some (vI a1), some (vI a2), some (vI (((3 : Int32) * a1) + a2)), some (vI x2), none, none, none, none, none, none] rfl ?_
      cases hf
      exact kj63
  have hf := hm_
  refine j_if_ge (pc := 20) hX 27 dX4_contribute_20 rfl hf (fun h_ hf => ?_) (fun h_ hf => ?_)
  · refine j_aload_n (pc := 27) hX dX4_contribute_27 rfl ?_
    refine mg_A (pc := 28) hX 32 (by decide) 25 1 rfl rfl (by decide) q2277 dX4_contribute_28 ?_
    refine j_bipush (pc := 31) hX (24 : Int32) dX4_contribute_31 (by decide +kernel) ?_
    refine j_iload_n (pc := 33) hX dX4_contribute_33 rfl ?_
    refine j_imul (pc := 34) hX dX4_contribute_34 ?_
    refine j_iload (pc := 35) hX dX4_contribute_35 rfl ?_
    refine j_iadd (pc := 37) hX dX4_contribute_37 ?_
    refine mr_I (pc := 38) hX 32 72 25 (by decide) rfl rfl rfl dX4_contribute_38 hf (fun x3 hx_ hf => ?_)
    refine j_i2l (pc := 39) hX dX4_contribute_39 ?_
    cases hf
    exact kj20
  · refine j_lconst (pc := 23) hX (0 : Int64) dX4_contribute_23 rfl ?_
    refine j_goto (pc := 24) hX 40 dX4_contribute_24 rfl ?_
    cases hf
    exact kj20
def f_X4_taxes (n : Nat) (a1 : Int32) (a2 : Int32) (a3 : Int32) (w : zM) : Option zM :=
  zB2 (f_X4_lastOf n (1 : Int32) ((24 : Int32) * a1) a2 w) fun x2 w1 =>
  (
    if (0 : Int32) ≤ x2 then
      (rIM w1 36 144 (((24 : Int32) * a1) + x2)).bind fun x3 =>
      some x3
    else
      some (0 : Int32)
    ).bind fun x4 =>
  (rLM w1 55 72 (((3 : Int32) * a2) + a3)).bind fun x5 =>
  (rLM w1 57 72 (((3 : Int32) * a2) + a3)).bind fun x6 =>
  zB2 (f_X4_home n a1 a2 w1) fun x8 w7 =>
  (
    if a3 = x8 then
      (rLM w7 60 24 a2).bind fun x9 =>
      some x9
    else
      some (0 : Int64)
    ).bind fun x10 =>
  (sLM w7 58 72 (((3 : Int32) * a2) + a3) ((x5 - x6) - x10)).bind fun w11 =>
  zB2 (f_X4_yearSum n (2 : Int32) a2 a3 w11) fun x13 w12 =>
  (rLM w12 58 72 (((3 : Int32) * a2) + a3)).bind fun x14 =>
  (
    if (lg_cmp (x13 + x14) (0 : Int64)) ≤ (0 : Int32) then
      some (0 : Int64)
    else
      some (x13 + x14)
    ).bind fun x15 =>
  if (Int32.toInt64 ((a2 - a2 / (12 : Int32) * (12 : Int32)) + (1 : Int32))) = (0 : Int64) then none else
  zB2 (f_X4_yearly n a3 x4 a2 ((x15 * (12 : Int64)) / (Int32.toInt64 ((a2 - a2 / (12 : Int32) * (12 : Int32)) + (1 : Int32)))) w12) fun x17 w16 =>
  zB2 (f_X4_yearSum n (3 : Int32) a2 a3 w16) fun x19 w18 =>
  (sLM w18 59 72 (((3 : Int32) * a2) + a3) (((x17 * (Int32.toInt64 ((a2 - a2 / (12 : Int32) * (12 : Int32)) + (1 : Int32)))) / (12 : Int64)) - x19)).bind fun w20 =>
  some w20
theorem mt_X4_taxes : zMt yX4_taxes cX4_taxes 12 none 3 := ⟨q2696, q82, ⟨by decide, by decide⟩, by decide +kernel, by decide⟩
set_option maxHeartbeats 4000000 in
theorem k_X4_taxes {l : Launch} {n : Nat} {a1 : Int32} {a2 : Int32} {a3 : Int32} {b : Nat} {u : zWd} {w : zM} (r : Unit) (w9 : zM) (hf : f_X4_taxes n a1 a2 a3 w = some w9) : zCt l yX4_taxes cX4_taxes 12 none 3 [vA (some b), vI a1, vI a2, vI a3] (zIj b u w) (.inr (none, (zIj b u w9))) := by
  refine zCt_of (lv := [some (vA (some b)), some (vI a1), some (vI a2), some (vI a3), none, none, none, none, none, none, none, none]) (by decide +kernel) 8 rfl rfl ?_
  intro X hX hI hN hQ
  have hX : zGd X RX4 cX4_taxes 12 none 3 := hX
  unfold f_X4_taxes at hf
  refine j_iconst (pc := 0) hX (3 : Int32) dX4_taxes_0 rfl ?_
  refine j_iload_n (pc := 1) hX dX4_taxes_1 rfl ?_
  refine j_imul (pc := 2) hX dX4_taxes_2 ?_
  refine j_iload_n (pc := 3) hX dX4_taxes_3 rfl ?_
  refine j_iadd (pc := 4) hX dX4_taxes_4 ?_
  refine j_istore (pc := 5) hX dX4_taxes_5 (by decide) [some (vA (some b)), some (vI a1), some (vI a2), some (vI a3), some (vI (((3 : Int32) * a2) + a3)), none, none, none, none, none, none, none] rfl ?_
  refine j_aload_n (pc := 7) hX dX4_taxes_7 rfl ?_
  refine j_iconst (pc := 8) hX (1 : Int32) dX4_taxes_8 rfl ?_
  refine j_bipush (pc := 9) hX (24 : Int32) dX4_taxes_9 (by decide +kernel) ?_
  refine j_iload_n (pc := 11) hX dX4_taxes_11 rfl ?_
  refine j_imul (pc := 12) hX dX4_taxes_12 ?_
  refine j_iload_n (pc := 13) hX dX4_taxes_13 rfl ?_
  obtain ⟨x2, w1, hc_, hf⟩ := zB2_e hf
  refine j_callV (pc := 14) hX (ci := 3) mt_X4_lastOf q2650 q2652 qs51 (zIj_isC b u _) ⟨_, rfl, rfl⟩ [vI (1 : Int32), vI ((24 : Int32) * a1), vI a2] rfl rfl (Nat.le_of_ble_eq_true rfl) (by decide) dX4_taxes_14 (k_X4_lastOf _ _ hc_) ?_
  refine j_istore (pc := 17) hX dX4_taxes_17 (by decide) [some (vA (some b)), some (vI a1), some (vI a2), some (vI a3), some (vI (((3 : Int32) * a2) + a3)), some (vI x2), none, none, none, none, none, none] rfl ?_
  refine j_iload (pc := 19) hX dX4_taxes_19 rfl ?_
  obtain ⟨x4, hm_, hf⟩ := zob hf
  have kj21 : zJ X 40 [some (vA (some b)), some (vI a1), some (vI a2), some (vI a3), some (vI (((3 : Int32) * a2) + a3)), none, none, none, none, none, none, none] [vI x4] (zIj b u w1) := by
    clear hm_
    refine j_istore (pc := 40) hX dX4_taxes_40 (by decide) [some (vA (some b)), some (vI a1), some (vI a2), some (vI a3), some (vI (((3 : Int32) * a2) + a3)), none, some (vI x4), none, none, none, none, none] rfl ?_
    refine j_iload_n (pc := 42) hX dX4_taxes_42 rfl ?_
    refine j_bipush (pc := 43) hX (12 : Int32) dX4_taxes_43 (by decide +kernel) ?_
    refine j_irem (pc := 45) hX dX4_taxes_45 (by decide) ?_
    refine j_iconst (pc := 46) hX (1 : Int32) dX4_taxes_46 rfl ?_
    refine j_iadd (pc := 47) hX dX4_taxes_47 ?_
    refine j_istore (pc := 48) hX dX4_taxes_48 (by decide) [some (vA (some b)), some (vI a1), some (vI a2), some (vI a3), some (vI (((3 : Int32) * a2) + a3)), none, some (vI x4), some (vI ((a2 - a2 / (12 : Int32) * (12 : Int32)) + (1 : Int32))), none, none, none, none] rfl ?_
    refine j_aload_n (pc := 50) hX dX4_taxes_50 rfl ?_
    refine mg_A (pc := 51) hX 58 (by decide) 48 2 rfl rfl (by decide) q2303 dX4_taxes_51 ?_
    refine j_iload (pc := 54) hX dX4_taxes_54 rfl ?_
    refine j_aload_n (pc := 56) hX dX4_taxes_56 rfl ?_
    refine mg_A (pc := 57) hX 55 (by decide) 45 2 rfl rfl (by decide) q2300 dX4_taxes_57 ?_
    refine j_iload (pc := 60) hX dX4_taxes_60 rfl ?_
    refine mr_L (pc := 62) hX 55 72 45 (by decide) rfl rfl rfl dX4_taxes_62 hf (fun x5 hx_ hf => ?_)
    refine j_aload_n (pc := 63) hX dX4_taxes_63 rfl ?_
    refine mg_A (pc := 64) hX 57 (by decide) 47 2 rfl rfl (by decide) q2302 dX4_taxes_64 ?_
    refine j_iload (pc := 67) hX dX4_taxes_67 rfl ?_
    refine mr_L (pc := 69) hX 57 72 47 (by decide) rfl rfl rfl dX4_taxes_69 hf (fun x6 hx_ hf => ?_)
    refine j_lsub (pc := 70) hX dX4_taxes_70 ?_
    refine j_iload_n (pc := 71) hX dX4_taxes_71 rfl ?_
    refine j_aload_n (pc := 72) hX dX4_taxes_72 rfl ?_
    refine j_iload_n (pc := 73) hX dX4_taxes_73 rfl ?_
    refine j_iload_n (pc := 74) hX dX4_taxes_74 rfl ?_
    obtain ⟨x8, w7, hc_, hf⟩ := zB2_e hf
    refine j_callV (pc := 75) hX (ci := 3) mt_X4_home q2681 q2683 qs57 (zIj_isC b u _) ⟨_, rfl, rfl⟩ [vI a1, vI a2] rfl rfl (Nat.le_of_ble_eq_true rfl) (by decide) dX4_taxes_75 (k_X4_home _ _ hc_) ?_
    obtain ⟨x10, hm_, hf⟩ := zob hf
    have kj78 : zJ X 91 [some (vA (some b)), none, some (vI a2), some (vI a3), some (vI (((3 : Int32) * a2) + a3)), none, some (vI x4), some (vI ((a2 - a2 / (12 : Int32) * (12 : Int32)) + (1 : Int32))), none, none, none, none] [vL x10, vL (x5 - x6), vI (((3 : Int32) * a2) + a3), vA (some (b + 48))] (zIj b u w7) := by
      clear hm_
      refine j_lsub (pc := 91) hX dX4_taxes_91 ?_
      refine ms_L (pc := 92) hX 58 72 48 (by decide) rfl rfl rfl dX4_taxes_92 hf (fun w11 hf => ?_)
      refine j_aload_n (pc := 93) hX dX4_taxes_93 rfl ?_
      refine j_iconst (pc := 94) hX (2 : Int32) dX4_taxes_94 rfl ?_
      refine j_iload_n (pc := 95) hX dX4_taxes_95 rfl ?_
      refine j_iload_n (pc := 96) hX dX4_taxes_96 rfl ?_
      obtain ⟨x13, w12, hc_, hf⟩ := zB2_e hf
      refine j_callV (pc := 97) hX (ci := 3) mt_X4_yearSum q2689 q2691 qs59 (zIj_isC b u _) ⟨_, rfl, rfl⟩ [vI (2 : Int32), vI a2, vI a3] rfl rfl (Nat.le_of_ble_eq_true rfl) (by decide) dX4_taxes_97 (k_X4_yearSum _ _ hc_) ?_
      refine j_aload_n (pc := 100) hX dX4_taxes_100 rfl ?_
      refine mg_A (pc := 101) hX 58 (by decide) 48 2 rfl rfl (by decide) q2303 dX4_taxes_101 ?_
      refine j_iload (pc := 104) hX dX4_taxes_104 rfl ?_
      refine mr_L (pc := 106) hX 58 72 48 (by decide) rfl rfl rfl dX4_taxes_106 hf (fun x14 hx_ hf => ?_)
      refine j_ladd (pc := 107) hX dX4_taxes_107 ?_
      refine j_lstore (pc := 108) hX dX4_taxes_108 (by decide) [some (vA (some b)), none, some (vI a2), some (vI a3), some (vI (((3 : Int32) * a2) + a3)), none, some (vI x4), some (vI ((a2 - a2 / (12 : Int32) * (12 : Int32)) + (1 : Int32))), some (vL (x13 + x14)), none, none, none] rfl ?_
      refine j_aload_n (pc := 110) hX dX4_taxes_110 rfl ?_
      refine j_iload_n (pc := 111) hX dX4_taxes_111 rfl ?_
      refine j_iload (pc := 112) hX dX4_taxes_112 rfl ?_
      refine j_iload_n (pc := 114) hX dX4_taxes_114 rfl ?_
      refine j_lload (pc := 115) hX dX4_taxes_115 rfl ?_
      refine j_lconst (pc := 117) hX (0 : Int64) dX4_taxes_117 rfl ?_
      refine j_lcmp (pc := 118) hX dX4_taxes_118 ?_
      obtain ⟨x15, hm_, hf⟩ := zob hf
      have kj119 : zJ X 128 [some (vA (some b)), none, some (vI a2), some (vI a3), some (vI (((3 : Int32) * a2) + a3)), none, none, some (vI ((a2 - a2 / (12 : Int32) * (12 : Int32)) + (1 : Int32))), none, none, none, none] [vL x15, vI a2, vI x4, vI a3, vA (some b)] (zIj b u w12) := by
        clear hm_
        refine j_ldc2 (pc := 128) hX q2575 dX4_taxes_128 ?_
        refine j_lmul (pc := 131) hX dX4_taxes_131 ?_
        refine j_iload (pc := 132) hX dX4_taxes_132 rfl ?_
        refine j_i2l (pc := 134) hX dX4_taxes_134 ?_
        obtain ⟨hne_, hf⟩ := zGd_e hf
        refine j_ldiv (pc := 135) hX dX4_taxes_135 hne_ ?_
        obtain ⟨x17, w16, hc_, hf⟩ := zB2_e hf
        refine j_callV (pc := 136) hX (ci := 3) mt_X4_yearly q2646 q2648 qs50 (zIj_isC b u _) ⟨_, rfl, rfl⟩ [vI a3, vI x4, vI a2, vL ((x15 * (12 : Int64)) / (Int32.toInt64 ((a2 - a2 / (12 : Int32) * (12 : Int32)) + (1 : Int32))))] rfl rfl (Nat.le_of_ble_eq_true rfl) (by decide) dX4_taxes_136 (k_X4_yearly _ _ hc_) ?_
        refine j_lstore (pc := 139) hX dX4_taxes_139 (by decide) [some (vA (some b)), none, some (vI a2), some (vI a3), some (vI (((3 : Int32) * a2) + a3)), none, none, some (vI ((a2 - a2 / (12 : Int32) * (12 : Int32)) + (1 : Int32))), none, none, some (vL x17), none] rfl ?_
        refine j_aload_n (pc := 141) hX dX4_taxes_141 rfl ?_
        refine mg_A (pc := 142) hX 59 (by decide) 49 2 rfl rfl (by decide) q2304 dX4_taxes_142 ?_
        refine j_iload (pc := 145) hX dX4_taxes_145 rfl ?_
        refine j_lload (pc := 147) hX dX4_taxes_147 rfl ?_
        refine j_iload (pc := 149) hX dX4_taxes_149 rfl ?_
        refine j_i2l (pc := 151) hX dX4_taxes_151 ?_
        refine j_lmul (pc := 152) hX dX4_taxes_152 ?_
        refine j_ldc2 (pc := 153) hX q2575 dX4_taxes_153 ?_
        refine j_ldiv (pc := 156) hX dX4_taxes_156 (by decide) ?_
        refine j_aload_n (pc := 157) hX dX4_taxes_157 rfl ?_
        refine j_iconst (pc := 158) hX (3 : Int32) dX4_taxes_158 rfl ?_
        refine j_iload_n (pc := 159) hX dX4_taxes_159 rfl ?_
        refine j_iload_n (pc := 160) hX dX4_taxes_160 rfl ?_
        obtain ⟨x19, w18, hc_, hf⟩ := zB2_e hf
        refine j_callV (pc := 161) hX (ci := 3) mt_X4_yearSum q2689 q2691 qs59 (zIj_isC b u _) ⟨_, rfl, rfl⟩ [vI (3 : Int32), vI a2, vI a3] rfl rfl (Nat.le_of_ble_eq_true rfl) (by decide) dX4_taxes_161 (k_X4_yearSum _ _ hc_) ?_
        refine j_lsub (pc := 164) hX dX4_taxes_164 ?_
        refine ms_L (pc := 165) hX 59 72 49 (by decide) rfl rfl rfl dX4_taxes_165 hf (fun w20 hf => ?_)
        exact j_return (pc := 166) hX hQ (by cases hf; rfl) dX4_taxes_166
      have hf := hm_
      refine j_if_le (pc := 119) hX 127 dX4_taxes_119 rfl hf (fun h_ hf => ?_) (fun h_ hf => ?_)
      · refine j_lconst (pc := 127) hX (0 : Int64) dX4_taxes_127 rfl ?_
        refine j_fg [6, 8] [some (vA (some b)), none, some (vI a2), some (vI a3), some (vI (((3 : Int32) * a2) + a3)), none, none, some (vI ((a2 - a2 / (12 : Int32) * (12 : Int32)) + (1 : Int32))), none, none, none, none] rfl ?_
        cases hf
        exact kj119
      · refine j_lload (pc := 122) hX dX4_taxes_122 rfl ?_
        refine j_goto (pc := 124) hX 128 dX4_taxes_124 rfl ?_
        refine j_fg [6, 8] [some (vA (some b)), none, some (vI a2), some (vI a3), some (vI (((3 : Int32) * a2) + a3)), none, none, some (vI ((a2 - a2 / (12 : Int32) * (12 : Int32)) + (1 : Int32))), none, none, none, none] rfl ?_
        cases hf
        exact kj119
    have hf := hm_
    refine j_icmp_ne (pc := 78) hX 90 dX4_taxes_78 rfl hf (fun h_ hf => ?_) (fun h_ hf => ?_)
    · refine j_lconst (pc := 90) hX (0 : Int64) dX4_taxes_90 rfl ?_
      refine j_fg [1] [some (vA (some b)), none, some (vI a2), some (vI a3), some (vI (((3 : Int32) * a2) + a3)), none, some (vI x4), some (vI ((a2 - a2 / (12 : Int32) * (12 : Int32)) + (1 : Int32))), none, none, none, none] rfl ?_
      cases hf
      exact kj78
    · refine j_aload_n (pc := 81) hX dX4_taxes_81 rfl ?_
      refine mg_A (pc := 82) hX 60 (by decide) 50 2 rfl rfl (by decide) q2305 dX4_taxes_82 ?_
      refine j_iload_n (pc := 85) hX dX4_taxes_85 rfl ?_
      refine mr_L (pc := 86) hX 60 24 50 (by decide) rfl rfl rfl dX4_taxes_86 hf (fun x9 hx_ hf => ?_)
      refine j_goto (pc := 87) hX 91 dX4_taxes_87 rfl ?_
      refine j_fg [1] [some (vA (some b)), none, some (vI a2), some (vI a3), some (vI (((3 : Int32) * a2) + a3)), none, some (vI x4), some (vI ((a2 - a2 / (12 : Int32) * (12 : Int32)) + (1 : Int32))), none, none, none, none] rfl ?_
      cases hf
      exact kj78
  have hf := hm_
  refine j_if_ge (pc := 21) hX 28 dX4_taxes_21 rfl hf (fun h_ hf => ?_) (fun h_ hf => ?_)
  · refine j_aload_n (pc := 28) hX dX4_taxes_28 rfl ?_
    refine mg_A (pc := 29) hX 36 (by decide) 29 1 rfl rfl (by decide) q2281 dX4_taxes_29 ?_
    refine j_bipush (pc := 32) hX (24 : Int32) dX4_taxes_32 (by decide +kernel) ?_
    refine j_iload_n (pc := 34) hX dX4_taxes_34 rfl ?_
    refine j_imul (pc := 35) hX dX4_taxes_35 ?_
    refine j_iload (pc := 36) hX dX4_taxes_36 rfl ?_
    refine j_iadd (pc := 38) hX dX4_taxes_38 ?_
    refine mr_I (pc := 39) hX 36 144 29 (by decide) rfl rfl rfl dX4_taxes_39 hf (fun x3 hx_ hf => ?_)
    refine j_fg [5] [some (vA (some b)), some (vI a1), some (vI a2), some (vI a3), some (vI (((3 : Int32) * a2) + a3)), none, none, none, none, none, none, none] rfl ?_
    cases hf
    exact kj21
  · refine j_iconst (pc := 24) hX (0 : Int32) dX4_taxes_24 rfl ?_
    refine j_goto (pc := 25) hX 40 dX4_taxes_25 rfl ?_
    refine j_fg [5] [some (vA (some b)), some (vI a1), some (vI a2), some (vI a3), some (vI (((3 : Int32) * a2) + a3)), none, none, none, none, none, none, none] rfl ?_
    cases hf
    exact kj21
def f_X4_garnished_L27b (n : Nat) (c1 : Int32) (c2 : Int32) (c5 : Int32) (rec : Int64 → Int32 → zM → Option (Int64 × zM)) (v3 : Int64) (v6 : Int32) (w : zM) : Option (Int64 × zM) :=
  if (mI w 44) ≤ v6 then
    some (v3, w)
  else
    (rIM w 40 6 v6).bind fun x3 =>
    zB2 (
      if x3 = c5 then
        (rIM w 38 6 v6).bind fun x7 =>
        if x7 = c1 then
          (rIM w 39 6 v6).bind fun x11 =>
          if c2 < x11 then
            (rIM w 40 6 v6).bind fun x12 =>
            if x12 = c5 then
              (rIM w 38 6 v6).bind fun x13 =>
              if x13 = c1 then
                (sLM w 66 144 (((24 : Int32) * v6) + c2) (0 : Int64)).bind fun w14 =>
                some (v3, w14)
              else
                some (v3, w)
            else
              some (v3, w)
          else
            (
              if c2 = (0 : Int32) then
                some (0 : Int64)
              else
                (rLM w 66 144 ((((24 : Int32) * v6) + c2) - (1 : Int32))).bind fun x15 =>
                some x15
              ).bind fun x16 =>
            (rIM w 41 6 v6).bind fun x17 =>
            (rLM w 62 24 c2).bind fun x18 =>
            (rIM w 42 6 v6).bind fun x19 =>
            zB2 (f_X4_down n (x18 * (Int32.toInt64 x19)) (1000 : Int64) w) fun x21 w20 =>
            (
              if (0 : Int32) ≤ (lg_cmp x21 ((Int32.toInt64 x17) - x16)) then
                some ((Int32.toInt64 x17) - x16)
              else
                some x21
              ).bind fun x22 =>
            (rIM w20 43 6 v6).bind fun x23 =>
            (
              if (0 : Int32) ≤ (lg_cmp (v3 - (Int32.toInt64 x23)) x22) then
                some x22
              else
                (rIM w20 43 6 v6).bind fun x24 =>
                some (v3 - (Int32.toInt64 x24))
              ).bind fun x25 =>
            (
              if (lg_cmp x25 (0 : Int64)) ≤ (0 : Int32) then
                some (0 : Int64)
              else
                some x25
              ).bind fun x26 =>
            (rLM w20 63 24 c2).bind fun x27 =>
            (sLM w20 63 24 c2 (x27 + x26)).bind fun w28 =>
            (sLM w28 66 144 (((24 : Int32) * v6) + c2) (x16 + x26)).bind fun w29 =>
            some ((v3 - x26), w29)
        else
          (rIM w 40 6 v6).bind fun x8 =>
          if x8 = c5 then
            (rIM w 38 6 v6).bind fun x9 =>
            if x9 = c1 then
              (sLM w 66 144 (((24 : Int32) * v6) + c2) (0 : Int64)).bind fun w10 =>
              some (v3, w10)
            else
              some (v3, w)
          else
            some (v3, w)
      else
        (rIM w 40 6 v6).bind fun x4 =>
        if x4 = c5 then
          (rIM w 38 6 v6).bind fun x5 =>
          if x5 = c1 then
            (sLM w 66 144 (((24 : Int32) * v6) + c2) (0 : Int64)).bind fun w6 =>
            some (v3, w6)
          else
            some (v3, w)
        else
          some (v3, w)
      ) fun x30 w31 =>
    rec x30 (v6 + (1)) w31
def f_X4_garnished_L27 (n : Nat) (c1 : Int32) (c2 : Int32) (c5 : Int32) : Nat → Int64 → Int32 → zM → Option (Int64 × zM)
  | 0, _, _, _ => none
  | k + 1, v3, v6, w => f_X4_garnished_L27b n c1 c2 c5 (f_X4_garnished_L27 n c1 c2 c5 k) v3 v6 w
def f_X4_garnished_L17b (n : Nat) (c1 : Int32) (c2 : Int32) (rec : Int64 → Int32 → zM → Option (Int64 × zM)) (v3 : Int64) (v5 : Int32) (w : zM) : Option (Int64 × zM) :=
  if (10 : Int32) ≤ v5 then
    some (v3, w)
  else
    zB2 (f_X4_garnished_L27 n c1 c2 v5 n v3 (0 : Int32) w) fun x32 w33 =>
    rec x32 (v5 + (1)) w33
def f_X4_garnished_L17 (n : Nat) (c1 : Int32) (c2 : Int32) : Nat → Int64 → Int32 → zM → Option (Int64 × zM)
  | 0, _, _, _ => none
  | k + 1, v3, v5, w => f_X4_garnished_L17b n c1 c2 (f_X4_garnished_L17 n c1 c2 k) v3 v5 w
def f_X4_garnished (n : Nat) (a1 : Int32) (a2 : Int32) (w : zM) : Option zM :=
  (rLM w 62 24 a2).bind fun x1 =>
  (sLM w 63 24 a2 (0 : Int64)).bind fun w2 =>
  zB2 (f_X4_garnished_L17 n a1 a2 n x1 (0 : Int32) w2) fun x34 w35 =>
  (sLM w35 64 24 a2 x34).bind fun w36 =>
  some w36
theorem mt_X4_garnished : zMt yX4_garnished cX4_garnished 13 none 2 := ⟨q2700, q82, ⟨by decide, by decide⟩, by decide +kernel, by decide⟩
set_option maxHeartbeats 4000000 in
theorem lp_X4_garnished_L27 {X : zX} {b : Nat} {u : zWd} (hX : zGd X RX4 cX4_garnished 13 none 2) (n : Nat) (c1 : Int32) (c2 : Int32) (c5 : Int32) : ∀ (k : Nat) (v3 : Int64) (v6 : Int32) (w : zM) (o3 : Int64) (w9 : zM) , f_X4_garnished_L27 n c1 c2 c5 k v3 v6 w = some (o3, w9) → zJ X 274 [some (vA (some b)), some (vI c1), some (vI c2), some (vL o3), none, some (vI c5), none, none, none, none, none, none, none] [] (zIj b u w9) → zJ X 27 [some (vA (some b)), some (vI c1), some (vI c2), some (vL v3), none, some (vI c5), some (vI v6), none, none, none, none, none, none] [] (zIj b u w) := by
  intro k
  induction k with
  | zero => intro v3 v6 w o3 w9 hf _; exact nomatch (show (none : Option (Int64 × zM)) = _ from hf)
  | succ k ih =>
    intro v3 v6 w o3 w9 hf kx
    have hf : f_X4_garnished_L27b n c1 c2 c5 (f_X4_garnished_L27 n c1 c2 c5 k) v3 v6 w = _ := hf
    unfold f_X4_garnished_L27b at hf
    refine j_iload (pc := 27) hX dX4_garnished_27 rfl ?_
    refine j_aload_n (pc := 29) hX dX4_garnished_29 rfl ?_
    refine mg_I (pc := 30) hX 44 (by decide) rfl q2289 dX4_garnished_30 ?_
    refine j_icmp_ge (pc := 33) hX 274 dX4_garnished_33 rfl hf (fun h_ hf => ?_) (fun h_ hf => ?_)
    · refine j_fg [6] [some (vA (some b)), some (vI c1), some (vI c2), some (vL v3), none, some (vI c5), none, none, none, none, none, none, none] rfl ?_
      cases hf
      exact kx
    · refine j_aload_n (pc := 36) hX dX4_garnished_36 rfl ?_
      refine mg_A (pc := 37) hX 40 (by decide) 33 1 rfl rfl (by decide) q2285 dX4_garnished_37 ?_
      refine j_iload (pc := 40) hX dX4_garnished_40 rfl ?_
      refine mr_I (pc := 42) hX 40 6 33 (by decide) rfl rfl rfl dX4_garnished_42 hf (fun x3 hx_ hf => ?_)
      refine j_iload (pc := 43) hX dX4_garnished_43 rfl ?_
      obtain ⟨x30, w31, hm_, hf⟩ := zB2_e hf
      have kj45 : zJ X 268 [some (vA (some b)), some (vI c1), some (vI c2), some (vL x30), none, some (vI c5), some (vI v6), none, none, none, none, none, none] [] (zIj b u w31) := by
        clear hm_
        refine j_iinc (pc := 268) hX (1) dX4_garnished_268 rfl rfl (by decide) [some (vA (some b)), some (vI c1), some (vI c2), some (vL x30), none, some (vI c5), some (vI (v6 + (1))), none, none, none, none, none, none] rfl ?_
        refine j_goto (pc := 271) hX 27 dX4_garnished_271 rfl ?_
        exact ih _ _ _ _ _ hf kx
      have hf := hm_
      refine j_icmp_ne (pc := 45) hX 232 dX4_garnished_45 rfl hf (fun h_ hf => ?_) (fun h_ hf => ?_)
      · refine j_aload_n (pc := 232) hX dX4_garnished_232 rfl ?_
        refine mg_A (pc := 233) hX 40 (by decide) 33 1 rfl rfl (by decide) q2285 dX4_garnished_233 ?_
        refine j_iload (pc := 236) hX dX4_garnished_236 rfl ?_
        refine mr_I (pc := 238) hX 40 6 33 (by decide) rfl rfl rfl dX4_garnished_238 hf (fun x4 hx_ hf => ?_)
        refine j_iload (pc := 239) hX dX4_garnished_239 rfl ?_
        refine j_icmp_ne (pc := 241) hX 268 dX4_garnished_241 rfl hf (fun h_ hf => ?_) (fun h_ hf => ?_)
        · cases hf
          exact kj45
        · refine j_aload_n (pc := 244) hX dX4_garnished_244 rfl ?_
          refine mg_A (pc := 245) hX 38 (by decide) 31 1 rfl rfl (by decide) q2283 dX4_garnished_245 ?_
          refine j_iload (pc := 248) hX dX4_garnished_248 rfl ?_
          refine mr_I (pc := 250) hX 38 6 31 (by decide) rfl rfl rfl dX4_garnished_250 hf (fun x5 hx_ hf => ?_)
          refine j_iload_n (pc := 251) hX dX4_garnished_251 rfl ?_
          refine j_icmp_ne (pc := 252) hX 268 dX4_garnished_252 rfl hf (fun h_ hf => ?_) (fun h_ hf => ?_)
          · cases hf
            exact kj45
          · refine j_aload_n (pc := 255) hX dX4_garnished_255 rfl ?_
            refine mg_A (pc := 256) hX 66 (by decide) 56 2 rfl rfl (by decide) q2311 dX4_garnished_256 ?_
            refine j_bipush (pc := 259) hX (24 : Int32) dX4_garnished_259 (by decide +kernel) ?_
            refine j_iload (pc := 261) hX dX4_garnished_261 rfl ?_
            refine j_imul (pc := 263) hX dX4_garnished_263 ?_
            refine j_iload_n (pc := 264) hX dX4_garnished_264 rfl ?_
            refine j_iadd (pc := 265) hX dX4_garnished_265 ?_
            refine j_lconst (pc := 266) hX (0 : Int64) dX4_garnished_266 rfl ?_
            refine ms_L (pc := 267) hX 66 144 56 (by decide) rfl rfl rfl dX4_garnished_267 hf (fun w6 hf => ?_)
            cases hf
            exact kj45
      · refine j_aload_n (pc := 48) hX dX4_garnished_48 rfl ?_
        refine mg_A (pc := 49) hX 38 (by decide) 31 1 rfl rfl (by decide) q2283 dX4_garnished_49 ?_
        refine j_iload (pc := 52) hX dX4_garnished_52 rfl ?_
        refine mr_I (pc := 54) hX 38 6 31 (by decide) rfl rfl rfl dX4_garnished_54 hf (fun x7 hx_ hf => ?_)
        refine j_iload_n (pc := 55) hX dX4_garnished_55 rfl ?_
        refine j_icmp_ne (pc := 56) hX 232 dX4_garnished_56 rfl hf (fun h_ hf => ?_) (fun h_ hf => ?_)
        · refine j_aload_n (pc := 232) hX dX4_garnished_232 rfl ?_
          refine mg_A (pc := 233) hX 40 (by decide) 33 1 rfl rfl (by decide) q2285 dX4_garnished_233 ?_
          refine j_iload (pc := 236) hX dX4_garnished_236 rfl ?_
          refine mr_I (pc := 238) hX 40 6 33 (by decide) rfl rfl rfl dX4_garnished_238 hf (fun x8 hx_ hf => ?_)
          refine j_iload (pc := 239) hX dX4_garnished_239 rfl ?_
          refine j_icmp_ne (pc := 241) hX 268 dX4_garnished_241 rfl hf (fun h_ hf => ?_) (fun h_ hf => ?_)
          · cases hf
            exact kj45
          · refine j_aload_n (pc := 244) hX dX4_garnished_244 rfl ?_
            refine mg_A (pc := 245) hX 38 (by decide) 31 1 rfl rfl (by decide) q2283 dX4_garnished_245 ?_
            refine j_iload (pc := 248) hX dX4_garnished_248 rfl ?_
            refine mr_I (pc := 250) hX 38 6 31 (by decide) rfl rfl rfl dX4_garnished_250 hf (fun x9 hx_ hf => ?_)
            refine j_iload_n (pc := 251) hX dX4_garnished_251 rfl ?_
            refine j_icmp_ne (pc := 252) hX 268 dX4_garnished_252 rfl hf (fun h_ hf => ?_) (fun h_ hf => ?_)
            · cases hf
              exact kj45
            · refine j_aload_n (pc := 255) hX dX4_garnished_255 rfl ?_
              refine mg_A (pc := 256) hX 66 (by decide) 56 2 rfl rfl (by decide) q2311 dX4_garnished_256 ?_
              refine j_bipush (pc := 259) hX (24 : Int32) dX4_garnished_259 (by decide +kernel) ?_
              refine j_iload (pc := 261) hX dX4_garnished_261 rfl ?_
              refine j_imul (pc := 263) hX dX4_garnished_263 ?_
              refine j_iload_n (pc := 264) hX dX4_garnished_264 rfl ?_
              refine j_iadd (pc := 265) hX dX4_garnished_265 ?_
              refine j_lconst (pc := 266) hX (0 : Int64) dX4_garnished_266 rfl ?_
              refine ms_L (pc := 267) hX 66 144 56 (by decide) rfl rfl rfl dX4_garnished_267 hf (fun w10 hf => ?_)
              cases hf
              exact kj45
        · refine j_aload_n (pc := 59) hX dX4_garnished_59 rfl ?_
          refine mg_A (pc := 60) hX 39 (by decide) 32 1 rfl rfl (by decide) q2284 dX4_garnished_60 ?_
          refine j_iload (pc := 63) hX dX4_garnished_63 rfl ?_
          refine mr_I (pc := 65) hX 39 6 32 (by decide) rfl rfl rfl dX4_garnished_65 hf (fun x11 hx_ hf => ?_)
          refine j_iload_n (pc := 66) hX dX4_garnished_66 rfl ?_
          refine j_icmp_gt (pc := 67) hX 232 dX4_garnished_67 rfl hf (fun h_ hf => ?_) (fun h_ hf => ?_)
          · refine j_aload_n (pc := 232) hX dX4_garnished_232 rfl ?_
            refine mg_A (pc := 233) hX 40 (by decide) 33 1 rfl rfl (by decide) q2285 dX4_garnished_233 ?_
            refine j_iload (pc := 236) hX dX4_garnished_236 rfl ?_
            refine mr_I (pc := 238) hX 40 6 33 (by decide) rfl rfl rfl dX4_garnished_238 hf (fun x12 hx_ hf => ?_)
            refine j_iload (pc := 239) hX dX4_garnished_239 rfl ?_
            refine j_icmp_ne (pc := 241) hX 268 dX4_garnished_241 rfl hf (fun h_ hf => ?_) (fun h_ hf => ?_)
            · cases hf
              exact kj45
            · refine j_aload_n (pc := 244) hX dX4_garnished_244 rfl ?_
              refine mg_A (pc := 245) hX 38 (by decide) 31 1 rfl rfl (by decide) q2283 dX4_garnished_245 ?_
              refine j_iload (pc := 248) hX dX4_garnished_248 rfl ?_
              refine mr_I (pc := 250) hX 38 6 31 (by decide) rfl rfl rfl dX4_garnished_250 hf (fun x13 hx_ hf => ?_)
              refine j_iload_n (pc := 251) hX dX4_garnished_251 rfl ?_
              refine j_icmp_ne (pc := 252) hX 268 dX4_garnished_252 rfl hf (fun h_ hf => ?_) (fun h_ hf => ?_)
              · cases hf
                exact kj45
              · refine j_aload_n (pc := 255) hX dX4_garnished_255 rfl ?_
                refine mg_A (pc := 256) hX 66 (by decide) 56 2 rfl rfl (by decide) q2311 dX4_garnished_256 ?_
                refine j_bipush (pc := 259) hX (24 : Int32) dX4_garnished_259 (by decide +kernel) ?_
                refine j_iload (pc := 261) hX dX4_garnished_261 rfl ?_
                refine j_imul (pc := 263) hX dX4_garnished_263 ?_
                refine j_iload_n (pc := 264) hX dX4_garnished_264 rfl ?_
                refine j_iadd (pc := 265) hX dX4_garnished_265 ?_
                refine j_lconst (pc := 266) hX (0 : Int64) dX4_garnished_266 rfl ?_
                refine ms_L (pc := 267) hX 66 144 56 (by decide) rfl rfl rfl dX4_garnished_267 hf (fun w14 hf => ?_)
                cases hf
                exact kj45
          · refine j_iload_n (pc := 70) hX dX4_garnished_70 rfl ?_
            obtain ⟨x16, hm_, hf⟩ := zob hf
            have kj71 : zJ X 92 [some (vA (some b)), some (vI c1), some (vI c2), some (vL v3), none, some (vI c5), some (vI v6), none, none, none, none, none, none] [vL x16] (zIj b u w) := by
              clear hm_
              refine j_lstore (pc := 92) hX dX4_garnished_92 (by decide) [some (vA (some b)), some (vI c1), some (vI c2), some (vL v3), none, some (vI c5), some (vI v6), some (vL x16), none, none, none, none, none] rfl ?_
              refine j_aload_n (pc := 94) hX dX4_garnished_94 rfl ?_
              refine mg_A (pc := 95) hX 41 (by decide) 34 1 rfl rfl (by decide) q2286 dX4_garnished_95 ?_
              refine j_iload (pc := 98) hX dX4_garnished_98 rfl ?_
              refine mr_I (pc := 100) hX 41 6 34 (by decide) rfl rfl rfl dX4_garnished_100 hf (fun x17 hx_ hf => ?_)
              refine j_i2l (pc := 101) hX dX4_garnished_101 ?_
              refine j_lload (pc := 102) hX dX4_garnished_102 rfl ?_
              refine j_lsub (pc := 104) hX dX4_garnished_104 ?_
              refine j_lstore (pc := 105) hX dX4_garnished_105 (by decide) [some (vA (some b)), some (vI c1), some (vI c2), some (vL v3), none, some (vI c5), some (vI v6), some (vL x16), none, some (vL ((Int32.toInt64 x17) - x16)), none, none, none] rfl ?_
              refine j_aload_n (pc := 107) hX dX4_garnished_107 rfl ?_
              refine j_aload_n (pc := 108) hX dX4_garnished_108 rfl ?_
              refine mg_A (pc := 109) hX 62 (by decide) 52 2 rfl rfl (by decide) q2307 dX4_garnished_109 ?_
              refine j_iload_n (pc := 112) hX dX4_garnished_112 rfl ?_
              refine mr_L (pc := 113) hX 62 24 52 (by decide) rfl rfl rfl dX4_garnished_113 hf (fun x18 hx_ hf => ?_)
              refine j_aload_n (pc := 114) hX dX4_garnished_114 rfl ?_
              refine mg_A (pc := 115) hX 42 (by decide) 35 1 rfl rfl (by decide) q2287 dX4_garnished_115 ?_
              refine j_iload (pc := 118) hX dX4_garnished_118 rfl ?_
              refine mr_I (pc := 120) hX 42 6 35 (by decide) rfl rfl rfl dX4_garnished_120 hf (fun x19 hx_ hf => ?_)
              refine j_i2l (pc := 121) hX dX4_garnished_121 ?_
              refine j_lmul (pc := 122) hX dX4_garnished_122 ?_
              refine j_ldc2 (pc := 123) hX q2654 dX4_garnished_123 ?_
              obtain ⟨x21, w20, hc_, hf⟩ := zB2_e hf
              refine j_callV (pc := 126) hX (ci := 3) mt_X4_down q2560 q2562 qs44 (zIj_isC b u _) ⟨_, rfl, rfl⟩ [vL (x18 * (Int32.toInt64 x19)), vL (1000 : Int64)] rfl rfl (Nat.le_of_ble_eq_true rfl) (by decide) dX4_garnished_126 (k_X4_down _ _ hc_) ?_
              refine j_lstore (pc := 129) hX dX4_garnished_129 (by decide) [some (vA (some b)), some (vI c1), some (vI c2), some (vL v3), none, some (vI c5), some (vI v6), some (vL x16), none, some (vL ((Int32.toInt64 x17) - x16)), none, some (vL x21), none] rfl ?_
              refine j_lload (pc := 131) hX dX4_garnished_131 rfl ?_
              refine j_lload (pc := 133) hX dX4_garnished_133 rfl ?_
              refine j_lcmp (pc := 135) hX dX4_garnished_135 ?_
              obtain ⟨x22, hm_, hf⟩ := zob hf
              have kj136 : zJ X 146 [some (vA (some b)), some (vI c1), some (vI c2), some (vL v3), none, some (vI c5), some (vI v6), some (vL x16), none, none, none, none, none] [vL x22] (zIj b u w20) := by
                clear hm_
                refine j_lstore (pc := 146) hX dX4_garnished_146 (by decide) [some (vA (some b)), some (vI c1), some (vI c2), some (vL v3), none, some (vI c5), some (vI v6), some (vL x16), none, some (vL x22), none, none, none] rfl ?_
                refine j_lload_n (pc := 148) hX dX4_garnished_148 rfl ?_
                refine j_aload_n (pc := 149) hX dX4_garnished_149 rfl ?_
                refine mg_A (pc := 150) hX 43 (by decide) 36 1 rfl rfl (by decide) q2288 dX4_garnished_150 ?_
                refine j_iload (pc := 153) hX dX4_garnished_153 rfl ?_
                refine mr_I (pc := 155) hX 43 6 36 (by decide) rfl rfl rfl dX4_garnished_155 hf (fun x23 hx_ hf => ?_)
                refine j_i2l (pc := 156) hX dX4_garnished_156 ?_
                refine j_lsub (pc := 157) hX dX4_garnished_157 ?_
                refine j_lload (pc := 158) hX dX4_garnished_158 rfl ?_
                refine j_lcmp (pc := 160) hX dX4_garnished_160 ?_
                obtain ⟨x25, hm_, hf⟩ := zob hf
                have kj161 : zJ X 179 [some (vA (some b)), some (vI c1), some (vI c2), some (vL v3), none, some (vI c5), some (vI v6), some (vL x16), none, none, none, none, none] [vL x25] (zIj b u w20) := by
                  clear hm_
                  refine j_lstore (pc := 179) hX dX4_garnished_179 (by decide) [some (vA (some b)), some (vI c1), some (vI c2), some (vL v3), none, some (vI c5), some (vI v6), some (vL x16), none, some (vL x25), none, none, none] rfl ?_
                  refine j_lload (pc := 181) hX dX4_garnished_181 rfl ?_
                  refine j_lconst (pc := 183) hX (0 : Int64) dX4_garnished_183 rfl ?_
                  refine j_lcmp (pc := 184) hX dX4_garnished_184 ?_
                  obtain ⟨x26, hm_, hf⟩ := zob hf
                  have kj185 : zJ X 194 [some (vA (some b)), some (vI c1), some (vI c2), some (vL v3), none, some (vI c5), some (vI v6), some (vL x16), none, none, none, none, none] [vL x26] (zIj b u w20) := by
                    clear hm_
                    refine j_lstore (pc := 194) hX dX4_garnished_194 (by decide) [some (vA (some b)), some (vI c1), some (vI c2), some (vL v3), none, some (vI c5), some (vI v6), some (vL x16), none, some (vL x26), none, none, none] rfl ?_
                    refine j_lload_n (pc := 196) hX dX4_garnished_196 rfl ?_
                    refine j_lload (pc := 197) hX dX4_garnished_197 rfl ?_
                    refine j_lsub (pc := 199) hX dX4_garnished_199 ?_
                    refine j_lstore_n (pc := 200) hX dX4_garnished_200 (by decide) [some (vA (some b)), some (vI c1), some (vI c2), some (vL (v3 - x26)), none, some (vI c5), some (vI v6), some (vL x16), none, some (vL x26), none, none, none] rfl ?_
                    refine j_aload_n (pc := 201) hX dX4_garnished_201 rfl ?_
                    refine mg_A (pc := 202) hX 63 (by decide) 53 2 rfl rfl (by decide) q2308 dX4_garnished_202 ?_
                    refine j_iload_n (pc := 205) hX dX4_garnished_205 rfl ?_
                    refine j_dup2 (pc := 206) hX rfl rfl dX4_garnished_206 ?_
                    refine mr_L (pc := 207) hX 63 24 53 (by decide) rfl rfl rfl dX4_garnished_207 hf (fun x27 hx_ hf => ?_)
                    refine j_lload (pc := 208) hX dX4_garnished_208 rfl ?_
                    refine j_ladd (pc := 210) hX dX4_garnished_210 ?_
                    refine ms_L (pc := 211) hX 63 24 53 (by decide) rfl rfl rfl dX4_garnished_211 hf (fun w28 hf => ?_)
                    refine j_aload_n (pc := 212) hX dX4_garnished_212 rfl ?_
                    refine mg_A (pc := 213) hX 66 (by decide) 56 2 rfl rfl (by decide) q2311 dX4_garnished_213 ?_
                    refine j_bipush (pc := 216) hX (24 : Int32) dX4_garnished_216 (by decide +kernel) ?_
                    refine j_iload (pc := 218) hX dX4_garnished_218 rfl ?_
                    refine j_imul (pc := 220) hX dX4_garnished_220 ?_
                    refine j_iload_n (pc := 221) hX dX4_garnished_221 rfl ?_
                    refine j_iadd (pc := 222) hX dX4_garnished_222 ?_
                    refine j_lload (pc := 223) hX dX4_garnished_223 rfl ?_
                    refine j_lload (pc := 225) hX dX4_garnished_225 rfl ?_
                    refine j_ladd (pc := 227) hX dX4_garnished_227 ?_
                    refine ms_L (pc := 228) hX 66 144 56 (by decide) rfl rfl rfl dX4_garnished_228 hf (fun w29 hf => ?_)
                    refine j_goto (pc := 229) hX 268 dX4_garnished_229 rfl ?_
                    refine j_fg [7, 9] [some (vA (some b)), some (vI c1), some (vI c2), some (vL (v3 - x26)), none, some (vI c5), some (vI v6), none, none, none, none, none, none] rfl ?_
                    cases hf
                    exact kj45
                  have hf := hm_
                  refine j_if_le (pc := 185) hX 193 dX4_garnished_185 rfl hf (fun h_ hf => ?_) (fun h_ hf => ?_)
                  · refine j_lconst (pc := 193) hX (0 : Int64) dX4_garnished_193 rfl ?_
                    refine j_fg [9] [some (vA (some b)), some (vI c1), some (vI c2), some (vL v3), none, some (vI c5), some (vI v6), some (vL x16), none, none, none, none, none] rfl ?_
                    cases hf
                    exact kj185
                  · refine j_lload (pc := 188) hX dX4_garnished_188 rfl ?_
                    refine j_goto (pc := 190) hX 194 dX4_garnished_190 rfl ?_
                    refine j_fg [9] [some (vA (some b)), some (vI c1), some (vI c2), some (vL v3), none, some (vI c5), some (vI v6), some (vL x16), none, none, none, none, none] rfl ?_
                    cases hf
                    exact kj185
                have hf := hm_
                refine j_if_ge (pc := 161) hX 177 dX4_garnished_161 rfl hf (fun h_ hf => ?_) (fun h_ hf => ?_)
                · refine j_lload (pc := 177) hX dX4_garnished_177 rfl ?_
                  refine j_fg [9] [some (vA (some b)), some (vI c1), some (vI c2), some (vL v3), none, some (vI c5), some (vI v6), some (vL x16), none, none, none, none, none] rfl ?_
                  cases hf
                  exact kj161
                · refine j_lload_n (pc := 164) hX dX4_garnished_164 rfl ?_
                  refine j_aload_n (pc := 165) hX dX4_garnished_165 rfl ?_
                  refine mg_A (pc := 166) hX 43 (by decide) 36 1 rfl rfl (by decide) q2288 dX4_garnished_166 ?_
                  refine j_iload (pc := 169) hX dX4_garnished_169 rfl ?_
                  refine mr_I (pc := 171) hX 43 6 36 (by decide) rfl rfl rfl dX4_garnished_171 hf (fun x24 hx_ hf => ?_)
                  refine j_i2l (pc := 172) hX dX4_garnished_172 ?_
                  refine j_lsub (pc := 173) hX dX4_garnished_173 ?_
                  refine j_goto (pc := 174) hX 179 dX4_garnished_174 rfl ?_
                  refine j_fg [9] [some (vA (some b)), some (vI c1), some (vI c2), some (vL v3), none, some (vI c5), some (vI v6), some (vL x16), none, none, none, none, none] rfl ?_
                  cases hf
                  exact kj161
              have hf := hm_
              refine j_if_ge (pc := 136) hX 144 dX4_garnished_136 rfl hf (fun h_ hf => ?_) (fun h_ hf => ?_)
              · refine j_lload (pc := 144) hX dX4_garnished_144 rfl ?_
                refine j_fg [9, 11] [some (vA (some b)), some (vI c1), some (vI c2), some (vL v3), none, some (vI c5), some (vI v6), some (vL x16), none, none, none, none, none] rfl ?_
                cases hf
                exact kj136
              · refine j_lload (pc := 139) hX dX4_garnished_139 rfl ?_
                refine j_goto (pc := 141) hX 146 dX4_garnished_141 rfl ?_
                refine j_fg [9, 11] [some (vA (some b)), some (vI c1), some (vI c2), some (vL v3), none, some (vI c5), some (vI v6), some (vL x16), none, none, none, none, none] rfl ?_
                cases hf
                exact kj136
            have hf := hm_
            refine j_if_ne (pc := 71) hX 78 dX4_garnished_71 rfl hf (fun h_ hf => ?_) (fun h_ hf => ?_)
            · refine j_aload_n (pc := 78) hX dX4_garnished_78 rfl ?_
              refine mg_A (pc := 79) hX 66 (by decide) 56 2 rfl rfl (by decide) q2311 dX4_garnished_79 ?_
              refine j_bipush (pc := 82) hX (24 : Int32) dX4_garnished_82 (by decide +kernel) ?_
              refine j_iload (pc := 84) hX dX4_garnished_84 rfl ?_
              refine j_imul (pc := 86) hX dX4_garnished_86 ?_
              refine j_iload_n (pc := 87) hX dX4_garnished_87 rfl ?_
              refine j_iadd (pc := 88) hX dX4_garnished_88 ?_
              refine j_iconst (pc := 89) hX (1 : Int32) dX4_garnished_89 rfl ?_
              refine j_isub (pc := 90) hX dX4_garnished_90 ?_
              refine mr_L (pc := 91) hX 66 144 56 (by decide) rfl rfl rfl dX4_garnished_91 hf (fun x15 hx_ hf => ?_)
              cases hf
              exact kj71
            · refine j_lconst (pc := 74) hX (0 : Int64) dX4_garnished_74 rfl ?_
              refine j_goto (pc := 75) hX 92 dX4_garnished_75 rfl ?_
              cases hf
              exact kj71
set_option maxHeartbeats 4000000 in
theorem lp_X4_garnished_L17 {X : zX} {b : Nat} {u : zWd} (hX : zGd X RX4 cX4_garnished 13 none 2) (n : Nat) (c1 : Int32) (c2 : Int32) : ∀ (k : Nat) (v3 : Int64) (v5 : Int32) (w : zM) (o3 : Int64) (w9 : zM) , f_X4_garnished_L17 n c1 c2 k v3 v5 w = some (o3, w9) → zJ X 280 [some (vA (some b)), some (vI c1), some (vI c2), some (vL o3), none, none, none, none, none, none, none, none, none] [] (zIj b u w9) → zJ X 17 [some (vA (some b)), some (vI c1), some (vI c2), some (vL v3), none, some (vI v5), none, none, none, none, none, none, none] [] (zIj b u w) := by
  intro k
  induction k with
  | zero => intro v3 v5 w o3 w9 hf _; exact nomatch (show (none : Option (Int64 × zM)) = _ from hf)
  | succ k ih =>
    intro v3 v5 w o3 w9 hf kx
    have hf : f_X4_garnished_L17b n c1 c2 (f_X4_garnished_L17 n c1 c2 k) v3 v5 w = _ := hf
    unfold f_X4_garnished_L17b at hf
    refine j_iload (pc := 17) hX dX4_garnished_17 rfl ?_
    refine j_bipush (pc := 19) hX (10 : Int32) dX4_garnished_19 (by decide +kernel) ?_
    refine j_icmp_ge (pc := 21) hX 280 dX4_garnished_21 rfl hf (fun h_ hf => ?_) (fun h_ hf => ?_)
    · refine j_fg [5] [some (vA (some b)), some (vI c1), some (vI c2), some (vL v3), none, none, none, none, none, none, none, none, none] rfl ?_
      cases hf
      exact kx
    · refine j_iconst (pc := 24) hX (0 : Int32) dX4_garnished_24 rfl ?_
      refine j_istore (pc := 25) hX dX4_garnished_25 (by decide) [some (vA (some b)), some (vI c1), some (vI c2), some (vL v3), none, some (vI v5), some (vI (0 : Int32)), none, none, none, none, none, none] rfl ?_
      obtain ⟨x32, w33, hm_, hf⟩ := zB2_e hf
      refine lp_X4_garnished_L27 hX n _ _ _ _ _ _ _ _ _ hm_ ?_
      refine j_iinc (pc := 274) hX (1) dX4_garnished_274 rfl rfl (by decide) [some (vA (some b)), some (vI c1), some (vI c2), some (vL x32), none, some (vI (v5 + (1))), none, none, none, none, none, none, none] rfl ?_
      refine j_goto (pc := 277) hX 17 dX4_garnished_277 rfl ?_
      exact ih _ _ _ _ _ hf kx
set_option maxHeartbeats 4000000 in
theorem k_X4_garnished {l : Launch} {n : Nat} {a1 : Int32} {a2 : Int32} {b : Nat} {u : zWd} {w : zM} (r : Unit) (w9 : zM) (hf : f_X4_garnished n a1 a2 w = some w9) : zCt l yX4_garnished cX4_garnished 13 none 2 [vA (some b), vI a1, vI a2] (zIj b u w) (.inr (none, (zIj b u w9))) := by
  refine zCt_of (lv := [some (vA (some b)), some (vI a1), some (vI a2), none, none, none, none, none, none, none, none, none, none]) (by decide +kernel) 10 rfl rfl ?_
  intro X hX hI hN hQ
  have hX : zGd X RX4 cX4_garnished 13 none 2 := hX
  unfold f_X4_garnished at hf
  refine j_aload_n (pc := 0) hX dX4_garnished_0 rfl ?_
  refine mg_A (pc := 1) hX 62 (by decide) 52 2 rfl rfl (by decide) q2307 dX4_garnished_1 ?_
  refine j_iload_n (pc := 4) hX dX4_garnished_4 rfl ?_
  refine mr_L (pc := 5) hX 62 24 52 (by decide) rfl rfl rfl dX4_garnished_5 hf (fun x1 hx_ hf => ?_)
  refine j_lstore_n (pc := 6) hX dX4_garnished_6 (by decide) [some (vA (some b)), some (vI a1), some (vI a2), some (vL x1), none, none, none, none, none, none, none, none, none] rfl ?_
  refine j_aload_n (pc := 7) hX dX4_garnished_7 rfl ?_
  refine mg_A (pc := 8) hX 63 (by decide) 53 2 rfl rfl (by decide) q2308 dX4_garnished_8 ?_
  refine j_iload_n (pc := 11) hX dX4_garnished_11 rfl ?_
  refine j_lconst (pc := 12) hX (0 : Int64) dX4_garnished_12 rfl ?_
  refine ms_L (pc := 13) hX 63 24 53 (by decide) rfl rfl rfl dX4_garnished_13 hf (fun w2 hf => ?_)
  refine j_iconst (pc := 14) hX (0 : Int32) dX4_garnished_14 rfl ?_
  refine j_istore (pc := 15) hX dX4_garnished_15 (by decide) [some (vA (some b)), some (vI a1), some (vI a2), some (vL x1), none, some (vI (0 : Int32)), none, none, none, none, none, none, none] rfl ?_
  obtain ⟨x34, w35, hm_, hf⟩ := zB2_e hf
  refine lp_X4_garnished_L17 hX n _ _ _ _ _ _ _ _ hm_ ?_
  refine j_aload_n (pc := 280) hX dX4_garnished_280 rfl ?_
  refine mg_A (pc := 281) hX 64 (by decide) 54 2 rfl rfl (by decide) q2309 dX4_garnished_281 ?_
  refine j_iload_n (pc := 284) hX dX4_garnished_284 rfl ?_
  refine j_lload_n (pc := 285) hX dX4_garnished_285 rfl ?_
  refine ms_L (pc := 286) hX 64 24 54 (by decide) rfl rfl rfl dX4_garnished_286 hf (fun w36 hf => ?_)
  exact j_return (pc := 287) hX hQ (by cases hf; rfl) dX4_garnished_287
def f_X4_slips_L192b (n : Nat) (c1 : Int32) (c2 : Int64) (c4 : Int32) (rec : Int32 → zM → Option (zM)) (v9 : Int32) (w : zM) : Option (zM) :=
  if (3 : Int32) ≤ v9 then
    some w
  else
    (f_X4_contribute n c4 v9 w).bind fun w23 =>
    (f_X4_taxes n c1 c4 v9 w23).bind fun w24 =>
    (rLM w24 62 24 c4).bind fun x25 =>
    (rLM w24 57 72 (((3 : Int32) * c4) + v9)).bind fun x26 =>
    (rLM w24 59 72 (((3 : Int32) * c4) + v9)).bind fun x27 =>
    (sLM w24 62 24 c4 (x25 - (x26 + x27))).bind fun w28 =>
    rec (v9 + (1)) w28
def f_X4_slips_L192 (n : Nat) (c1 : Int32) (c2 : Int64) (c4 : Int32) : Nat → Int32 → zM → Option (zM)
  | 0, _, _ => none
  | k + 1, v9, w => f_X4_slips_L192b n c1 c2 c4 (f_X4_slips_L192 n c1 c2 c4 k) v9 w
def f_X4_slips_L13b (n : Nat) (c1 : Int32) (rec : Int64 → Int32 → zM → Option (zM)) (v2 : Int64) (v4 : Int32) (w : zM) : Option (zM) :=
  if (24 : Int32) ≤ v4 then
    some w
  else
    (f_X4_grossOf n c1 v4 w).bind fun w2 =>
    zB2 (f_X4_lastOf n (2 : Int32) ((24 : Int32) * c1) v4 w2) fun x4 w3 =>
    (
      if (0 : Int32) ≤ x4 then
        (rIM w3 37 144 (((24 : Int32) * c1) + x4)).bind fun x5 =>
        some x5
      else
        some (0 : Int32)
      ).bind fun x6 =>
    (rLM w3 55 72 ((3 : Int32) * v4)).bind fun x7 =>
    (rLM w3 55 72 (((3 : Int32) * v4) + (1 : Int32))).bind fun x8 =>
    (rLM w3 55 72 (((3 : Int32) * v4) + (2 : Int32))).bind fun x9 =>
    zB2 (
      if (0 : Int32) ≤ (lg_cmp ((x7 + x8) + x9) (0 : Int64)) then
        zB2 (f_X4_round n (((x7 + x8) + x9) * (Int32.toInt64 x6)) (1000 : Int64) w3) fun x11 w10 =>
        some (x11, w10)
      else
        some ((0 : Int64), w3)
      ) fun x12 w13 =>
    (sLM w13 60 24 v4 x12).bind fun w14 =>
    zB2 (
      if (0 : Int32) ≤ (lg_cmp ((x7 + x8) + x9) (0 : Int64)) then
        (
          if (50 : Int32) ≤ x6 then
            some (50 : Int32)
          else
            some x6
          ).bind fun x15 =>
        zB2 (f_X4_round n (((x7 + x8) + x9) * (Int32.toInt64 x15)) (1000 : Int64) w14) fun x17 w16 =>
        some (x17, w16)
      else
        some ((0 : Int64), w14)
      ) fun x18 w19 =>
    (sLM w19 61 24 v4 x18).bind fun w20 =>
    (rLM w20 60 24 v4).bind fun x21 =>
    (sLM w20 62 24 v4 (((x7 + x8) + x9) - x21)).bind fun w22 =>
    (f_X4_slips_L192 n c1 v2 v4 n (0 : Int32) w22).bind fun w29 =>
    (f_X4_garnished n c1 v4 w29).bind fun w30 =>
    (rLM w30 45 144 (((24 : Int32) * c1) + v4)).bind fun x31 =>
    (rLM w30 64 24 v4).bind fun x32 =>
    (
      if (0 : Int32) < (lg_cmp x32 (0 : Int64)) then
        (rLM w30 64 24 v4).bind fun x33 =>
        if (0 : Int32) ≤ (lg_cmp x33 (v2 + x31)) then
          some (v2 + x31)
        else
          (rLM w30 64 24 v4).bind fun x34 =>
          some x34
      else
        some (0 : Int64)
      ).bind fun x35 =>
    (rLM w30 64 24 v4).bind fun x36 =>
    (sLM w30 64 24 v4 (x36 - x35)).bind fun w37 =>
    rec ((v2 + x31) - x35) (v4 + (1)) w37
def f_X4_slips_L13 (n : Nat) (c1 : Int32) : Nat → Int64 → Int32 → zM → Option (zM)
  | 0, _, _, _ => none
  | k + 1, v2, v4, w => f_X4_slips_L13b n c1 (f_X4_slips_L13 n c1 k) v2 v4 w
def f_X4_slips (n : Nat) (a1 : Int32) (w : zM) : Option zM :=
  (f_X4_takes n a1 (720 : Int32) w).bind fun w1 =>
  (f_X4_slips_L13 n a1 n (0 : Int64) (0 : Int32) w1).bind fun w38 =>
  some w38
theorem mt_X4_slips : zMt yX4_slips cX4_slips 11 none 1 := ⟨q2663, q82, ⟨by decide, by decide⟩, by decide +kernel, by decide⟩
set_option maxHeartbeats 4000000 in
theorem lp_X4_slips_L192 {X : zX} {b : Nat} {u : zWd} (hX : zGd X RX4 cX4_slips 11 none 6) (n : Nat) (c1 : Int32) (c2 : Int64) (c4 : Int32) : ∀ (k : Nat) (v9 : Int32) (w : zM) (w9 : zM) , f_X4_slips_L192 n c1 c2 c4 k v9 w = some w9 → zJ X 256 [some (vA (some b)), some (vI c1), some (vL c2), none, some (vI c4), none, none, none, none, none, none] [] (zIj b u w9) → zJ X 192 [some (vA (some b)), some (vI c1), some (vL c2), none, some (vI c4), none, none, none, none, some (vI v9), none] [] (zIj b u w) := by
  intro k
  induction k with
  | zero => intro v9 w w9 hf _; exact nomatch (show (none : Option (zM)) = _ from hf)
  | succ k ih =>
    intro v9 w w9 hf kx
    have hf : f_X4_slips_L192b n c1 c2 c4 (f_X4_slips_L192 n c1 c2 c4 k) v9 w = _ := hf
    unfold f_X4_slips_L192b at hf
    refine j_iload (pc := 192) hX dX4_slips_192 rfl ?_
    refine j_iconst (pc := 194) hX (3 : Int32) dX4_slips_194 rfl ?_
    refine j_icmp_ge (pc := 195) hX 256 dX4_slips_195 rfl hf (fun h_ hf => ?_) (fun h_ hf => ?_)
    · refine j_fg [9] [some (vA (some b)), some (vI c1), some (vL c2), none, some (vI c4), none, none, none, none, none, none] rfl ?_
      cases hf
      exact kx
    · refine j_aload_n (pc := 198) hX dX4_slips_198 rfl ?_
      refine j_iload (pc := 199) hX dX4_slips_199 rfl ?_
      refine j_iload (pc := 201) hX dX4_slips_201 rfl ?_
      obtain ⟨w23, hc_, hf⟩ := zob hf
      refine j_callV (pc := 203) hX (ci := 3) mt_X4_contribute q2685 q2687 qs58 (zIj_isC b u _) ⟨_, rfl, rfl⟩ [vI c4, vI v9] rfl rfl (Nat.le_of_ble_eq_true rfl) (by decide) dX4_slips_203 (k_X4_contribute () _ hc_) ?_
      refine j_aload_n (pc := 206) hX dX4_slips_206 rfl ?_
      refine j_iload_n (pc := 207) hX dX4_slips_207 rfl ?_
      refine j_iload (pc := 208) hX dX4_slips_208 rfl ?_
      refine j_iload (pc := 210) hX dX4_slips_210 rfl ?_
      obtain ⟨w24, hc_, hf⟩ := zob hf
      refine j_callV (pc := 212) hX (ci := 3) mt_X4_taxes q2693 q2695 qs60 (zIj_isC b u _) ⟨_, rfl, rfl⟩ [vI c1, vI c4, vI v9] rfl rfl (Nat.le_of_ble_eq_true rfl) (by decide) dX4_slips_212 (k_X4_taxes () _ hc_) ?_
      refine j_aload_n (pc := 215) hX dX4_slips_215 rfl ?_
      refine mg_A (pc := 216) hX 62 (by decide) 52 2 rfl rfl (by decide) q2307 dX4_slips_216 ?_
      refine j_iload (pc := 219) hX dX4_slips_219 rfl ?_
      refine j_dup2 (pc := 221) hX rfl rfl dX4_slips_221 ?_
      refine mr_L (pc := 222) hX 62 24 52 (by decide) rfl rfl rfl dX4_slips_222 hf (fun x25 hx_ hf => ?_)
      refine j_aload_n (pc := 223) hX dX4_slips_223 rfl ?_
      refine mg_A (pc := 224) hX 57 (by decide) 47 2 rfl rfl (by decide) q2302 dX4_slips_224 ?_
      refine j_iconst (pc := 227) hX (3 : Int32) dX4_slips_227 rfl ?_
      refine j_iload (pc := 228) hX dX4_slips_228 rfl ?_
      refine j_imul (pc := 230) hX dX4_slips_230 ?_
      refine j_iload (pc := 231) hX dX4_slips_231 rfl ?_
      refine j_iadd (pc := 233) hX dX4_slips_233 ?_
      refine mr_L (pc := 234) hX 57 72 47 (by decide) rfl rfl rfl dX4_slips_234 hf (fun x26 hx_ hf => ?_)
      refine j_aload_n (pc := 235) hX dX4_slips_235 rfl ?_
      refine mg_A (pc := 236) hX 59 (by decide) 49 2 rfl rfl (by decide) q2304 dX4_slips_236 ?_
      refine j_iconst (pc := 239) hX (3 : Int32) dX4_slips_239 rfl ?_
      refine j_iload (pc := 240) hX dX4_slips_240 rfl ?_
      refine j_imul (pc := 242) hX dX4_slips_242 ?_
      refine j_iload (pc := 243) hX dX4_slips_243 rfl ?_
      refine j_iadd (pc := 245) hX dX4_slips_245 ?_
      refine mr_L (pc := 246) hX 59 72 49 (by decide) rfl rfl rfl dX4_slips_246 hf (fun x27 hx_ hf => ?_)
      refine j_ladd (pc := 247) hX dX4_slips_247 ?_
      refine j_lsub (pc := 248) hX dX4_slips_248 ?_
      refine ms_L (pc := 249) hX 62 24 52 (by decide) rfl rfl rfl dX4_slips_249 hf (fun w28 hf => ?_)
      refine j_iinc (pc := 250) hX (1) dX4_slips_250 rfl rfl (by decide) [some (vA (some b)), some (vI c1), some (vL c2), none, some (vI c4), none, none, none, none, some (vI (v9 + (1))), none] rfl ?_
      refine j_goto (pc := 253) hX 192 dX4_slips_253 rfl ?_
      exact ih _ _ _ hf kx
set_option maxHeartbeats 4000000 in
theorem lp_X4_slips_L13 {X : zX} {b : Nat} {u : zWd} (hX : zGd X RX4 cX4_slips 11 none 6) (n : Nat) (c1 : Int32) : ∀ (k : Nat) (v2 : Int64) (v4 : Int32) (w : zM) (w9 : zM) , f_X4_slips_L13 n c1 k v2 v4 w = some w9 → zJ X 342 [some (vA (some b)), some (vI c1), none, none, none, none, none, none, none, none, none] [] (zIj b u w9) → zJ X 13 [some (vA (some b)), some (vI c1), some (vL v2), none, some (vI v4), none, none, none, none, none, none] [] (zIj b u w) := by
  intro k
  induction k with
  | zero => intro v2 v4 w w9 hf _; exact nomatch (show (none : Option (zM)) = _ from hf)
  | succ k ih =>
    intro v2 v4 w w9 hf kx
    have hf : f_X4_slips_L13b n c1 (f_X4_slips_L13 n c1 k) v2 v4 w = _ := hf
    unfold f_X4_slips_L13b at hf
    refine j_iload (pc := 13) hX dX4_slips_13 rfl ?_
    refine j_bipush (pc := 15) hX (24 : Int32) dX4_slips_15 (by decide +kernel) ?_
    refine j_icmp_ge (pc := 17) hX 342 dX4_slips_17 rfl hf (fun h_ hf => ?_) (fun h_ hf => ?_)
    · refine j_fg [2, 4] [some (vA (some b)), some (vI c1), none, none, none, none, none, none, none, none, none] rfl ?_
      cases hf
      exact kx
    · refine j_aload_n (pc := 20) hX dX4_slips_20 rfl ?_
      refine j_iload_n (pc := 21) hX dX4_slips_21 rfl ?_
      refine j_iload (pc := 22) hX dX4_slips_22 rfl ?_
      obtain ⟨w2, hc_, hf⟩ := zob hf
      refine j_callV (pc := 24) hX (ci := 3) mt_X4_grossOf q2664 q2666 qs53 (zIj_isC b u _) ⟨_, rfl, rfl⟩ [vI c1, vI v4] rfl rfl (Nat.le_of_ble_eq_true rfl) (by decide) dX4_slips_24 (k_X4_grossOf () _ hc_) ?_
      refine j_aload_n (pc := 27) hX dX4_slips_27 rfl ?_
      refine j_iconst (pc := 28) hX (2 : Int32) dX4_slips_28 rfl ?_
      refine j_bipush (pc := 29) hX (24 : Int32) dX4_slips_29 (by decide +kernel) ?_
      refine j_iload_n (pc := 31) hX dX4_slips_31 rfl ?_
      refine j_imul (pc := 32) hX dX4_slips_32 ?_
      refine j_iload (pc := 33) hX dX4_slips_33 rfl ?_
      obtain ⟨x4, w3, hc_, hf⟩ := zB2_e hf
      refine j_callV (pc := 35) hX (ci := 3) mt_X4_lastOf q2650 q2652 qs51 (zIj_isC b u _) ⟨_, rfl, rfl⟩ [vI (2 : Int32), vI ((24 : Int32) * c1), vI v4] rfl rfl (Nat.le_of_ble_eq_true rfl) (by decide) dX4_slips_35 (k_X4_lastOf _ _ hc_) ?_
      refine j_istore (pc := 38) hX dX4_slips_38 (by decide) [some (vA (some b)), some (vI c1), some (vL v2), none, some (vI v4), some (vI x4), none, none, none, none, none] rfl ?_
      refine j_iload (pc := 40) hX dX4_slips_40 rfl ?_
      obtain ⟨x6, hm_, hf⟩ := zob hf
      have kj42 : zJ X 61 [some (vA (some b)), some (vI c1), some (vL v2), none, some (vI v4), none, none, none, none, none, none] [vI x6] (zIj b u w3) := by
        clear hm_
        refine j_istore (pc := 61) hX dX4_slips_61 (by decide) [some (vA (some b)), some (vI c1), some (vL v2), none, some (vI v4), none, some (vI x6), none, none, none, none] rfl ?_
        refine j_aload_n (pc := 63) hX dX4_slips_63 rfl ?_
        refine mg_A (pc := 64) hX 55 (by decide) 45 2 rfl rfl (by decide) q2300 dX4_slips_64 ?_
        refine j_iconst (pc := 67) hX (3 : Int32) dX4_slips_67 rfl ?_
        refine j_iload (pc := 68) hX dX4_slips_68 rfl ?_
        refine j_imul (pc := 70) hX dX4_slips_70 ?_
        refine mr_L (pc := 71) hX 55 72 45 (by decide) rfl rfl rfl dX4_slips_71 hf (fun x7 hx_ hf => ?_)
        refine j_aload_n (pc := 72) hX dX4_slips_72 rfl ?_
        refine mg_A (pc := 73) hX 55 (by decide) 45 2 rfl rfl (by decide) q2300 dX4_slips_73 ?_
        refine j_iconst (pc := 76) hX (3 : Int32) dX4_slips_76 rfl ?_
        refine j_iload (pc := 77) hX dX4_slips_77 rfl ?_
        refine j_imul (pc := 79) hX dX4_slips_79 ?_
        refine j_iconst (pc := 80) hX (1 : Int32) dX4_slips_80 rfl ?_
        refine j_iadd (pc := 81) hX dX4_slips_81 ?_
        refine mr_L (pc := 82) hX 55 72 45 (by decide) rfl rfl rfl dX4_slips_82 hf (fun x8 hx_ hf => ?_)
        refine j_ladd (pc := 83) hX dX4_slips_83 ?_
        refine j_aload_n (pc := 84) hX dX4_slips_84 rfl ?_
        refine mg_A (pc := 85) hX 55 (by decide) 45 2 rfl rfl (by decide) q2300 dX4_slips_85 ?_
        refine j_iconst (pc := 88) hX (3 : Int32) dX4_slips_88 rfl ?_
        refine j_iload (pc := 89) hX dX4_slips_89 rfl ?_
        refine j_imul (pc := 91) hX dX4_slips_91 ?_
        refine j_iconst (pc := 92) hX (2 : Int32) dX4_slips_92 rfl ?_
        refine j_iadd (pc := 93) hX dX4_slips_93 ?_
        refine mr_L (pc := 94) hX 55 72 45 (by decide) rfl rfl rfl dX4_slips_94 hf (fun x9 hx_ hf => ?_)
        refine j_ladd (pc := 95) hX dX4_slips_95 ?_
        refine j_lstore (pc := 96) hX dX4_slips_96 (by decide) [some (vA (some b)), some (vI c1), some (vL v2), none, some (vI v4), none, some (vI x6), some (vL ((x7 + x8) + x9)), none, none, none] rfl ?_
        refine j_aload_n (pc := 98) hX dX4_slips_98 rfl ?_
        refine mg_A (pc := 99) hX 60 (by decide) 50 2 rfl rfl (by decide) q2305 dX4_slips_99 ?_
        refine j_iload (pc := 102) hX dX4_slips_102 rfl ?_
        refine j_lload (pc := 104) hX dX4_slips_104 rfl ?_
        refine j_lconst (pc := 106) hX (0 : Int64) dX4_slips_106 rfl ?_
        refine j_lcmp (pc := 107) hX dX4_slips_107 ?_
        obtain ⟨x12, w13, hm_, hf⟩ := zB2_e hf
        have kj108 : zJ X 128 [some (vA (some b)), some (vI c1), some (vL v2), none, some (vI v4), none, some (vI x6), some (vL ((x7 + x8) + x9)), none, none, none] [vL x12, vI v4, vA (some (b + 50))] (zIj b u w13) := by
          clear hm_
          refine ms_L (pc := 128) hX 60 24 50 (by decide) rfl rfl rfl dX4_slips_128 hf (fun w14 hf => ?_)
          refine j_aload_n (pc := 129) hX dX4_slips_129 rfl ?_
          refine mg_A (pc := 130) hX 61 (by decide) 51 2 rfl rfl (by decide) q2306 dX4_slips_130 ?_
          refine j_iload (pc := 133) hX dX4_slips_133 rfl ?_
          refine j_lload (pc := 135) hX dX4_slips_135 rfl ?_
          refine j_lconst (pc := 137) hX (0 : Int64) dX4_slips_137 rfl ?_
          refine j_lcmp (pc := 138) hX dX4_slips_138 ?_
          obtain ⟨x18, w19, hm_, hf⟩ := zB2_e hf
          have kj139 : zJ X 171 [some (vA (some b)), some (vI c1), some (vL v2), none, some (vI v4), none, none, some (vL ((x7 + x8) + x9)), none, none, none] [vL x18, vI v4, vA (some (b + 51))] (zIj b u w19) := by
            clear hm_
            refine ms_L (pc := 171) hX 61 24 51 (by decide) rfl rfl rfl dX4_slips_171 hf (fun w20 hf => ?_)
            refine j_aload_n (pc := 172) hX dX4_slips_172 rfl ?_
            refine mg_A (pc := 173) hX 62 (by decide) 52 2 rfl rfl (by decide) q2307 dX4_slips_173 ?_
            refine j_iload (pc := 176) hX dX4_slips_176 rfl ?_
            refine j_lload (pc := 178) hX dX4_slips_178 rfl ?_
            refine j_aload_n (pc := 180) hX dX4_slips_180 rfl ?_
            refine mg_A (pc := 181) hX 60 (by decide) 50 2 rfl rfl (by decide) q2305 dX4_slips_181 ?_
            refine j_iload (pc := 184) hX dX4_slips_184 rfl ?_
            refine mr_L (pc := 186) hX 60 24 50 (by decide) rfl rfl rfl dX4_slips_186 hf (fun x21 hx_ hf => ?_)
            refine j_lsub (pc := 187) hX dX4_slips_187 ?_
            refine ms_L (pc := 188) hX 62 24 52 (by decide) rfl rfl rfl dX4_slips_188 hf (fun w22 hf => ?_)
            refine j_iconst (pc := 189) hX (0 : Int32) dX4_slips_189 rfl ?_
            refine j_istore (pc := 190) hX dX4_slips_190 (by decide) [some (vA (some b)), some (vI c1), some (vL v2), none, some (vI v4), none, none, some (vL ((x7 + x8) + x9)), none, some (vI (0 : Int32)), none] rfl ?_
            obtain ⟨w29, hm_, hf⟩ := zob hf
            refine j_fg [7] [some (vA (some b)), some (vI c1), some (vL v2), none, some (vI v4), none, none, none, none, some (vI (0 : Int32)), none] rfl ?_
            refine lp_X4_slips_L192 hX n _ _ _ _ _ _ _ hm_ ?_
            refine j_aload_n (pc := 256) hX dX4_slips_256 rfl ?_
            refine j_iload_n (pc := 257) hX dX4_slips_257 rfl ?_
            refine j_iload (pc := 258) hX dX4_slips_258 rfl ?_
            obtain ⟨w30, hc_, hf⟩ := zob hf
            refine j_callV (pc := 260) hX (ci := 3) mt_X4_garnished q2697 q2699 qs61 (zIj_isC b u _) ⟨_, rfl, rfl⟩ [vI c1, vI v4] rfl rfl (Nat.le_of_ble_eq_true rfl) (by decide) dX4_slips_260 (k_X4_garnished () _ hc_) ?_
            refine j_lload_n (pc := 263) hX dX4_slips_263 rfl ?_
            refine j_aload_n (pc := 264) hX dX4_slips_264 rfl ?_
            refine mg_A (pc := 265) hX 45 (by decide) 37 2 rfl rfl (by decide) q2290 dX4_slips_265 ?_
            refine j_bipush (pc := 268) hX (24 : Int32) dX4_slips_268 (by decide +kernel) ?_
            refine j_iload_n (pc := 270) hX dX4_slips_270 rfl ?_
            refine j_imul (pc := 271) hX dX4_slips_271 ?_
            refine j_iload (pc := 272) hX dX4_slips_272 rfl ?_
            refine j_iadd (pc := 274) hX dX4_slips_274 ?_
            refine mr_L (pc := 275) hX 45 144 37 (by decide) rfl rfl rfl dX4_slips_275 hf (fun x31 hx_ hf => ?_)
            refine j_ladd (pc := 276) hX dX4_slips_276 ?_
            refine j_lstore_n (pc := 277) hX dX4_slips_277 (by decide) [some (vA (some b)), some (vI c1), some (vL (v2 + x31)), none, some (vI v4), none, none, none, none, none, none] rfl ?_
            refine j_aload_n (pc := 278) hX dX4_slips_278 rfl ?_
            refine mg_A (pc := 279) hX 64 (by decide) 54 2 rfl rfl (by decide) q2309 dX4_slips_279 ?_
            refine j_iload (pc := 282) hX dX4_slips_282 rfl ?_
            refine mr_L (pc := 284) hX 64 24 54 (by decide) rfl rfl rfl dX4_slips_284 hf (fun x32 hx_ hf => ?_)
            refine j_lconst (pc := 285) hX (0 : Int64) dX4_slips_285 rfl ?_
            refine j_lcmp (pc := 286) hX dX4_slips_286 ?_
            obtain ⟨x35, hm_, hf⟩ := zob hf
            have kj287 : zJ X 317 [some (vA (some b)), some (vI c1), some (vL (v2 + x31)), none, some (vI v4), none, none, none, none, none, none] [vL x35] (zIj b u w30) := by
              clear hm_
              refine j_lstore (pc := 317) hX dX4_slips_317 (by decide) [some (vA (some b)), some (vI c1), some (vL (v2 + x31)), none, some (vI v4), none, none, none, none, some (vL x35), none] rfl ?_
              refine j_aload_n (pc := 319) hX dX4_slips_319 rfl ?_
              refine mg_A (pc := 320) hX 64 (by decide) 54 2 rfl rfl (by decide) q2309 dX4_slips_320 ?_
              refine j_iload (pc := 323) hX dX4_slips_323 rfl ?_
              refine j_dup2 (pc := 325) hX rfl rfl dX4_slips_325 ?_
              refine mr_L (pc := 326) hX 64 24 54 (by decide) rfl rfl rfl dX4_slips_326 hf (fun x36 hx_ hf => ?_)
              refine j_lload (pc := 327) hX dX4_slips_327 rfl ?_
              refine j_lsub (pc := 329) hX dX4_slips_329 ?_
              refine ms_L (pc := 330) hX 64 24 54 (by decide) rfl rfl rfl dX4_slips_330 hf (fun w37 hf => ?_)
              refine j_lload_n (pc := 331) hX dX4_slips_331 rfl ?_
              refine j_lload (pc := 332) hX dX4_slips_332 rfl ?_
              refine j_lsub (pc := 334) hX dX4_slips_334 ?_
              refine j_lstore_n (pc := 335) hX dX4_slips_335 (by decide) [some (vA (some b)), some (vI c1), some (vL ((v2 + x31) - x35)), none, some (vI v4), none, none, none, none, some (vL x35), none] rfl ?_
              refine j_iinc (pc := 336) hX (1) dX4_slips_336 rfl rfl (by decide) [some (vA (some b)), some (vI c1), some (vL ((v2 + x31) - x35)), none, some (vI (v4 + (1))), none, none, none, none, some (vL x35), none] rfl ?_
              refine j_goto (pc := 339) hX 13 dX4_slips_339 rfl ?_
              refine j_fg [9] [some (vA (some b)), some (vI c1), some (vL ((v2 + x31) - x35)), none, some (vI (v4 + (1))), none, none, none, none, none, none] rfl ?_
              exact ih _ _ _ _ hf kx
            have hf := hm_
            refine j_if_gt (pc := 287) hX 294 dX4_slips_287 rfl hf (fun h_ hf => ?_) (fun h_ hf => ?_)
            · refine j_aload_n (pc := 294) hX dX4_slips_294 rfl ?_
              refine mg_A (pc := 295) hX 64 (by decide) 54 2 rfl rfl (by decide) q2309 dX4_slips_295 ?_
              refine j_iload (pc := 298) hX dX4_slips_298 rfl ?_
              refine mr_L (pc := 300) hX 64 24 54 (by decide) rfl rfl rfl dX4_slips_300 hf (fun x33 hx_ hf => ?_)
              refine j_lload_n (pc := 301) hX dX4_slips_301 rfl ?_
              refine j_lcmp (pc := 302) hX dX4_slips_302 ?_
              refine j_if_ge (pc := 303) hX 316 dX4_slips_303 rfl hf (fun h_ hf => ?_) (fun h_ hf => ?_)
              · refine j_lload_n (pc := 316) hX dX4_slips_316 rfl ?_
                cases hf
                exact kj287
              · refine j_aload_n (pc := 306) hX dX4_slips_306 rfl ?_
                refine mg_A (pc := 307) hX 64 (by decide) 54 2 rfl rfl (by decide) q2309 dX4_slips_307 ?_
                refine j_iload (pc := 310) hX dX4_slips_310 rfl ?_
                refine mr_L (pc := 312) hX 64 24 54 (by decide) rfl rfl rfl dX4_slips_312 hf (fun x34 hx_ hf => ?_)
                refine j_goto (pc := 313) hX 317 dX4_slips_313 rfl ?_
                cases hf
                exact kj287
            · refine j_lconst (pc := 290) hX (0 : Int64) dX4_slips_290 rfl ?_
              refine j_goto (pc := 291) hX 317 dX4_slips_291 rfl ?_
              cases hf
              exact kj287
          have hf := hm_
          refine j_if_ge (pc := 139) hX 146 dX4_slips_139 rfl hf (fun h_ hf => ?_) (fun h_ hf => ?_)
          · refine j_aload_n (pc := 146) hX dX4_slips_146 rfl ?_
            refine j_lload (pc := 147) hX dX4_slips_147 rfl ?_
            refine j_iload (pc := 149) hX dX4_slips_149 rfl ?_
            refine j_bipush (pc := 151) hX (50 : Int32) dX4_slips_151 (by decide +kernel) ?_
            obtain ⟨x15, hm_, hf⟩ := zob hf
            have kj153 : zJ X 163 [some (vA (some b)), some (vI c1), some (vL v2), none, some (vI v4), none, none, some (vL ((x7 + x8) + x9)), none, none, none] [vI x15, vL ((x7 + x8) + x9), vA (some b), vI v4, vA (some (b + 51))] (zIj b u w14) := by
              clear hm_
              refine j_i2l (pc := 163) hX dX4_slips_163 ?_
              refine j_lmul (pc := 164) hX dX4_slips_164 ?_
              refine j_ldc2 (pc := 165) hX q2654 dX4_slips_165 ?_
              obtain ⟨x17, w16, hc_, hf⟩ := zB2_e hf
              refine j_callV (pc := 168) hX (ci := 3) mt_X4_round q2556 q2558 qs43 (zIj_isC b u _) ⟨_, rfl, rfl⟩ [vL (((x7 + x8) + x9) * (Int32.toInt64 x15)), vL (1000 : Int64)] rfl rfl (Nat.le_of_ble_eq_true rfl) (by decide) dX4_slips_168 (k_X4_round _ _ hc_) ?_
              cases hf
              exact kj139
            have hf := hm_
            refine j_icmp_ge (pc := 153) hX 161 dX4_slips_153 rfl hf (fun h_ hf => ?_) (fun h_ hf => ?_)
            · refine j_bipush (pc := 161) hX (50 : Int32) dX4_slips_161 (by decide +kernel) ?_
              refine j_fg [6] [some (vA (some b)), some (vI c1), some (vL v2), none, some (vI v4), none, none, some (vL ((x7 + x8) + x9)), none, none, none] rfl ?_
              cases hf
              exact kj153
            · refine j_iload (pc := 156) hX dX4_slips_156 rfl ?_
              refine j_goto (pc := 158) hX 163 dX4_slips_158 rfl ?_
              refine j_fg [6] [some (vA (some b)), some (vI c1), some (vL v2), none, some (vI v4), none, none, some (vL ((x7 + x8) + x9)), none, none, none] rfl ?_
              cases hf
              exact kj153
          · refine j_lconst (pc := 142) hX (0 : Int64) dX4_slips_142 rfl ?_
            refine j_goto (pc := 143) hX 171 dX4_slips_143 rfl ?_
            refine j_fg [6] [some (vA (some b)), some (vI c1), some (vL v2), none, some (vI v4), none, none, some (vL ((x7 + x8) + x9)), none, none, none] rfl ?_
            cases hf
            exact kj139
        have hf := hm_
        refine j_if_ge (pc := 108) hX 115 dX4_slips_108 rfl hf (fun h_ hf => ?_) (fun h_ hf => ?_)
        · refine j_aload_n (pc := 115) hX dX4_slips_115 rfl ?_
          refine j_lload (pc := 116) hX dX4_slips_116 rfl ?_
          refine j_iload (pc := 118) hX dX4_slips_118 rfl ?_
          refine j_i2l (pc := 120) hX dX4_slips_120 ?_
          refine j_lmul (pc := 121) hX dX4_slips_121 ?_
          refine j_ldc2 (pc := 122) hX q2654 dX4_slips_122 ?_
          obtain ⟨x11, w10, hc_, hf⟩ := zB2_e hf
          refine j_callV (pc := 125) hX (ci := 3) mt_X4_round q2556 q2558 qs43 (zIj_isC b u _) ⟨_, rfl, rfl⟩ [vL (((x7 + x8) + x9) * (Int32.toInt64 x6)), vL (1000 : Int64)] rfl rfl (Nat.le_of_ble_eq_true rfl) (by decide) dX4_slips_125 (k_X4_round _ _ hc_) ?_
          cases hf
          exact kj108
        · refine j_lconst (pc := 111) hX (0 : Int64) dX4_slips_111 rfl ?_
          refine j_goto (pc := 112) hX 128 dX4_slips_112 rfl ?_
          cases hf
          exact kj108
      have hf := hm_
      refine j_if_ge (pc := 42) hX 49 dX4_slips_42 rfl hf (fun h_ hf => ?_) (fun h_ hf => ?_)
      · refine j_aload_n (pc := 49) hX dX4_slips_49 rfl ?_
        refine mg_A (pc := 50) hX 37 (by decide) 30 1 rfl rfl (by decide) q2282 dX4_slips_50 ?_
        refine j_bipush (pc := 53) hX (24 : Int32) dX4_slips_53 (by decide +kernel) ?_
        refine j_iload_n (pc := 55) hX dX4_slips_55 rfl ?_
        refine j_imul (pc := 56) hX dX4_slips_56 ?_
        refine j_iload (pc := 57) hX dX4_slips_57 rfl ?_
        refine j_iadd (pc := 59) hX dX4_slips_59 ?_
        refine mr_I (pc := 60) hX 37 144 30 (by decide) rfl rfl rfl dX4_slips_60 hf (fun x5 hx_ hf => ?_)
        refine j_fg [5] [some (vA (some b)), some (vI c1), some (vL v2), none, some (vI v4), none, none, none, none, none, none] rfl ?_
        cases hf
        exact kj42
      · refine j_iconst (pc := 45) hX (0 : Int32) dX4_slips_45 rfl ?_
        refine j_goto (pc := 46) hX 61 dX4_slips_46 rfl ?_
        refine j_fg [5] [some (vA (some b)), some (vI c1), some (vL v2), none, some (vI v4), none, none, none, none, none, none] rfl ?_
        cases hf
        exact kj42
set_option maxHeartbeats 4000000 in
theorem k_X4_slips {l : Launch} {n : Nat} {a1 : Int32} {b : Nat} {u : zWd} {w : zM} (r : Unit) (w9 : zM) (hf : f_X4_slips n a1 w = some w9) : zCt l yX4_slips cX4_slips 11 none 6 [vA (some b), vI a1] (zIj b u w) (.inr (none, (zIj b u w9))) := by
  refine zCt_of (lv := [some (vA (some b)), some (vI a1), none, none, none, none, none, none, none, none, none]) (by decide +kernel) 9 rfl rfl ?_
  intro X hX hI hN hQ
  have hX : zGd X RX4 cX4_slips 11 none 6 := hX
  unfold f_X4_slips at hf
  refine j_aload_n (pc := 0) hX dX4_slips_0 rfl ?_
  refine j_iload_n (pc := 1) hX dX4_slips_1 rfl ?_
  refine j_sipush (pc := 2) hX (720 : Int32) dX4_slips_2 (by decide +kernel) ?_
  obtain ⟨w1, hc_, hf⟩ := zob hf
  refine j_callV (pc := 5) hX (ci := 3) mt_X4_takes q2543 q2545 qs40 (zIj_isC b u _) ⟨_, rfl, rfl⟩ [vI a1, vI (720 : Int32)] rfl rfl (Nat.le_of_ble_eq_true rfl) (by decide) dX4_slips_5 (k_X4_takes () _ hc_) ?_
  refine j_lconst (pc := 8) hX (0 : Int64) dX4_slips_8 rfl ?_
  refine j_lstore_n (pc := 9) hX dX4_slips_9 (by decide) [some (vA (some b)), some (vI a1), some (vL (0 : Int64)), none, none, none, none, none, none, none, none] rfl ?_
  refine j_iconst (pc := 10) hX (0 : Int32) dX4_slips_10 rfl ?_
  refine j_istore (pc := 11) hX dX4_slips_11 (by decide) [some (vA (some b)), some (vI a1), some (vL (0 : Int64)), none, some (vI (0 : Int32)), none, none, none, none, none, none] rfl ?_
  obtain ⟨w38, hm_, hf⟩ := zob hf
  refine lp_X4_slips_L13 hX n _ _ _ _ _ _ hm_ ?_
  exact j_return (pc := 342) hX hQ (by cases hf; rfl) dX4_slips_342
