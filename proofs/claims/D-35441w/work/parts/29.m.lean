set_option maxRecDepth 100000
def f_X4_round (n : Nat) (a1 : Int64) (a2 : Int64) (w : zM) : Option (Int64 × zM) :=
  zB2 (f_X4_down n (((2 : Int64) * a1) + a2) ((2 : Int64) * a2) w) fun x2 w1 =>
  some (x2, w1)
theorem mt_X4_round : zMt yX4_round cX4_round 5 (some .long) 2 := ⟨q2559, q82, ⟨by decide, by decide⟩, by decide +kernel, by decide⟩
set_option maxHeartbeats 4000000 in
theorem k_X4_round {l : Launch} {n : Nat} {a1 : Int64} {a2 : Int64} {b : Nat} {u : zWd} {w : zM} (r : Int64) (w9 : zM) (hf : f_X4_round n a1 a2 w = some (r, w9)) : zCt l yX4_round cX4_round 5 (some .long) 2 [vA (some b), vL a1, vL a2] (zIj b u w) (.inr (some (vL r), (zIj b u w9))) := by
  refine zCt_of (lv := [some (vA (some b)), some (vL a1), none, some (vL a2), none]) (by decide +kernel) 0 rfl rfl ?_
  intro X hX hI hN hQ
  have hX : zGd X RX4 cX4_round 5 (some .long) 2 := hX
  unfold f_X4_round at hf
  refine j_aload_n (pc := 0) hX dX4_round_0 rfl ?_
  refine j_ldc2 (pc := 1) hX q2477 dX4_round_1 ?_
  refine j_lload_n (pc := 4) hX dX4_round_4 rfl ?_
  refine j_lmul (pc := 5) hX dX4_round_5 ?_
  refine j_lload_n (pc := 6) hX dX4_round_6 rfl ?_
  refine j_ladd (pc := 7) hX dX4_round_7 ?_
  refine j_ldc2 (pc := 8) hX q2477 dX4_round_8 ?_
  refine j_lload_n (pc := 11) hX dX4_round_11 rfl ?_
  refine j_lmul (pc := 12) hX dX4_round_12 ?_
  obtain ⟨x2, w1, hc_, hf⟩ := zB2_e hf
  refine j_callV (pc := 13) hX (ci := 3) mt_X4_down q2560 q2562 qs44 (zIj_isC b u _) ⟨_, rfl, rfl⟩ [vL (((2 : Int64) * a1) + a2), vL ((2 : Int64) * a2)] rfl rfl (Nat.le_of_ble_eq_true rfl) (by decide) dX4_round_13 (k_X4_down _ _ hc_) ?_
  exact j_lreturn (pc := 16) hX hQ (by cases hf; rfl) dX4_round_16
def f_X4_overPay (n : Nat) (a1 : Int32) (a2 : Int32) (w : zM) : Option (Int64 × zM) :=
  (
    if (((7 : Int32) * a2) + (6 : Int32)) ≤ (719 : Int32) then
      some (((7 : Int32) * a2) + (6 : Int32))
    else
      some (719 : Int32)
    ).bind fun x1 =>
  (rIM w 4 10 a1).bind fun x2 =>
  zB2 (
    if x2 = (1 : Int32) then
      zB2 (f_X4_payOn n a1 x1 w) fun x9 w8 =>
      some (x9, w8)
    else
      zB2 (f_X4_payOn n a1 x1 w) fun x4 w3 =>
      (rIM w3 5 10 a1).bind fun x5 =>
      zB2 (f_X4_round n ((60 : Int64) * x4) ((30 : Int64) * (Int32.toInt64 x5)) w3) fun x7 w6 =>
      some (x7, w6)
    ) fun x10 w11 =>
  zB2 (f_X4_over n a1 a2 w11) fun x13 w12 =>
  zB2 (f_X4_round n (x10 * (Int32.toInt64 x13)) (120 : Int64) w12) fun x15 w14 =>
  some (x15, w14)
theorem mt_X4_overPay : zMt yX4_overPay cX4_overPay 6 (some .long) 2 := ⟨q2567, q82, ⟨by decide, by decide⟩, by decide +kernel, by decide⟩
set_option maxHeartbeats 4000000 in
theorem k_X4_overPay {l : Launch} {n : Nat} {a1 : Int32} {a2 : Int32} {b : Nat} {u : zWd} {w : zM} (r : Int64) (w9 : zM) (hf : f_X4_overPay n a1 a2 w = some (r, w9)) : zCt l yX4_overPay cX4_overPay 6 (some .long) 3 [vA (some b), vI a1, vI a2] (zIj b u w) (.inr (some (vL r), (zIj b u w9))) := by
  refine zCt_of (lv := [some (vA (some b)), some (vI a1), some (vI a2), none, none, none]) (by decide +kernel) 3 rfl rfl ?_
  intro X hX hI hN hQ
  have hX : zGd X RX4 cX4_overPay 6 (some .long) 3 := hX
  unfold f_X4_overPay at hf
  refine j_bipush (pc := 0) hX (7 : Int32) dX4_overPay_0 (by decide +kernel) ?_
  refine j_iload_n (pc := 2) hX dX4_overPay_2 rfl ?_
  refine j_imul (pc := 3) hX dX4_overPay_3 ?_
  refine j_bipush (pc := 4) hX (6 : Int32) dX4_overPay_4 (by decide +kernel) ?_
  refine j_iadd (pc := 6) hX dX4_overPay_6 ?_
  refine j_sipush (pc := 7) hX (719 : Int32) dX4_overPay_7 (by decide +kernel) ?_
  obtain ⟨x1, hm_, hf⟩ := zob hf
  have kj10 : zJ X 26 [some (vA (some b)), some (vI a1), some (vI a2), none, none, none] [vI x1] (zIj b u w) := by
    clear hm_
    refine j_istore_n (pc := 26) hX dX4_overPay_26 (by decide) [some (vA (some b)), some (vI a1), some (vI a2), some (vI x1), none, none] rfl ?_
    refine j_aload_n (pc := 27) hX dX4_overPay_27 rfl ?_
    refine mg_A (pc := 28) hX 4 (by decide) 5 1 rfl rfl (by decide) q2249 dX4_overPay_28 ?_
    refine j_iload_n (pc := 31) hX dX4_overPay_31 rfl ?_
    refine mr_I (pc := 32) hX 4 10 5 (by decide) rfl rfl rfl dX4_overPay_32 hf (fun x2 hx_ hf => ?_)
    refine j_iconst (pc := 33) hX (1 : Int32) dX4_overPay_33 rfl ?_
    obtain ⟨x10, w11, hm_, hf⟩ := zB2_e hf
    have kj34 : zJ X 71 [some (vA (some b)), some (vI a1), some (vI a2), none, none, none] [vL x10] (zIj b u w11) := by
      clear hm_
      refine j_lstore (pc := 71) hX dX4_overPay_71 (by decide) [some (vA (some b)), some (vI a1), some (vI a2), none, some (vL x10), none] rfl ?_
      refine j_aload_n (pc := 73) hX dX4_overPay_73 rfl ?_
      refine j_lload (pc := 74) hX dX4_overPay_74 rfl ?_
      refine j_aload_n (pc := 76) hX dX4_overPay_76 rfl ?_
      refine j_iload_n (pc := 77) hX dX4_overPay_77 rfl ?_
      refine j_iload_n (pc := 78) hX dX4_overPay_78 rfl ?_
      obtain ⟨x13, w12, hc_, hf⟩ := zB2_e hf
      refine j_callV (pc := 79) hX (ci := 3) mt_X4_over q2529 q2531 qs38 (zIj_isC b u _) ⟨_, rfl, rfl⟩ [vI a1, vI a2] rfl rfl (Nat.le_of_ble_eq_true rfl) (by decide) dX4_overPay_79 (k_X4_over _ _ hc_) ?_
      refine j_i2l (pc := 82) hX dX4_overPay_82 ?_
      refine j_lmul (pc := 83) hX dX4_overPay_83 ?_
      refine j_ldc2 (pc := 84) hX q2568 dX4_overPay_84 ?_
      obtain ⟨x15, w14, hc_, hf⟩ := zB2_e hf
      refine j_callV (pc := 87) hX (ci := 3) mt_X4_round q2556 q2558 qs43 (zIj_isC b u _) ⟨_, rfl, rfl⟩ [vL (x10 * (Int32.toInt64 x13)), vL (120 : Int64)] rfl rfl (Nat.le_of_ble_eq_true rfl) (by decide) dX4_overPay_87 (k_X4_round _ _ hc_) ?_
      exact j_lreturn (pc := 90) hX hQ (by cases hf; rfl) dX4_overPay_90
    have hf := hm_
    refine j_icmp_ne (pc := 34) hX 46 dX4_overPay_34 rfl hf (fun h_ hf => ?_) (fun h_ hf => ?_)
    · refine j_aload_n (pc := 46) hX dX4_overPay_46 rfl ?_
      refine j_ldc2 (pc := 47) hX q2483 dX4_overPay_47 ?_
      refine j_aload_n (pc := 50) hX dX4_overPay_50 rfl ?_
      refine j_iload_n (pc := 51) hX dX4_overPay_51 rfl ?_
      refine j_iload_n (pc := 52) hX dX4_overPay_52 rfl ?_
      obtain ⟨x4, w3, hc_, hf⟩ := zB2_e hf
      refine j_callV (pc := 53) hX (ci := 3) mt_X4_payOn q2502 q2504 qs35 (zIj_isC b u _) ⟨_, rfl, rfl⟩ [vI a1, vI x1] rfl rfl (Nat.le_of_ble_eq_true rfl) (by decide) dX4_overPay_53 (k_X4_payOn _ _ hc_) ?_
      refine j_lmul (pc := 56) hX dX4_overPay_56 ?_
      refine j_ldc2 (pc := 57) hX q2555 dX4_overPay_57 ?_
      refine j_aload_n (pc := 60) hX dX4_overPay_60 rfl ?_
      refine mg_A (pc := 61) hX 5 (by decide) 6 1 rfl rfl (by decide) q2250 dX4_overPay_61 ?_
      refine j_iload_n (pc := 64) hX dX4_overPay_64 rfl ?_
      refine mr_I (pc := 65) hX 5 10 6 (by decide) rfl rfl rfl dX4_overPay_65 hf (fun x5 hx_ hf => ?_)
      refine j_i2l (pc := 66) hX dX4_overPay_66 ?_
      refine j_lmul (pc := 67) hX dX4_overPay_67 ?_
      obtain ⟨x7, w6, hc_, hf⟩ := zB2_e hf
      refine j_callV (pc := 68) hX (ci := 3) mt_X4_round q2556 q2558 qs43 (zIj_isC b u _) ⟨_, rfl, rfl⟩ [vL ((60 : Int64) * x4), vL ((30 : Int64) * (Int32.toInt64 x5))] rfl rfl (Nat.le_of_ble_eq_true rfl) (by decide) dX4_overPay_68 (k_X4_round _ _ hc_) ?_
      refine j_fg [3] [some (vA (some b)), some (vI a1), some (vI a2), none, none, none] rfl ?_
      cases hf
      exact kj34
    · refine j_aload_n (pc := 37) hX dX4_overPay_37 rfl ?_
      refine j_iload_n (pc := 38) hX dX4_overPay_38 rfl ?_
      refine j_iload_n (pc := 39) hX dX4_overPay_39 rfl ?_
      obtain ⟨x9, w8, hc_, hf⟩ := zB2_e hf
      refine j_callV (pc := 40) hX (ci := 3) mt_X4_payOn q2502 q2504 qs35 (zIj_isC b u _) ⟨_, rfl, rfl⟩ [vI a1, vI x1] rfl rfl (Nat.le_of_ble_eq_true rfl) (by decide) dX4_overPay_40 (k_X4_payOn _ _ hc_) ?_
      refine j_goto (pc := 43) hX 71 dX4_overPay_43 rfl ?_
      refine j_fg [3] [some (vA (some b)), some (vI a1), some (vI a2), none, none, none] rfl ?_
      cases hf
      exact kj34
  have hf := hm_
  refine j_icmp_le (pc := 10) hX 19 dX4_overPay_10 rfl hf (fun h_ hf => ?_) (fun h_ hf => ?_)
  · refine j_bipush (pc := 19) hX (7 : Int32) dX4_overPay_19 (by decide +kernel) ?_
    refine j_iload_n (pc := 21) hX dX4_overPay_21 rfl ?_
    refine j_imul (pc := 22) hX dX4_overPay_22 ?_
    refine j_bipush (pc := 23) hX (6 : Int32) dX4_overPay_23 (by decide +kernel) ?_
    refine j_iadd (pc := 25) hX dX4_overPay_25 ?_
    cases hf
    exact kj10
  · refine j_sipush (pc := 13) hX (719 : Int32) dX4_overPay_13 (by decide +kernel) ?_
    refine j_goto (pc := 16) hX 26 dX4_overPay_16 rfl ?_
    cases hf
    exact kj10
def f_X4_baseOf_L8b (n : Nat) (c1 : Int32) (c2 : Int32) (rec : Int64 → Int32 → zM → Option (Int64 × zM)) (v3 : Int64) (v5 : Int32) (w : zM) : Option (Int64 × zM) :=
  if (((30 : Int32) * c2) + (30 : Int32)) ≤ v5 then
    some (v3, w)
  else
    (rIM w 4 10 c1).bind fun x1 =>
    zB2 (
      if x1 = (1 : Int32) then
        (rIM w 8 7200 (((720 : Int32) * c1) + v5)).bind fun x6 =>
        zB2 (f_X4_payOn n c1 v5 w) fun x8 w7 =>
        some (((Int32.toInt64 x6) * x8), w7)
      else
        zB2 (f_X4_isOf n c1 v5 w) fun x3 w2 =>
        if x3 = (0 : Int32) then
          some ((0 : Int64), w2)
        else
          zB2 (f_X4_payOn n c1 v5 w2) fun x5 w4 =>
          some (x5, w4)
      ) fun x9 w10 =>
    rec (v3 + x9) (v5 + (1)) w10
def f_X4_baseOf_L8 (n : Nat) (c1 : Int32) (c2 : Int32) : Nat → Int64 → Int32 → zM → Option (Int64 × zM)
  | 0, _, _, _ => none
  | k + 1, v3, v5, w => f_X4_baseOf_L8b n c1 c2 (f_X4_baseOf_L8 n c1 c2 k) v3 v5 w
def f_X4_baseOf_L114b (n : Nat) (c1 : Int32) (c2 : Int32) (rec : Int64 → Int32 → zM → Option (Int64 × zM)) (v5 : Int64) (v7 : Int32) (w : zM) : Option (Int64 × zM) :=
  if (103 : Int32) ≤ v7 then
    some (v5, w)
  else
    (
      if (((7 : Int32) * v7) + (6 : Int32)) ≤ (719 : Int32) then
        some (((7 : Int32) * v7) + (6 : Int32))
      else
        some (719 : Int32)
      ).bind fun x17 =>
    zB2 (
      if (x17 / (30 : Int32)) = c2 then
        zB2 (f_X4_overPay n c1 v7 w) fun x19 w18 =>
        some (x19, w18)
      else
        some ((0 : Int64), w)
      ) fun x20 w21 =>
    rec (v5 + x20) (v7 + (1)) w21
def f_X4_baseOf_L114 (n : Nat) (c1 : Int32) (c2 : Int32) : Nat → Int64 → Int32 → zM → Option (Int64 × zM)
  | 0, _, _, _ => none
  | k + 1, v5, v7, w => f_X4_baseOf_L114b n c1 c2 (f_X4_baseOf_L114 n c1 c2 k) v5 v7 w
def f_X4_baseOf_L185b (n : Nat) (c1 : Int32) (c2 : Int32) (rec : Int64 → Int32 → zM → Option (Int64 × zM)) (v5 : Int64) (v7 : Int32) (w : zM) : Option (Int64 × zM) :=
  if (mI w 17) ≤ v7 then
    some (v5, w)
  else
    (rIM w 14 30 v7).bind fun x24 =>
    (
      if x24 = c1 then
        (rIM w 16 30 v7).bind fun x25 =>
        if x25 = (1 : Int32) then
          (rIM w 15 30 v7).bind fun x26 =>
          if (x26 / (30 : Int32)) = c2 then
            (rIM w 4 10 c1).bind fun x27 =>
            if x27 = (1 : Int32) then
              some (1 : Int32)
            else
              some (0 : Int32)
          else
            some (0 : Int32)
        else
          some (0 : Int32)
      else
        some (0 : Int32)
      ).bind fun x28 =>
    zB2 (
      if x28 = (0 : Int32) then
        some ((0 : Int64), w)
      else
        (rIM w 5 10 c1).bind fun x29 =>
        (rIM w 15 30 v7).bind fun x30 =>
        zB2 (f_X4_payOn n c1 x30 w) fun x32 w31 =>
        zB2 (f_X4_round n ((Int32.toInt64 x29) * x32) (60 : Int64) w31) fun x34 w33 =>
        some (x34, w33)
      ) fun x35 w36 =>
    rec (v5 + x35) (v7 + (1)) w36
def f_X4_baseOf_L185 (n : Nat) (c1 : Int32) (c2 : Int32) : Nat → Int64 → Int32 → zM → Option (Int64 × zM)
  | 0, _, _, _ => none
  | k + 1, v5, v7, w => f_X4_baseOf_L185b n c1 c2 (f_X4_baseOf_L185 n c1 c2 k) v5 v7 w
def f_X4_baseOf (n : Nat) (a1 : Int32) (a2 : Int32) (w : zM) : Option (Int64 × zM) :=
  zB2 (f_X4_baseOf_L8 n a1 a2 n (0 : Int64) ((30 : Int32) * a2) w) fun x11 w12 =>
  (rIM w12 4 10 a1).bind fun x13 =>
  (
    if x13 = (1 : Int32) then
      some (60 : Int64)
    else
      some (30 : Int64)
    ).bind fun x14 =>
  zB2 (f_X4_round n x11 x14 w12) fun x16 w15 =>
  zB2 (f_X4_baseOf_L114 n a1 a2 n x16 (0 : Int32) w15) fun x22 w23 =>
  zB2 (f_X4_baseOf_L185 n a1 a2 n x22 (0 : Int32) w23) fun x37 w38 =>
  some (x37, w38)
theorem mt_X4_baseOf : zMt yX4_baseOf cX4_baseOf 9 (some .long) 2 := ⟨q2554, q82, ⟨by decide, by decide⟩, by decide +kernel, by decide⟩
set_option maxHeartbeats 4000000 in
theorem lp_X4_baseOf_L8 {X : zX} {b : Nat} {u : zWd} (hX : zGd X RX4 cX4_baseOf 9 (some .long) 4) (n : Nat) (c1 : Int32) (c2 : Int32) : ∀ (k : Nat) (v3 : Int64) (v5 : Int32) (w : zM) (o3 : Int64) (w9 : zM) , f_X4_baseOf_L8 n c1 c2 k v3 v5 w = some (o3, w9) → zJ X 85 [some (vA (some b)), some (vI c1), some (vI c2), some (vL o3), none, none, none, none, none] [] (zIj b u w9) → zJ X 8 [some (vA (some b)), some (vI c1), some (vI c2), some (vL v3), none, some (vI v5), none, none, none] [] (zIj b u w) := by
  intro k
  induction k with
  | zero => intro v3 v5 w o3 w9 hf _; exact nomatch (show (none : Option (Int64 × zM)) = _ from hf)
  | succ k ih =>
    intro v3 v5 w o3 w9 hf kx
    have hf : f_X4_baseOf_L8b n c1 c2 (f_X4_baseOf_L8 n c1 c2 k) v3 v5 w = _ := hf
    unfold f_X4_baseOf_L8b at hf
    refine j_iload (pc := 8) hX dX4_baseOf_8 rfl ?_
    refine j_bipush (pc := 10) hX (30 : Int32) dX4_baseOf_10 (by decide +kernel) ?_
    refine j_iload_n (pc := 12) hX dX4_baseOf_12 rfl ?_
    refine j_imul (pc := 13) hX dX4_baseOf_13 ?_
    refine j_bipush (pc := 14) hX (30 : Int32) dX4_baseOf_14 (by decide +kernel) ?_
    refine j_iadd (pc := 16) hX dX4_baseOf_16 ?_
    refine j_icmp_ge (pc := 17) hX 85 dX4_baseOf_17 rfl hf (fun h_ hf => ?_) (fun h_ hf => ?_)
    · refine j_fg [5] [some (vA (some b)), some (vI c1), some (vI c2), some (vL v3), none, none, none, none, none] rfl ?_
      cases hf
      exact kx
    · refine j_lload_n (pc := 20) hX dX4_baseOf_20 rfl ?_
      refine j_aload_n (pc := 21) hX dX4_baseOf_21 rfl ?_
      refine mg_A (pc := 22) hX 4 (by decide) 5 1 rfl rfl (by decide) q2249 dX4_baseOf_22 ?_
      refine j_iload_n (pc := 25) hX dX4_baseOf_25 rfl ?_
      refine mr_I (pc := 26) hX 4 10 5 (by decide) rfl rfl rfl dX4_baseOf_26 hf (fun x1 hx_ hf => ?_)
      refine j_iconst (pc := 27) hX (1 : Int32) dX4_baseOf_27 rfl ?_
      obtain ⟨x9, w10, hm_, hf⟩ := zB2_e hf
      have kj28 : zJ X 77 [some (vA (some b)), some (vI c1), some (vI c2), none, none, some (vI v5), none, none, none] [vL x9, vL v3] (zIj b u w10) := by
        clear hm_
        refine j_ladd (pc := 77) hX dX4_baseOf_77 ?_
        refine j_lstore_n (pc := 78) hX dX4_baseOf_78 (by decide) [some (vA (some b)), some (vI c1), some (vI c2), some (vL (v3 + x9)), none, some (vI v5), none, none, none] rfl ?_
        refine j_iinc (pc := 79) hX (1) dX4_baseOf_79 rfl rfl (by decide) [some (vA (some b)), some (vI c1), some (vI c2), some (vL (v3 + x9)), none, some (vI (v5 + (1))), none, none, none] rfl ?_
        refine j_goto (pc := 82) hX 8 dX4_baseOf_82 rfl ?_
        exact ih _ _ _ _ _ hf kx
      have hf := hm_
      refine j_icmp_ne (pc := 28) hX 56 dX4_baseOf_28 rfl hf (fun h_ hf => ?_) (fun h_ hf => ?_)
      · refine j_aload_n (pc := 56) hX dX4_baseOf_56 rfl ?_
        refine j_iload_n (pc := 57) hX dX4_baseOf_57 rfl ?_
        refine j_iload (pc := 58) hX dX4_baseOf_58 rfl ?_
        obtain ⟨x3, w2, hc_, hf⟩ := zB2_e hf
        refine j_callV (pc := 60) hX (ci := 3) mt_X4_isOf q2512 q2514 qs36 (zIj_isC b u _) ⟨_, rfl, rfl⟩ [vI c1, vI v5] rfl rfl (Nat.le_of_ble_eq_true rfl) (by decide) dX4_baseOf_60 (k_X4_isOf _ _ hc_) ?_
        refine j_if_eq (pc := 63) hX 76 dX4_baseOf_63 rfl hf (fun h_ hf => ?_) (fun h_ hf => ?_)
        · refine j_lconst (pc := 76) hX (0 : Int64) dX4_baseOf_76 rfl ?_
          refine j_fg [3] [some (vA (some b)), some (vI c1), some (vI c2), none, none, some (vI v5), none, none, none] rfl ?_
          cases hf
          exact kj28
        · refine j_aload_n (pc := 66) hX dX4_baseOf_66 rfl ?_
          refine j_iload_n (pc := 67) hX dX4_baseOf_67 rfl ?_
          refine j_iload (pc := 68) hX dX4_baseOf_68 rfl ?_
          obtain ⟨x5, w4, hc_, hf⟩ := zB2_e hf
          refine j_callV (pc := 70) hX (ci := 3) mt_X4_payOn q2502 q2504 qs35 (zIj_isC b u _) ⟨_, rfl, rfl⟩ [vI c1, vI v5] rfl rfl (Nat.le_of_ble_eq_true rfl) (by decide) dX4_baseOf_70 (k_X4_payOn _ _ hc_) ?_
          refine j_goto (pc := 73) hX 77 dX4_baseOf_73 rfl ?_
          refine j_fg [3] [some (vA (some b)), some (vI c1), some (vI c2), none, none, some (vI v5), none, none, none] rfl ?_
          cases hf
          exact kj28
      · refine j_aload_n (pc := 31) hX dX4_baseOf_31 rfl ?_
        refine mg_A (pc := 32) hX 8 (by decide) 9 1 rfl rfl (by decide) q2253 dX4_baseOf_32 ?_
        refine j_sipush (pc := 35) hX (720 : Int32) dX4_baseOf_35 (by decide +kernel) ?_
        refine j_iload_n (pc := 38) hX dX4_baseOf_38 rfl ?_
        refine j_imul (pc := 39) hX dX4_baseOf_39 ?_
        refine j_iload (pc := 40) hX dX4_baseOf_40 rfl ?_
        refine j_iadd (pc := 42) hX dX4_baseOf_42 ?_
        refine mr_I (pc := 43) hX 8 7200 9 (by decide) rfl rfl rfl dX4_baseOf_43 hf (fun x6 hx_ hf => ?_)
        refine j_i2l (pc := 44) hX dX4_baseOf_44 ?_
        refine j_aload_n (pc := 45) hX dX4_baseOf_45 rfl ?_
        refine j_iload_n (pc := 46) hX dX4_baseOf_46 rfl ?_
        refine j_iload (pc := 47) hX dX4_baseOf_47 rfl ?_
        obtain ⟨x8, w7, hc_, hf⟩ := zB2_e hf
        refine j_callV (pc := 49) hX (ci := 3) mt_X4_payOn q2502 q2504 qs35 (zIj_isC b u _) ⟨_, rfl, rfl⟩ [vI c1, vI v5] rfl rfl (Nat.le_of_ble_eq_true rfl) (by decide) dX4_baseOf_49 (k_X4_payOn _ _ hc_) ?_
        refine j_lmul (pc := 52) hX dX4_baseOf_52 ?_
        refine j_goto (pc := 53) hX 77 dX4_baseOf_53 rfl ?_
        refine j_fg [3] [some (vA (some b)), some (vI c1), some (vI c2), none, none, some (vI v5), none, none, none] rfl ?_
        cases hf
        exact kj28
set_option maxHeartbeats 4000000 in
theorem lp_X4_baseOf_L114 {X : zX} {b : Nat} {u : zWd} (hX : zGd X RX4 cX4_baseOf 9 (some .long) 4) (n : Nat) (c1 : Int32) (c2 : Int32) : ∀ (k : Nat) (v5 : Int64) (v7 : Int32) (w : zM) (o5 : Int64) (w9 : zM) , f_X4_baseOf_L114 n c1 c2 k v5 v7 w = some (o5, w9) → zJ X 182 [some (vA (some b)), some (vI c1), some (vI c2), none, none, some (vL o5), none, none, none] [] (zIj b u w9) → zJ X 114 [some (vA (some b)), some (vI c1), some (vI c2), none, none, some (vL v5), none, some (vI v7), none] [] (zIj b u w) := by
  intro k
  induction k with
  | zero => intro v5 v7 w o5 w9 hf _; exact nomatch (show (none : Option (Int64 × zM)) = _ from hf)
  | succ k ih =>
    intro v5 v7 w o5 w9 hf kx
    have hf : f_X4_baseOf_L114b n c1 c2 (f_X4_baseOf_L114 n c1 c2 k) v5 v7 w = _ := hf
    unfold f_X4_baseOf_L114b at hf
    refine j_iload (pc := 114) hX dX4_baseOf_114 rfl ?_
    refine j_bipush (pc := 116) hX (103 : Int32) dX4_baseOf_116 (by decide +kernel) ?_
    refine j_icmp_ge (pc := 118) hX 182 dX4_baseOf_118 rfl hf (fun h_ hf => ?_) (fun h_ hf => ?_)
    · refine j_fg [7] [some (vA (some b)), some (vI c1), some (vI c2), none, none, some (vL v5), none, none, none] rfl ?_
      cases hf
      exact kx
    · refine j_bipush (pc := 121) hX (7 : Int32) dX4_baseOf_121 (by decide +kernel) ?_
      refine j_iload (pc := 123) hX dX4_baseOf_123 rfl ?_
      refine j_imul (pc := 125) hX dX4_baseOf_125 ?_
      refine j_bipush (pc := 126) hX (6 : Int32) dX4_baseOf_126 (by decide +kernel) ?_
      refine j_iadd (pc := 128) hX dX4_baseOf_128 ?_
      refine j_sipush (pc := 129) hX (719 : Int32) dX4_baseOf_129 (by decide +kernel) ?_
      obtain ⟨x17, hm_, hf⟩ := zob hf
      have kj132 : zJ X 149 [some (vA (some b)), some (vI c1), some (vI c2), none, none, some (vL v5), none, some (vI v7), none] [vI x17] (zIj b u w) := by
        clear hm_
        refine j_istore (pc := 149) hX dX4_baseOf_149 (by decide) [some (vA (some b)), some (vI c1), some (vI c2), none, none, some (vL v5), none, some (vI v7), some (vI x17)] rfl ?_
        refine j_lload (pc := 151) hX dX4_baseOf_151 rfl ?_
        refine j_iload (pc := 153) hX dX4_baseOf_153 rfl ?_
        refine j_bipush (pc := 155) hX (30 : Int32) dX4_baseOf_155 (by decide +kernel) ?_
        refine j_idiv (pc := 157) hX dX4_baseOf_157 (by decide) ?_
        refine j_iload_n (pc := 158) hX dX4_baseOf_158 rfl ?_
        obtain ⟨x20, w21, hm_, hf⟩ := zB2_e hf
        have kj159 : zJ X 173 [some (vA (some b)), some (vI c1), some (vI c2), none, none, none, none, some (vI v7), none] [vL x20, vL v5] (zIj b u w21) := by
          clear hm_
          refine j_ladd (pc := 173) hX dX4_baseOf_173 ?_
          refine j_lstore (pc := 174) hX dX4_baseOf_174 (by decide) [some (vA (some b)), some (vI c1), some (vI c2), none, none, some (vL (v5 + x20)), none, some (vI v7), none] rfl ?_
          refine j_iinc (pc := 176) hX (1) dX4_baseOf_176 rfl rfl (by decide) [some (vA (some b)), some (vI c1), some (vI c2), none, none, some (vL (v5 + x20)), none, some (vI (v7 + (1))), none] rfl ?_
          refine j_goto (pc := 179) hX 114 dX4_baseOf_179 rfl ?_
          exact ih _ _ _ _ _ hf kx
        have hf := hm_
        refine j_icmp_ne (pc := 159) hX 172 dX4_baseOf_159 rfl hf (fun h_ hf => ?_) (fun h_ hf => ?_)
        · refine j_lconst (pc := 172) hX (0 : Int64) dX4_baseOf_172 rfl ?_
          refine j_fg [5, 8] [some (vA (some b)), some (vI c1), some (vI c2), none, none, none, none, some (vI v7), none] rfl ?_
          cases hf
          exact kj159
        · refine j_aload_n (pc := 162) hX dX4_baseOf_162 rfl ?_
          refine j_iload_n (pc := 163) hX dX4_baseOf_163 rfl ?_
          refine j_iload (pc := 164) hX dX4_baseOf_164 rfl ?_
          obtain ⟨x19, w18, hc_, hf⟩ := zB2_e hf
          refine j_callV (pc := 166) hX (ci := 3) mt_X4_overPay q2564 q2566 qs45 (zIj_isC b u _) ⟨_, rfl, rfl⟩ [vI c1, vI v7] rfl rfl (Nat.le_of_ble_eq_true rfl) (by decide) dX4_baseOf_166 (k_X4_overPay _ _ hc_) ?_
          refine j_goto (pc := 169) hX 173 dX4_baseOf_169 rfl ?_
          refine j_fg [5, 8] [some (vA (some b)), some (vI c1), some (vI c2), none, none, none, none, some (vI v7), none] rfl ?_
          cases hf
          exact kj159
      have hf := hm_
      refine j_icmp_le (pc := 132) hX 141 dX4_baseOf_132 rfl hf (fun h_ hf => ?_) (fun h_ hf => ?_)
      · refine j_bipush (pc := 141) hX (7 : Int32) dX4_baseOf_141 (by decide +kernel) ?_
        refine j_iload (pc := 143) hX dX4_baseOf_143 rfl ?_
        refine j_imul (pc := 145) hX dX4_baseOf_145 ?_
        refine j_bipush (pc := 146) hX (6 : Int32) dX4_baseOf_146 (by decide +kernel) ?_
        refine j_iadd (pc := 148) hX dX4_baseOf_148 ?_
        cases hf
        exact kj132
      · refine j_sipush (pc := 135) hX (719 : Int32) dX4_baseOf_135 (by decide +kernel) ?_
        refine j_goto (pc := 138) hX 149 dX4_baseOf_138 rfl ?_
        cases hf
        exact kj132
set_option maxHeartbeats 4000000 in
theorem lp_X4_baseOf_L185 {X : zX} {b : Nat} {u : zWd} (hX : zGd X RX4 cX4_baseOf 9 (some .long) 4) (n : Nat) (c1 : Int32) (c2 : Int32) : ∀ (k : Nat) (v5 : Int64) (v7 : Int32) (w : zM) (o5 : Int64) (w9 : zM) , f_X4_baseOf_L185 n c1 c2 k v5 v7 w = some (o5, w9) → zJ X 294 [some (vA (some b)), some (vI c1), some (vI c2), none, none, some (vL o5), none, none, none] [] (zIj b u w9) → zJ X 185 [some (vA (some b)), some (vI c1), some (vI c2), none, none, some (vL v5), none, some (vI v7), none] [] (zIj b u w) := by
  intro k
  induction k with
  | zero => intro v5 v7 w o5 w9 hf _; exact nomatch (show (none : Option (Int64 × zM)) = _ from hf)
  | succ k ih =>
    intro v5 v7 w o5 w9 hf kx
    have hf : f_X4_baseOf_L185b n c1 c2 (f_X4_baseOf_L185 n c1 c2 k) v5 v7 w = _ := hf
    unfold f_X4_baseOf_L185b at hf
    refine j_iload (pc := 185) hX dX4_baseOf_185 rfl ?_
    refine j_aload_n (pc := 187) hX dX4_baseOf_187 rfl ?_
    refine mg_I (pc := 188) hX 17 (by decide) rfl q2262 dX4_baseOf_188 ?_
    refine j_icmp_ge (pc := 191) hX 294 dX4_baseOf_191 rfl hf (fun h_ hf => ?_) (fun h_ hf => ?_)
    · refine j_fg [7] [some (vA (some b)), some (vI c1), some (vI c2), none, none, some (vL v5), none, none, none] rfl ?_
      cases hf
      exact kx
    · refine j_aload_n (pc := 194) hX dX4_baseOf_194 rfl ?_
      refine mg_A (pc := 195) hX 14 (by decide) 13 1 rfl rfl (by decide) q2259 dX4_baseOf_195 ?_
      refine j_iload (pc := 198) hX dX4_baseOf_198 rfl ?_
      refine mr_I (pc := 200) hX 14 30 13 (by decide) rfl rfl rfl dX4_baseOf_200 hf (fun x24 hx_ hf => ?_)
      refine j_iload_n (pc := 201) hX dX4_baseOf_201 rfl ?_
      obtain ⟨x28, hm_, hf⟩ := zob hf
      have kj202 : zJ X 245 [some (vA (some b)), some (vI c1), some (vI c2), none, none, some (vL v5), none, some (vI v7), none] [vI x28] (zIj b u w) := by
        clear hm_
        refine j_istore (pc := 245) hX dX4_baseOf_245 (by decide) [some (vA (some b)), some (vI c1), some (vI c2), none, none, some (vL v5), none, some (vI v7), some (vI x28)] rfl ?_
        refine j_lload (pc := 247) hX dX4_baseOf_247 rfl ?_
        refine j_iload (pc := 249) hX dX4_baseOf_249 rfl ?_
        obtain ⟨x35, w36, hm_, hf⟩ := zB2_e hf
        have kj251 : zJ X 285 [some (vA (some b)), some (vI c1), some (vI c2), none, none, none, none, some (vI v7), none] [vL x35, vL v5] (zIj b u w36) := by
          clear hm_
          refine j_ladd (pc := 285) hX dX4_baseOf_285 ?_
          refine j_lstore (pc := 286) hX dX4_baseOf_286 (by decide) [some (vA (some b)), some (vI c1), some (vI c2), none, none, some (vL (v5 + x35)), none, some (vI v7), none] rfl ?_
          refine j_iinc (pc := 288) hX (1) dX4_baseOf_288 rfl rfl (by decide) [some (vA (some b)), some (vI c1), some (vI c2), none, none, some (vL (v5 + x35)), none, some (vI (v7 + (1))), none] rfl ?_
          refine j_goto (pc := 291) hX 185 dX4_baseOf_291 rfl ?_
          exact ih _ _ _ _ _ hf kx
        have hf := hm_
        refine j_if_eq (pc := 251) hX 284 dX4_baseOf_251 rfl hf (fun h_ hf => ?_) (fun h_ hf => ?_)
        · refine j_lconst (pc := 284) hX (0 : Int64) dX4_baseOf_284 rfl ?_
          refine j_fg [5, 8] [some (vA (some b)), some (vI c1), some (vI c2), none, none, none, none, some (vI v7), none] rfl ?_
          cases hf
          exact kj251
        · refine j_aload_n (pc := 254) hX dX4_baseOf_254 rfl ?_
          refine j_aload_n (pc := 255) hX dX4_baseOf_255 rfl ?_
          refine mg_A (pc := 256) hX 5 (by decide) 6 1 rfl rfl (by decide) q2250 dX4_baseOf_256 ?_
          refine j_iload_n (pc := 259) hX dX4_baseOf_259 rfl ?_
          refine mr_I (pc := 260) hX 5 10 6 (by decide) rfl rfl rfl dX4_baseOf_260 hf (fun x29 hx_ hf => ?_)
          refine j_i2l (pc := 261) hX dX4_baseOf_261 ?_
          refine j_aload_n (pc := 262) hX dX4_baseOf_262 rfl ?_
          refine j_iload_n (pc := 263) hX dX4_baseOf_263 rfl ?_
          refine j_aload_n (pc := 264) hX dX4_baseOf_264 rfl ?_
          refine mg_A (pc := 265) hX 15 (by decide) 14 1 rfl rfl (by decide) q2260 dX4_baseOf_265 ?_
          refine j_iload (pc := 268) hX dX4_baseOf_268 rfl ?_
          refine mr_I (pc := 270) hX 15 30 14 (by decide) rfl rfl rfl dX4_baseOf_270 hf (fun x30 hx_ hf => ?_)
          obtain ⟨x32, w31, hc_, hf⟩ := zB2_e hf
          refine j_callV (pc := 271) hX (ci := 3) mt_X4_payOn q2502 q2504 qs35 (zIj_isC b u _) ⟨_, rfl, rfl⟩ [vI c1, vI x30] rfl rfl (Nat.le_of_ble_eq_true rfl) (by decide) dX4_baseOf_271 (k_X4_payOn _ _ hc_) ?_
          refine j_lmul (pc := 274) hX dX4_baseOf_274 ?_
          refine j_ldc2 (pc := 275) hX q2483 dX4_baseOf_275 ?_
          obtain ⟨x34, w33, hc_, hf⟩ := zB2_e hf
          refine j_callV (pc := 278) hX (ci := 3) mt_X4_round q2556 q2558 qs43 (zIj_isC b u _) ⟨_, rfl, rfl⟩ [vL ((Int32.toInt64 x29) * x32), vL (60 : Int64)] rfl rfl (Nat.le_of_ble_eq_true rfl) (by decide) dX4_baseOf_278 (k_X4_round _ _ hc_) ?_
          refine j_goto (pc := 281) hX 285 dX4_baseOf_281 rfl ?_
          refine j_fg [5, 8] [some (vA (some b)), some (vI c1), some (vI c2), none, none, none, none, some (vI v7), none] rfl ?_
          cases hf
          exact kj251
      have hf := hm_
      refine j_icmp_ne (pc := 202) hX 244 dX4_baseOf_202 rfl hf (fun h_ hf => ?_) (fun h_ hf => ?_)
      · refine j_iconst (pc := 244) hX (0 : Int32) dX4_baseOf_244 rfl ?_
        cases hf
        exact kj202
      · refine j_aload_n (pc := 205) hX dX4_baseOf_205 rfl ?_
        refine mg_A (pc := 206) hX 16 (by decide) 15 1 rfl rfl (by decide) q2261 dX4_baseOf_206 ?_
        refine j_iload (pc := 209) hX dX4_baseOf_209 rfl ?_
        refine mr_I (pc := 211) hX 16 30 15 (by decide) rfl rfl rfl dX4_baseOf_211 hf (fun x25 hx_ hf => ?_)
        refine j_iconst (pc := 212) hX (1 : Int32) dX4_baseOf_212 rfl ?_
        refine j_icmp_ne (pc := 213) hX 244 dX4_baseOf_213 rfl hf (fun h_ hf => ?_) (fun h_ hf => ?_)
        · refine j_iconst (pc := 244) hX (0 : Int32) dX4_baseOf_244 rfl ?_
          cases hf
          exact kj202
        · refine j_aload_n (pc := 216) hX dX4_baseOf_216 rfl ?_
          refine mg_A (pc := 217) hX 15 (by decide) 14 1 rfl rfl (by decide) q2260 dX4_baseOf_217 ?_
          refine j_iload (pc := 220) hX dX4_baseOf_220 rfl ?_
          refine mr_I (pc := 222) hX 15 30 14 (by decide) rfl rfl rfl dX4_baseOf_222 hf (fun x26 hx_ hf => ?_)
          refine j_bipush (pc := 223) hX (30 : Int32) dX4_baseOf_223 (by decide +kernel) ?_
          refine j_idiv (pc := 225) hX dX4_baseOf_225 (by decide) ?_
          refine j_iload_n (pc := 226) hX dX4_baseOf_226 rfl ?_
          refine j_icmp_ne (pc := 227) hX 244 dX4_baseOf_227 rfl hf (fun h_ hf => ?_) (fun h_ hf => ?_)
          · refine j_iconst (pc := 244) hX (0 : Int32) dX4_baseOf_244 rfl ?_
            cases hf
            exact kj202
          · refine j_aload_n (pc := 230) hX dX4_baseOf_230 rfl ?_
            refine mg_A (pc := 231) hX 4 (by decide) 5 1 rfl rfl (by decide) q2249 dX4_baseOf_231 ?_
            refine j_iload_n (pc := 234) hX dX4_baseOf_234 rfl ?_
            refine mr_I (pc := 235) hX 4 10 5 (by decide) rfl rfl rfl dX4_baseOf_235 hf (fun x27 hx_ hf => ?_)
            refine j_iconst (pc := 236) hX (1 : Int32) dX4_baseOf_236 rfl ?_
            refine j_icmp_ne (pc := 237) hX 244 dX4_baseOf_237 rfl hf (fun h_ hf => ?_) (fun h_ hf => ?_)
            · refine j_iconst (pc := 244) hX (0 : Int32) dX4_baseOf_244 rfl ?_
              cases hf
              exact kj202
            · refine j_iconst (pc := 240) hX (1 : Int32) dX4_baseOf_240 rfl ?_
              refine j_goto (pc := 241) hX 245 dX4_baseOf_241 rfl ?_
              cases hf
              exact kj202
set_option maxHeartbeats 4000000 in
theorem k_X4_baseOf {l : Launch} {n : Nat} {a1 : Int32} {a2 : Int32} {b : Nat} {u : zWd} {w : zM} (r : Int64) (w9 : zM) (hf : f_X4_baseOf n a1 a2 w = some (r, w9)) : zCt l yX4_baseOf cX4_baseOf 9 (some .long) 4 [vA (some b), vI a1, vI a2] (zIj b u w) (.inr (some (vL r), (zIj b u w9))) := by
  refine zCt_of (lv := [some (vA (some b)), some (vI a1), some (vI a2), none, none, none, none, none, none]) (by decide +kernel) 6 rfl rfl ?_
  intro X hX hI hN hQ
  have hX : zGd X RX4 cX4_baseOf 9 (some .long) 4 := hX
  unfold f_X4_baseOf at hf
  refine j_lconst (pc := 0) hX (0 : Int64) dX4_baseOf_0 rfl ?_
  refine j_lstore_n (pc := 1) hX dX4_baseOf_1 (by decide) [some (vA (some b)), some (vI a1), some (vI a2), some (vL (0 : Int64)), none, none, none, none, none] rfl ?_
  refine j_bipush (pc := 2) hX (30 : Int32) dX4_baseOf_2 (by decide +kernel) ?_
  refine j_iload_n (pc := 4) hX dX4_baseOf_4 rfl ?_
  refine j_imul (pc := 5) hX dX4_baseOf_5 ?_
  refine j_istore (pc := 6) hX dX4_baseOf_6 (by decide) [some (vA (some b)), some (vI a1), some (vI a2), some (vL (0 : Int64)), none, some (vI ((30 : Int32) * a2)), none, none, none] rfl ?_
  obtain ⟨x11, w12, hm_, hf⟩ := zB2_e hf
  refine lp_X4_baseOf_L8 hX n _ _ _ _ _ _ _ _ hm_ ?_
  refine j_aload_n (pc := 85) hX dX4_baseOf_85 rfl ?_
  refine j_lload_n (pc := 86) hX dX4_baseOf_86 rfl ?_
  refine j_aload_n (pc := 87) hX dX4_baseOf_87 rfl ?_
  refine mg_A (pc := 88) hX 4 (by decide) 5 1 rfl rfl (by decide) q2249 dX4_baseOf_88 ?_
  refine j_iload_n (pc := 91) hX dX4_baseOf_91 rfl ?_
  refine mr_I (pc := 92) hX 4 10 5 (by decide) rfl rfl rfl dX4_baseOf_92 hf (fun x13 hx_ hf => ?_)
  refine j_iconst (pc := 93) hX (1 : Int32) dX4_baseOf_93 rfl ?_
  obtain ⟨x14, hm_, hf⟩ := zob hf
  have kj94 : zJ X 106 [some (vA (some b)), some (vI a1), some (vI a2), none, none, none, none, none, none] [vL x14, vL x11, vA (some b)] (zIj b u w12) := by
    clear hm_
    obtain ⟨x16, w15, hc_, hf⟩ := zB2_e hf
    refine j_callV (pc := 106) hX (ci := 3) mt_X4_round q2556 q2558 qs43 (zIj_isC b u _) ⟨_, rfl, rfl⟩ [vL x11, vL x14] rfl rfl (Nat.le_of_ble_eq_true rfl) (by decide) dX4_baseOf_106 (k_X4_round _ _ hc_) ?_
    refine j_lstore (pc := 109) hX dX4_baseOf_109 (by decide) [some (vA (some b)), some (vI a1), some (vI a2), none, none, some (vL x16), none, none, none] rfl ?_
    refine j_iconst (pc := 111) hX (0 : Int32) dX4_baseOf_111 rfl ?_
    refine j_istore (pc := 112) hX dX4_baseOf_112 (by decide) [some (vA (some b)), some (vI a1), some (vI a2), none, none, some (vL x16), none, some (vI (0 : Int32)), none] rfl ?_
    obtain ⟨x22, w23, hm_, hf⟩ := zB2_e hf
    refine lp_X4_baseOf_L114 hX n _ _ _ _ _ _ _ _ hm_ ?_
    refine j_iconst (pc := 182) hX (0 : Int32) dX4_baseOf_182 rfl ?_
    refine j_istore (pc := 183) hX dX4_baseOf_183 (by decide) [some (vA (some b)), some (vI a1), some (vI a2), none, none, some (vL x22), none, some (vI (0 : Int32)), none] rfl ?_
    obtain ⟨x37, w38, hm_, hf⟩ := zB2_e hf
    refine lp_X4_baseOf_L185 hX n _ _ _ _ _ _ _ _ hm_ ?_
    refine j_lload (pc := 294) hX dX4_baseOf_294 rfl ?_
    exact j_lreturn (pc := 296) hX hQ (by cases hf; rfl) dX4_baseOf_296
  have hf := hm_
  refine j_icmp_ne (pc := 94) hX 103 dX4_baseOf_94 rfl hf (fun h_ hf => ?_) (fun h_ hf => ?_)
  · refine j_ldc2 (pc := 103) hX q2555 dX4_baseOf_103 ?_
    refine j_fg [3] [some (vA (some b)), some (vI a1), some (vI a2), none, none, none, none, none, none] rfl ?_
    cases hf
    exact kj94
  · refine j_ldc2 (pc := 97) hX q2483 dX4_baseOf_97 ?_
    refine j_goto (pc := 100) hX 106 dX4_baseOf_100 rfl ?_
    refine j_fg [3] [some (vA (some b)), some (vI a1), some (vI a2), none, none, none, none, none, none] rfl ?_
    cases hf
    exact kj94
def f_X4_base (n : Nat) (a1 : Int32) (a2 : Int32) (w : zM) : Option (Int64 × zM) :=
  zB2 (f_X4_isContract n a1 w) fun x2 w1 =>
  zB2 (
    if x2 = (0 : Int32) then
      some ((1 : Int32), w1)
    else
      zB2 (f_X4_isMonth n a2 w1) fun x4 w3 =>
      if x4 = (0 : Int32) then
        some ((1 : Int32), w3)
      else
        some ((0 : Int32), w3)
    ) fun x5 w6 =>
  zB2 (f_X4_holds n x5 w6) fun x8 w7 =>
  if x8 = (0 : Int32) then
    (rIM w7 0 10 a1).bind fun x9 =>
    (f_X4_takes n x9 (720 : Int32) w7).bind fun w10 =>
    zB2 (f_X4_baseOf n a1 a2 w10) fun x12 w11 =>
    some (x12, w11)
  else
    some ((-1 : Int64), w7)
theorem mt_X4_base : zMt yX4_base cX4_base 3 (some .long) 2 := ⟨q2536, q82, ⟨by decide, by decide⟩, by decide +kernel, by decide⟩
set_option maxHeartbeats 4000000 in
theorem k_X4_base {l : Launch} {n : Nat} {a1 : Int32} {a2 : Int32} {b : Nat} {u : zWd} {w : zM} (r : Int64) (w9 : zM) (hf : f_X4_base n a1 a2 w = some (r, w9)) : zCt l yX4_base cX4_base 3 (some .long) 5 [vA (some b), vI a1, vI a2] (zIj b u w) (.inr (some (vL r), (zIj b u w9))) := by
  refine zCt_of (lv := [some (vA (some b)), some (vI a1), some (vI a2)]) (by decide +kernel) 0 rfl rfl ?_
  intro X hX hI hN hQ
  have hX : zGd X RX4 cX4_base 3 (some .long) 5 := hX
  unfold f_X4_base at hf
  refine j_aload_n (pc := 0) hX dX4_base_0 rfl ?_
  refine j_aload_n (pc := 1) hX dX4_base_1 rfl ?_
  refine j_iload_n (pc := 2) hX dX4_base_2 rfl ?_
  obtain ⟨x2, w1, hc_, hf⟩ := zB2_e hf
  refine j_callV (pc := 3) hX (ci := 3) mt_X4_isContract q2498 q2500 qs34 (zIj_isC b u _) ⟨_, rfl, rfl⟩ [vI a1] rfl rfl (Nat.le_of_ble_eq_true rfl) (by decide) dX4_base_3 (k_X4_isContract _ _ hc_) ?_
  obtain ⟨x5, w6, hm_, hf⟩ := zB2_e hf
  have kj6 : zJ X 22 [some (vA (some b)), some (vI a1), some (vI a2)] [vI x5, vA (some b)] (zIj b u w6) := by
    clear hm_
    obtain ⟨x8, w7, hc_, hf⟩ := zB2_e hf
    refine j_callV (pc := 22) hX (ci := 3) mt_X4_holds q2486 q2488 qs32 (zIj_isC b u _) ⟨_, rfl, rfl⟩ [vI x5] rfl rfl (Nat.le_of_ble_eq_true rfl) (by decide) dX4_base_22 (k_X4_holds _ _ hc_) ?_
    refine j_if_eq (pc := 25) hX 32 dX4_base_25 rfl hf (fun h_ hf => ?_) (fun h_ hf => ?_)
    · refine j_aload_n (pc := 32) hX dX4_base_32 rfl ?_
      refine j_aload_n (pc := 33) hX dX4_base_33 rfl ?_
      refine mg_A (pc := 34) hX 0 (by decide) 1 1 rfl rfl (by decide) q2245 dX4_base_34 ?_
      refine j_iload_n (pc := 37) hX dX4_base_37 rfl ?_
      refine mr_I (pc := 38) hX 0 10 1 (by decide) rfl rfl rfl dX4_base_38 hf (fun x9 hx_ hf => ?_)
      refine j_sipush (pc := 39) hX (720 : Int32) dX4_base_39 (by decide +kernel) ?_
      obtain ⟨w10, hc_, hf⟩ := zob hf
      refine j_callV (pc := 42) hX (ci := 3) mt_X4_takes q2543 q2545 qs40 (zIj_isC b u _) ⟨_, rfl, rfl⟩ [vI x9, vI (720 : Int32)] rfl rfl (Nat.le_of_ble_eq_true rfl) (by decide) dX4_base_42 (k_X4_takes () _ hc_) ?_
      refine j_aload_n (pc := 45) hX dX4_base_45 rfl ?_
      refine j_iload_n (pc := 46) hX dX4_base_46 rfl ?_
      refine j_iload_n (pc := 47) hX dX4_base_47 rfl ?_
      obtain ⟨x12, w11, hc_, hf⟩ := zB2_e hf
      refine j_callV (pc := 48) hX (ci := 3) mt_X4_baseOf q2551 q2553 qs42 (zIj_isC b u _) ⟨_, rfl, rfl⟩ [vI a1, vI a2] rfl rfl (Nat.le_of_ble_eq_true rfl) (by decide) dX4_base_48 (k_X4_baseOf _ _ hc_) ?_
      exact j_lreturn (pc := 51) hX hQ (by cases hf; rfl) dX4_base_51
    · refine j_ldc2 (pc := 28) hX q2542 dX4_base_28 ?_
      exact j_lreturn (pc := 31) hX hQ (by cases hf; rfl) dX4_base_31
  have hf := hm_
  refine j_if_eq (pc := 6) hX 21 dX4_base_6 rfl hf (fun h_ hf => ?_) (fun h_ hf => ?_)
  · refine j_iconst (pc := 21) hX (1 : Int32) dX4_base_21 rfl ?_
    cases hf
    exact kj6
  · refine j_aload_n (pc := 9) hX dX4_base_9 rfl ?_
    refine j_iload_n (pc := 10) hX dX4_base_10 rfl ?_
    obtain ⟨x4, w3, hc_, hf⟩ := zB2_e hf
    refine j_callV (pc := 11) hX (ci := 3) mt_X4_isMonth q2537 q2539 qs39 (zIj_isC b u _) ⟨_, rfl, rfl⟩ [vI a2] rfl rfl (Nat.le_of_ble_eq_true rfl) (by decide) dX4_base_11 (k_X4_isMonth _ _ hc_) ?_
    refine j_if_eq (pc := 14) hX 21 dX4_base_14 rfl hf (fun h_ hf => ?_) (fun h_ hf => ?_)
    · refine j_iconst (pc := 21) hX (1 : Int32) dX4_base_21 rfl ?_
      cases hf
      exact kj6
    · refine j_iconst (pc := 17) hX (0 : Int32) dX4_base_17 rfl ?_
      refine j_goto (pc := 18) hX 22 dX4_base_18 rfl ?_
      cases hf
      exact kj6
def f_X4_leaveRule (n : Nat) (a1 : Int32) (a2 : Int32) (a3 : Int32) (w : zM) : Option zM :=
  zB2 (f_X4_in n (Int32.toInt64 a1) (0 : Int64) (50 : Int64) w) fun x2 w1 =>
  zB2 (
    if x2 = (0 : Int32) then
      some ((1 : Int32), w1)
    else
      zB2 (f_X4_in n (Int32.toInt64 a2) (0 : Int64) (500 : Int64) w1) fun x4 w3 =>
      if x4 = (0 : Int32) then
        some ((1 : Int32), w3)
      else
        zB2 (f_X4_in n (Int32.toInt64 a3) (1 : Int64) (12 : Int64) w3) fun x6 w5 =>
        if x6 = (0 : Int32) then
          some ((1 : Int32), w5)
        else
          some ((0 : Int32), w5)
    ) fun x7 w8 =>
  zB2 (f_X4_holds n x7 w8) fun x10 w9 =>
  (
    if x10 = (0 : Int32) then
      (pM w9 18 a1).bind fun w11 =>
      (pM w11 19 a2).bind fun w12 =>
      (pM w12 20 a3).bind fun w13 =>
      some w13
    else
      some w9
    ).bind fun w14 =>
  some w14
theorem mt_X4_leaveRule : zMt yX4_leaveRule cX4_leaveRule 4 none 3 := ⟨q2572, q82, ⟨by decide, by decide⟩, by decide +kernel, by decide⟩
set_option maxHeartbeats 4000000 in
theorem k_X4_leaveRule {l : Launch} {n : Nat} {a1 : Int32} {a2 : Int32} {a3 : Int32} {b : Nat} {u : zWd} {w : zM} (r : Unit) (w9 : zM) (hf : f_X4_leaveRule n a1 a2 a3 w = some w9) : zCt l yX4_leaveRule cX4_leaveRule 4 none 2 [vA (some b), vI a1, vI a2, vI a3] (zIj b u w) (.inr (none, (zIj b u w9))) := by
  refine zCt_of (lv := [some (vA (some b)), some (vI a1), some (vI a2), some (vI a3)]) (by decide +kernel) 0 rfl rfl ?_
  intro X hX hI hN hQ
  have hX : zGd X RX4 cX4_leaveRule 4 none 2 := hX
  unfold f_X4_leaveRule at hf
  refine j_aload_n (pc := 0) hX dX4_leaveRule_0 rfl ?_
  refine j_aload_n (pc := 1) hX dX4_leaveRule_1 rfl ?_
  refine j_iload_n (pc := 2) hX dX4_leaveRule_2 rfl ?_
  refine j_i2l (pc := 3) hX dX4_leaveRule_3 ?_
  refine j_lconst (pc := 4) hX (0 : Int64) dX4_leaveRule_4 rfl ?_
  refine j_ldc2 (pc := 5) hX q2573 dX4_leaveRule_5 ?_
  obtain ⟨x2, w1, hc_, hf⟩ := zB2_e hf
  refine j_callV (pc := 8) hX (ci := 3) mt_X4_in q2469 q2471 qs29 (zIj_isC b u _) ⟨_, rfl, rfl⟩ [vL (Int32.toInt64 a1), vL (0 : Int64), vL (50 : Int64)] rfl rfl (Nat.le_of_ble_eq_true rfl) (by decide) dX4_leaveRule_8 (k_X4_in _ _ hc_) ?_
  obtain ⟨x7, w8, hm_, hf⟩ := zB2_e hf
  have kj11 : zJ X 45 [some (vA (some b)), some (vI a1), some (vI a2), some (vI a3)] [vI x7, vA (some b)] (zIj b u w8) := by
    clear hm_
    obtain ⟨x10, w9, hc_, hf⟩ := zB2_e hf
    refine j_callV (pc := 45) hX (ci := 3) mt_X4_holds q2486 q2488 qs32 (zIj_isC b u _) ⟨_, rfl, rfl⟩ [vI x7] rfl rfl (Nat.le_of_ble_eq_true rfl) (by decide) dX4_leaveRule_45 (k_X4_holds _ _ hc_) ?_
    obtain ⟨w14, hm_, hf⟩ := zob hf
    have kj48 : zJ X 66 [none, none, none, none] [] (zIj b u w14) := by
      clear hm_
      exact j_return (pc := 66) hX hQ (by cases hf; rfl) dX4_leaveRule_66
    have hf := hm_
    refine j_if_ne (pc := 48) hX 66 dX4_leaveRule_48 rfl hf (fun h_ hf => ?_) (fun h_ hf => ?_)
    · refine j_fg [0, 1, 2, 3] [none, none, none, none] rfl ?_
      cases hf
      exact kj48
    · refine j_aload_n (pc := 51) hX dX4_leaveRule_51 rfl ?_
      refine j_iload_n (pc := 52) hX dX4_leaveRule_52 rfl ?_
      refine mp_I (pc := 53) hX 18 (by decide) rfl rfl q2263 dX4_leaveRule_53 hf (fun w11 hf => ?_)
      refine j_aload_n (pc := 56) hX dX4_leaveRule_56 rfl ?_
      refine j_iload_n (pc := 57) hX dX4_leaveRule_57 rfl ?_
      refine mp_I (pc := 58) hX 19 (by decide) rfl rfl q2264 dX4_leaveRule_58 hf (fun w12 hf => ?_)
      refine j_aload_n (pc := 61) hX dX4_leaveRule_61 rfl ?_
      refine j_iload_n (pc := 62) hX dX4_leaveRule_62 rfl ?_
      refine mp_I (pc := 63) hX 20 (by decide) rfl rfl q2265 dX4_leaveRule_63 hf (fun w13 hf => ?_)
      refine j_fg [0, 1, 2, 3] [none, none, none, none] rfl ?_
      cases hf
      exact kj48
  have hf := hm_
  refine j_if_eq (pc := 11) hX 44 dX4_leaveRule_11 rfl hf (fun h_ hf => ?_) (fun h_ hf => ?_)
  · refine j_iconst (pc := 44) hX (1 : Int32) dX4_leaveRule_44 rfl ?_
    cases hf
    exact kj11
  · refine j_aload_n (pc := 14) hX dX4_leaveRule_14 rfl ?_
    refine j_iload_n (pc := 15) hX dX4_leaveRule_15 rfl ?_
    refine j_i2l (pc := 16) hX dX4_leaveRule_16 ?_
    refine j_lconst (pc := 17) hX (0 : Int64) dX4_leaveRule_17 rfl ?_
    refine j_ldc2 (pc := 18) hX q2574 dX4_leaveRule_18 ?_
    obtain ⟨x4, w3, hc_, hf⟩ := zB2_e hf
    refine j_callV (pc := 21) hX (ci := 3) mt_X4_in q2469 q2471 qs29 (zIj_isC b u _) ⟨_, rfl, rfl⟩ [vL (Int32.toInt64 a2), vL (0 : Int64), vL (500 : Int64)] rfl rfl (Nat.le_of_ble_eq_true rfl) (by decide) dX4_leaveRule_21 (k_X4_in _ _ hc_) ?_
    refine j_if_eq (pc := 24) hX 44 dX4_leaveRule_24 rfl hf (fun h_ hf => ?_) (fun h_ hf => ?_)
    · refine j_iconst (pc := 44) hX (1 : Int32) dX4_leaveRule_44 rfl ?_
      cases hf
      exact kj11
    · refine j_aload_n (pc := 27) hX dX4_leaveRule_27 rfl ?_
      refine j_iload_n (pc := 28) hX dX4_leaveRule_28 rfl ?_
      refine j_i2l (pc := 29) hX dX4_leaveRule_29 ?_
      refine j_lconst (pc := 30) hX (1 : Int64) dX4_leaveRule_30 rfl ?_
      refine j_ldc2 (pc := 31) hX q2575 dX4_leaveRule_31 ?_
      obtain ⟨x6, w5, hc_, hf⟩ := zB2_e hf
      refine j_callV (pc := 34) hX (ci := 3) mt_X4_in q2469 q2471 qs29 (zIj_isC b u _) ⟨_, rfl, rfl⟩ [vL (Int32.toInt64 a3), vL (1 : Int64), vL (12 : Int64)] rfl rfl (Nat.le_of_ble_eq_true rfl) (by decide) dX4_leaveRule_34 (k_X4_in _ _ hc_) ?_
      refine j_if_eq (pc := 37) hX 44 dX4_leaveRule_37 rfl hf (fun h_ hf => ?_) (fun h_ hf => ?_)
      · refine j_iconst (pc := 44) hX (1 : Int32) dX4_leaveRule_44 rfl ?_
        cases hf
        exact kj11
      · refine j_iconst (pc := 40) hX (0 : Int32) dX4_leaveRule_40 rfl ?_
        refine j_goto (pc := 41) hX 45 dX4_leaveRule_41 rfl ?_
        cases hf
        exact kj11
def f_X4_leave (n : Nat) (a1 : Int32) (a2 : Int32) (w : zM) : Option (Int32 × zM) :=
  zB2 (f_X4_isOf n a1 a2 w) fun x2 w1 =>
  (
    if x2 = (0 : Int32) then
      some (1 : Int32)
    else
      if (mI w1 17) = (30 : Int32) then
        some (2 : Int32)
      else
        some (0 : Int32)
    ).bind fun x3 =>
  zB2 (f_X4_holds n x3 w1) fun x5 w4 =>
  if x5 = (0 : Int32) then
    (sIM w4 14 30 (mI w4 17) a1).bind fun w6 =>
    (sIM w6 15 30 (mI w6 17) a2).bind fun w7 =>
    (pM w7 17 ((mI w7 17) + (1 : Int32))).bind fun w8 =>
    (rIM w8 0 10 a1).bind fun x9 =>
    (f_X4_takes n x9 (720 : Int32) w8).bind fun w10 =>
    (rIM w10 16 30 ((mI w10 17) - (1 : Int32))).bind fun x11 =>
    (
      if x11 = (1 : Int32) then
        some (1 : Int32)
      else
        some (0 : Int32)
      ).bind fun x12 =>
    zRzM x12 w10
  else
    zRzM (0 : Int32) w4
theorem mt_X4_leave : zMt yX4_leave cX4_leave 3 (some .boolean) 2 := ⟨q2579, q82, ⟨by decide, by decide⟩, by decide +kernel, by decide⟩
set_option maxHeartbeats 4000000 in
theorem k_X4_leave {l : Launch} {n : Nat} {a1 : Int32} {a2 : Int32} {b : Nat} {u : zWd} {w : zM} (r : Int32) (w9 : zM) (hf : f_X4_leave n a1 a2 w = some (r, w9)) : zCt l yX4_leave cX4_leave 3 (some .boolean) 4 [vA (some b), vI a1, vI a2] (zIj b u w) (.inr (some (vI r), (zIj b u w9))) := by
  refine zCt_of (lv := [some (vA (some b)), some (vI a1), some (vI a2)]) (by decide +kernel) 0 rfl rfl ?_
  intro X hX hI hN hQ
  have hX : zGd X RX4 cX4_leave 3 (some .boolean) 4 := hX
  unfold f_X4_leave at hf
  refine j_aload_n (pc := 0) hX dX4_leave_0 rfl ?_
  refine j_aload_n (pc := 1) hX dX4_leave_1 rfl ?_
  refine j_iload_n (pc := 2) hX dX4_leave_2 rfl ?_
  refine j_iload_n (pc := 3) hX dX4_leave_3 rfl ?_
  obtain ⟨x2, w1, hc_, hf⟩ := zB2_e hf
  refine j_callV (pc := 4) hX (ci := 3) mt_X4_isOf q2512 q2514 qs36 (zIj_isC b u _) ⟨_, rfl, rfl⟩ [vI a1, vI a2] rfl rfl (Nat.le_of_ble_eq_true rfl) (by decide) dX4_leave_4 (k_X4_isOf _ _ hc_) ?_
  obtain ⟨x3, hm_, hf⟩ := zob hf
  have kj7 : zJ X 28 [some (vA (some b)), some (vI a1), some (vI a2)] [vI x3, vA (some b)] (zIj b u w1) := by
    clear hm_
    obtain ⟨x5, w4, hc_, hf⟩ := zB2_e hf
    refine j_callV (pc := 28) hX (ci := 3) mt_X4_holds q2486 q2488 qs32 (zIj_isC b u _) ⟨_, rfl, rfl⟩ [vI x3] rfl rfl (Nat.le_of_ble_eq_true rfl) (by decide) dX4_leave_28 (k_X4_holds _ _ hc_) ?_
    refine j_if_eq (pc := 31) hX 36 dX4_leave_31 rfl hf (fun h_ hf => ?_) (fun h_ hf => ?_)
    · refine j_aload_n (pc := 36) hX dX4_leave_36 rfl ?_
      refine mg_A (pc := 37) hX 14 (by decide) 13 1 rfl rfl (by decide) q2259 dX4_leave_37 ?_
      refine j_aload_n (pc := 40) hX dX4_leave_40 rfl ?_
      refine mg_I (pc := 41) hX 17 (by decide) rfl q2262 dX4_leave_41 ?_
      refine j_iload_n (pc := 44) hX dX4_leave_44 rfl ?_
      refine ms_I (pc := 45) hX 14 30 13 (by decide) rfl rfl rfl dX4_leave_45 hf (fun w6 hf => ?_)
      refine j_aload_n (pc := 46) hX dX4_leave_46 rfl ?_
      refine mg_A (pc := 47) hX 15 (by decide) 14 1 rfl rfl (by decide) q2260 dX4_leave_47 ?_
      refine j_aload_n (pc := 50) hX dX4_leave_50 rfl ?_
      refine mg_I (pc := 51) hX 17 (by decide) rfl q2262 dX4_leave_51 ?_
      refine j_iload_n (pc := 54) hX dX4_leave_54 rfl ?_
      refine ms_I (pc := 55) hX 15 30 14 (by decide) rfl rfl rfl dX4_leave_55 hf (fun w7 hf => ?_)
      refine j_aload_n (pc := 56) hX dX4_leave_56 rfl ?_
      refine j_dup (pc := 57) hX rfl dX4_leave_57 ?_
      refine mg_I (pc := 58) hX 17 (by decide) rfl q2262 dX4_leave_58 ?_
      refine j_iconst (pc := 61) hX (1 : Int32) dX4_leave_61 rfl ?_
      refine j_iadd (pc := 62) hX dX4_leave_62 ?_
      refine mp_I (pc := 63) hX 17 (by decide) rfl rfl q2262 dX4_leave_63 hf (fun w8 hf => ?_)
      refine j_aload_n (pc := 66) hX dX4_leave_66 rfl ?_
      refine j_aload_n (pc := 67) hX dX4_leave_67 rfl ?_
      refine mg_A (pc := 68) hX 0 (by decide) 1 1 rfl rfl (by decide) q2245 dX4_leave_68 ?_
      refine j_iload_n (pc := 71) hX dX4_leave_71 rfl ?_
      refine mr_I (pc := 72) hX 0 10 1 (by decide) rfl rfl rfl dX4_leave_72 hf (fun x9 hx_ hf => ?_)
      refine j_sipush (pc := 73) hX (720 : Int32) dX4_leave_73 (by decide +kernel) ?_
      obtain ⟨w10, hc_, hf⟩ := zob hf
      refine j_callV (pc := 76) hX (ci := 3) mt_X4_takes q2543 q2545 qs40 (zIj_isC b u _) ⟨_, rfl, rfl⟩ [vI x9, vI (720 : Int32)] rfl rfl (Nat.le_of_ble_eq_true rfl) (by decide) dX4_leave_76 (k_X4_takes () _ hc_) ?_
      refine j_aload_n (pc := 79) hX dX4_leave_79 rfl ?_
      refine mg_A (pc := 80) hX 16 (by decide) 15 1 rfl rfl (by decide) q2261 dX4_leave_80 ?_
      refine j_aload_n (pc := 83) hX dX4_leave_83 rfl ?_
      refine mg_I (pc := 84) hX 17 (by decide) rfl q2262 dX4_leave_84 ?_
      refine j_iconst (pc := 87) hX (1 : Int32) dX4_leave_87 rfl ?_
      refine j_isub (pc := 88) hX dX4_leave_88 ?_
      refine mr_I (pc := 89) hX 16 30 15 (by decide) rfl rfl rfl dX4_leave_89 hf (fun x11 hx_ hf => ?_)
      refine j_iconst (pc := 90) hX (1 : Int32) dX4_leave_90 rfl ?_
      obtain ⟨x12, hm_, hf⟩ := zob hf
      have kj91 : zJ X 99 [none, none, none] [vI x12] (zIj b u w10) := by
        clear hm_
        obtain ⟨hz_, hf⟩ := zRzM_e hf
        exact j_zreturn (pc := 99) hX hQ hz_ (by cases hf; rfl) dX4_leave_99
      have hf := hm_
      refine j_icmp_ne (pc := 91) hX 98 dX4_leave_91 rfl hf (fun h_ hf => ?_) (fun h_ hf => ?_)
      · refine j_iconst (pc := 98) hX (0 : Int32) dX4_leave_98 rfl ?_
        refine j_fg [0, 1, 2] [none, none, none] rfl ?_
        cases hf
        exact kj91
      · refine j_iconst (pc := 94) hX (1 : Int32) dX4_leave_94 rfl ?_
        refine j_goto (pc := 95) hX 99 dX4_leave_95 rfl ?_
        refine j_fg [0, 1, 2] [none, none, none] rfl ?_
        cases hf
        exact kj91
    · refine j_iconst (pc := 34) hX (0 : Int32) dX4_leave_34 rfl ?_
      obtain ⟨hz_, hf⟩ := zRzM_e hf
      exact j_zreturn (pc := 35) hX hQ hz_ (by cases hf; rfl) dX4_leave_35
  have hf := hm_
  refine j_if_ne (pc := 7) hX 14 dX4_leave_7 rfl hf (fun h_ hf => ?_) (fun h_ hf => ?_)
  · refine j_aload_n (pc := 14) hX dX4_leave_14 rfl ?_
    refine mg_I (pc := 15) hX 17 (by decide) rfl q2262 dX4_leave_15 ?_
    refine j_bipush (pc := 18) hX (30 : Int32) dX4_leave_18 (by decide +kernel) ?_
    refine j_icmp_ne (pc := 20) hX 27 dX4_leave_20 rfl hf (fun h_ hf => ?_) (fun h_ hf => ?_)
    · refine j_iconst (pc := 27) hX (0 : Int32) dX4_leave_27 rfl ?_
      cases hf
      exact kj7
    · refine j_iconst (pc := 23) hX (2 : Int32) dX4_leave_23 rfl ?_
      refine j_goto (pc := 24) hX 28 dX4_leave_24 rfl ?_
      cases hf
      exact kj7
  · refine j_iconst (pc := 10) hX (1 : Int32) dX4_leave_10 rfl ?_
    refine j_goto (pc := 11) hX 28 dX4_leave_11 rfl ?_
    cases hf
    exact kj7
def f_X4_leaveLeft (n : Nat) (a1 : Int32) (a2 : Int32) (w : zM) : Option (Int32 × zM) :=
  zB2 (f_X4_isPerson n a1 w) fun x2 w1 =>
  zB2 (
    if x2 = (0 : Int32) then
      some ((1 : Int32), w1)
    else
      zB2 (f_X4_isDay n a2 w1) fun x4 w3 =>
      if x4 = (0 : Int32) then
        some ((1 : Int32), w3)
      else
        some ((0 : Int32), w3)
    ) fun x5 w6 =>
  zB2 (f_X4_holds n x5 w6) fun x8 w7 =>
  if x8 = (0 : Int32) then
    (f_X4_takes n a1 a2 w7).bind fun w9 =>
    some ((mI w9 21), w9)
  else
    some ((-1 : Int32), w7)
theorem mt_X4_leaveLeft : zMt yX4_leaveLeft cX4_leaveLeft 3 (some .int) 2 := ⟨q2583, q82, ⟨by decide, by decide⟩, by decide +kernel, by decide⟩
set_option maxHeartbeats 4000000 in
theorem k_X4_leaveLeft {l : Launch} {n : Nat} {a1 : Int32} {a2 : Int32} {b : Nat} {u : zWd} {w : zM} (r : Int32) (w9 : zM) (hf : f_X4_leaveLeft n a1 a2 w = some (r, w9)) : zCt l yX4_leaveLeft cX4_leaveLeft 3 (some .int) 4 [vA (some b), vI a1, vI a2] (zIj b u w) (.inr (some (vI r), (zIj b u w9))) := by
  refine zCt_of (lv := [some (vA (some b)), some (vI a1), some (vI a2)]) (by decide +kernel) 0 rfl rfl ?_
  intro X hX hI hN hQ
  have hX : zGd X RX4 cX4_leaveLeft 3 (some .int) 4 := hX
  unfold f_X4_leaveLeft at hf
  refine j_aload_n (pc := 0) hX dX4_leaveLeft_0 rfl ?_
  refine j_aload_n (pc := 1) hX dX4_leaveLeft_1 rfl ?_
  refine j_iload_n (pc := 2) hX dX4_leaveLeft_2 rfl ?_
  obtain ⟨x2, w1, hc_, hf⟩ := zB2_e hf
  refine j_callV (pc := 3) hX (ci := 3) mt_X4_isPerson q2464 q2466 qs28 (zIj_isC b u _) ⟨_, rfl, rfl⟩ [vI a1] rfl rfl (Nat.le_of_ble_eq_true rfl) (by decide) dX4_leaveLeft_3 (k_X4_isPerson _ _ hc_) ?_
  obtain ⟨x5, w6, hm_, hf⟩ := zB2_e hf
  have kj6 : zJ X 22 [some (vA (some b)), some (vI a1), some (vI a2)] [vI x5, vA (some b)] (zIj b u w6) := by
    clear hm_
    obtain ⟨x8, w7, hc_, hf⟩ := zB2_e hf
    refine j_callV (pc := 22) hX (ci := 3) mt_X4_holds q2486 q2488 qs32 (zIj_isC b u _) ⟨_, rfl, rfl⟩ [vI x5] rfl rfl (Nat.le_of_ble_eq_true rfl) (by decide) dX4_leaveLeft_22 (k_X4_holds _ _ hc_) ?_
    refine j_if_eq (pc := 25) hX 30 dX4_leaveLeft_25 rfl hf (fun h_ hf => ?_) (fun h_ hf => ?_)
    · refine j_aload_n (pc := 30) hX dX4_leaveLeft_30 rfl ?_
      refine j_iload_n (pc := 31) hX dX4_leaveLeft_31 rfl ?_
      refine j_iload_n (pc := 32) hX dX4_leaveLeft_32 rfl ?_
      obtain ⟨w9, hc_, hf⟩ := zob hf
      refine j_callV (pc := 33) hX (ci := 3) mt_X4_takes q2543 q2545 qs40 (zIj_isC b u _) ⟨_, rfl, rfl⟩ [vI a1, vI a2] rfl rfl (Nat.le_of_ble_eq_true rfl) (by decide) dX4_leaveLeft_33 (k_X4_takes () _ hc_) ?_
      refine j_aload_n (pc := 36) hX dX4_leaveLeft_36 rfl ?_
      refine mg_I (pc := 37) hX 21 (by decide) rfl q2266 dX4_leaveLeft_37 ?_
      exact j_ireturn (pc := 40) hX hQ (by cases hf; rfl) dX4_leaveLeft_40
    · refine j_iconst (pc := 28) hX (-1 : Int32) dX4_leaveLeft_28 rfl ?_
      exact j_ireturn (pc := 29) hX hQ (by cases hf; rfl) dX4_leaveLeft_29
  have hf := hm_
  refine j_if_eq (pc := 6) hX 21 dX4_leaveLeft_6 rfl hf (fun h_ hf => ?_) (fun h_ hf => ?_)
  · refine j_iconst (pc := 21) hX (1 : Int32) dX4_leaveLeft_21 rfl ?_
    cases hf
    exact kj6
  · refine j_aload_n (pc := 9) hX dX4_leaveLeft_9 rfl ?_
    refine j_iload_n (pc := 10) hX dX4_leaveLeft_10 rfl ?_
    obtain ⟨x4, w3, hc_, hf⟩ := zB2_e hf
    refine j_callV (pc := 11) hX (ci := 3) mt_X4_isDay q2478 q2480 qs31 (zIj_isC b u _) ⟨_, rfl, rfl⟩ [vI a2] rfl rfl (Nat.le_of_ble_eq_true rfl) (by decide) dX4_leaveLeft_11 (k_X4_isDay _ _ hc_) ?_
    refine j_if_eq (pc := 14) hX 21 dX4_leaveLeft_14 rfl hf (fun h_ hf => ?_) (fun h_ hf => ?_)
    · refine j_iconst (pc := 21) hX (1 : Int32) dX4_leaveLeft_21 rfl ?_
      cases hf
      exact kj6
    · refine j_iconst (pc := 17) hX (0 : Int32) dX4_leaveLeft_17 rfl ?_
      refine j_goto (pc := 18) hX 22 dX4_leaveLeft_18 rfl ?_
      cases hf
      exact kj6
def f_X4_depth_L4b (n : Nat) (c1 : Int32) (w : zM) (rec : Int32 → Int32 → Option (Int32)) (v2 : Int32) (v3 : Int32) : Option (Int32) :=
  (rIM w 24 7 c1).bind fun x1 =>
  if x1 ≤ v3 then
    some v2
  else
    (rIM w 22 70 (((10 : Int32) * c1) + v3)).bind fun x2 =>
    (
      if (4 : Int32) ≤ x2 then
        some (-1 : Int32)
      else
        some (1 : Int32)
      ).bind fun x3 =>
    rec (v2 + x3) (v3 + (1))
def f_X4_depth_L4 (n : Nat) (c1 : Int32) (w : zM) : Nat → Int32 → Int32 → Option (Int32)
  | 0, _, _ => none
  | k + 1, v2, v3 => f_X4_depth_L4b n c1 w (f_X4_depth_L4 n c1 w k) v2 v3
def f_X4_depth (n : Nat) (a1 : Int32) (w : zM) : Option (Int32 × zM) :=
  (f_X4_depth_L4 n a1 w n (0 : Int32) (0 : Int32)).bind fun x4 =>
  some (x4, w)
theorem mt_X4_depth : zMt yX4_depth cX4_depth 4 (some .int) 1 := ⟨q2593, q82, ⟨by decide, by decide⟩, by decide +kernel, by decide⟩
set_option maxHeartbeats 4000000 in
theorem lp_X4_depth_L4 {X : zX} {b : Nat} {u : zWd} (hX : zGd X RX4 cX4_depth 4 (some .int) 1) (n : Nat) (c1 : Int32) (w : zM) : ∀ (k : Nat) (v2 : Int32) (v3 : Int32) (o2 : Int32) , f_X4_depth_L4 n c1 w k v2 v3 = some o2 → zJ X 43 [some (vA (some b)), some (vI c1), some (vI o2), none] [] (zIj b u w) → zJ X 4 [some (vA (some b)), some (vI c1), some (vI v2), some (vI v3)] [] (zIj b u w) := by
  intro k
  induction k with
  | zero => intro v2 v3 o2 hf _; exact nomatch (show (none : Option (Int32)) = _ from hf)
  | succ k ih =>
    intro v2 v3 o2 hf kx
    have hf : f_X4_depth_L4b n c1 w (f_X4_depth_L4 n c1 w k) v2 v3 = _ := hf
    unfold f_X4_depth_L4b at hf
    refine j_iload_n (pc := 4) hX dX4_depth_4 rfl ?_
    refine j_aload_n (pc := 5) hX dX4_depth_5 rfl ?_
    refine mg_A (pc := 6) hX 24 (by decide) 18 1 rfl rfl (by decide) q2269 dX4_depth_6 ?_
    refine j_iload_n (pc := 9) hX dX4_depth_9 rfl ?_
    refine mr_I (pc := 10) hX 24 7 18 (by decide) rfl rfl rfl dX4_depth_10 hf (fun x1 hx_ hf => ?_)
    refine j_icmp_ge (pc := 11) hX 43 dX4_depth_11 rfl hf (fun h_ hf => ?_) (fun h_ hf => ?_)
    · refine j_fg [3] [some (vA (some b)), some (vI c1), some (vI v2), none] rfl ?_
      cases hf
      exact kx
    · refine j_iload_n (pc := 14) hX dX4_depth_14 rfl ?_
      refine j_aload_n (pc := 15) hX dX4_depth_15 rfl ?_
      refine mg_A (pc := 16) hX 22 (by decide) 16 1 rfl rfl (by decide) q2267 dX4_depth_16 ?_
      refine j_bipush (pc := 19) hX (10 : Int32) dX4_depth_19 (by decide +kernel) ?_
      refine j_iload_n (pc := 21) hX dX4_depth_21 rfl ?_
      refine j_imul (pc := 22) hX dX4_depth_22 ?_
      refine j_iload_n (pc := 23) hX dX4_depth_23 rfl ?_
      refine j_iadd (pc := 24) hX dX4_depth_24 ?_
      refine mr_I (pc := 25) hX 22 70 16 (by decide) rfl rfl rfl dX4_depth_25 hf (fun x2 hx_ hf => ?_)
      refine j_iconst (pc := 26) hX (4 : Int32) dX4_depth_26 rfl ?_
      obtain ⟨x3, hm_, hf⟩ := zob hf
      have kj27 : zJ X 35 [some (vA (some b)), some (vI c1), none, some (vI v3)] [vI x3, vI v2] (zIj b u w) := by
        clear hm_
        refine j_iadd (pc := 35) hX dX4_depth_35 ?_
        refine j_istore_n (pc := 36) hX dX4_depth_36 (by decide) [some (vA (some b)), some (vI c1), some (vI (v2 + x3)), some (vI v3)] rfl ?_
        refine j_iinc (pc := 37) hX (1) dX4_depth_37 rfl rfl (by decide) [some (vA (some b)), some (vI c1), some (vI (v2 + x3)), some (vI (v3 + (1)))] rfl ?_
        refine j_goto (pc := 40) hX 4 dX4_depth_40 rfl ?_
        exact ih _ _ _ hf kx
      have hf := hm_
      refine j_icmp_ge (pc := 27) hX 34 dX4_depth_27 rfl hf (fun h_ hf => ?_) (fun h_ hf => ?_)
      · refine j_iconst (pc := 34) hX (-1 : Int32) dX4_depth_34 rfl ?_
        refine j_fg [2] [some (vA (some b)), some (vI c1), none, some (vI v3)] rfl ?_
        simp only [Option.some.injEq, Prod.mk.injEq] at hf
        obtain rfl := hf
        exact kj27
      · refine j_iconst (pc := 30) hX (1 : Int32) dX4_depth_30 rfl ?_
        refine j_goto (pc := 31) hX 35 dX4_depth_31 rfl ?_
        refine j_fg [2] [some (vA (some b)), some (vI c1), none, some (vI v3)] rfl ?_
        cases hf
        exact kj27
set_option maxHeartbeats 4000000 in
theorem k_X4_depth {l : Launch} {n : Nat} {a1 : Int32} {b : Nat} {u : zWd} {w : zM} (r : Int32) (w9 : zM) (hf : f_X4_depth n a1 w = some (r, w9)) : zCt l yX4_depth cX4_depth 4 (some .int) 1 [vA (some b), vI a1] (zIj b u w) (.inr (some (vI r), (zIj b u w9))) := by
  refine zCt_of (lv := [some (vA (some b)), some (vI a1), none, none]) (by decide +kernel) 2 rfl rfl ?_
  intro X hX hI hN hQ
  have hX : zGd X RX4 cX4_depth 4 (some .int) 1 := hX
  unfold f_X4_depth at hf
  refine j_iconst (pc := 0) hX (0 : Int32) dX4_depth_0 rfl ?_
  refine j_istore_n (pc := 1) hX dX4_depth_1 (by decide) [some (vA (some b)), some (vI a1), some (vI (0 : Int32)), none] rfl ?_
  refine j_iconst (pc := 2) hX (0 : Int32) dX4_depth_2 rfl ?_
  refine j_istore_n (pc := 3) hX dX4_depth_3 (by decide) [some (vA (some b)), some (vI a1), some (vI (0 : Int32)), some (vI (0 : Int32))] rfl ?_
  obtain ⟨x4, hm_, hf⟩ := zob hf
  refine lp_X4_depth_L4 hX n _ _ _ _ _ _ hm_ ?_
  refine j_iload_n (pc := 43) hX dX4_depth_43 rfl ?_
  exact j_ireturn (pc := 44) hX hQ (by cases hf; rfl) dX4_depth_44
def f_X4_word (n : Nat) (a1 : Int32) (a2 : Int32) (w : zM) : Option (Int32 × zM) :=
  zB2 (f_X4_in n (Int32.toInt64 a1) (0 : Int64) (9 : Int64) w) fun x2 w1 =>
  zB2 (
    if x2 = (0 : Int32) then
      some ((0 : Int32), w1)
    else
      if a1 = (2 : Int32) then
        zB2 (f_X4_in n (Int32.toInt64 a2) (0 : Int64) (5 : Int64) w1) fun x6 w5 =>
        if x6 = (0 : Int32) then
          some ((0 : Int32), w5)
        else
          if a1 = (3 : Int32) then
            zB2 (f_X4_in n (Int32.toInt64 a2) (-1000000 : Int64) (1000000 : Int64) w5) fun x8 w7 =>
            if x8 = (0 : Int32) then
              some ((0 : Int32), w7)
            else
              some ((1 : Int32), w7)
          else
            some ((1 : Int32), w5)
      else
        if a1 = (3 : Int32) then
          zB2 (f_X4_in n (Int32.toInt64 a2) (-1000000 : Int64) (1000000 : Int64) w1) fun x4 w3 =>
          if x4 = (0 : Int32) then
            some ((0 : Int32), w3)
          else
            some ((1 : Int32), w3)
        else
          some ((1 : Int32), w1)
    ) fun x9 w10 =>
  zB2 (
    if x9 = (0 : Int32) then
      some ((1 : Int32), w10)
    else
      (rIM w10 24 7 (6 : Int32)).bind fun x11 =>
      if x11 = (10 : Int32) then
        some ((2 : Int32), w10)
      else
        if a1 ≤ (3 : Int32) then
          some ((0 : Int32), w10)
        else
          zB2 (f_X4_depth n (6 : Int32) w10) fun x13 w12 =>
          if (2 : Int32) ≤ x13 then
            some ((0 : Int32), w12)
          else
            some ((2 : Int32), w12)
    ) fun x14 w15 =>
  zB2 (f_X4_holds n x14 w15) fun x17 w16 =>
  if x17 = (0 : Int32) then
    (rIM w16 24 7 (6 : Int32)).bind fun x18 =>
    (sIM w16 22 70 ((60 : Int32) + x18) a1).bind fun w19 =>
    (rIM w19 24 7 (6 : Int32)).bind fun x20 =>
    (sIM w19 23 70 ((60 : Int32) + x20) a2).bind fun w21 =>
    (rIM w21 24 7 (6 : Int32)).bind fun x22 =>
    (sIM w21 24 7 (6 : Int32) (x22 + (1 : Int32))).bind fun w23 =>
    (rIM w23 24 7 (6 : Int32)).bind fun x24 =>
    some (x24, w23)
  else
    some ((-1 : Int32), w16)
theorem mt_X4_word : zMt yX4_word cX4_word 4 (some .int) 2 := ⟨q2587, q82, ⟨by decide, by decide⟩, by decide +kernel, by decide⟩
set_option maxHeartbeats 4000000 in
theorem k_X4_word {l : Launch} {n : Nat} {a1 : Int32} {a2 : Int32} {b : Nat} {u : zWd} {w : zM} (r : Int32) (w9 : zM) (hf : f_X4_word n a1 a2 w = some (r, w9)) : zCt l yX4_word cX4_word 4 (some .int) 2 [vA (some b), vI a1, vI a2] (zIj b u w) (.inr (some (vI r), (zIj b u w9))) := by
  refine zCt_of (lv := [some (vA (some b)), some (vI a1), some (vI a2), none]) (by decide +kernel) 1 rfl rfl ?_
  intro X hX hI hN hQ
  have hX : zGd X RX4 cX4_word 4 (some .int) 2 := hX
  unfold f_X4_word at hf
  refine j_aload_n (pc := 0) hX dX4_word_0 rfl ?_
  refine j_iload_n (pc := 1) hX dX4_word_1 rfl ?_
  refine j_i2l (pc := 2) hX dX4_word_2 ?_
  refine j_lconst (pc := 3) hX (0 : Int64) dX4_word_3 rfl ?_
  refine j_ldc2 (pc := 4) hX q2588 dX4_word_4 ?_
  obtain ⟨x2, w1, hc_, hf⟩ := zB2_e hf
  refine j_callV (pc := 7) hX (ci := 3) mt_X4_in q2469 q2471 qs29 (zIj_isC b u _) ⟨_, rfl, rfl⟩ [vL (Int32.toInt64 a1), vL (0 : Int64), vL (9 : Int64)] rfl rfl (Nat.le_of_ble_eq_true rfl) (by decide) dX4_word_7 (k_X4_in _ _ hc_) ?_
  obtain ⟨x9, w10, hm_, hf⟩ := zB2_e hf
  have kj10 : zJ X 56 [some (vA (some b)), some (vI a1), some (vI a2), none] [vI x9] (zIj b u w10) := by
    clear hm_
    refine j_istore_n (pc := 56) hX dX4_word_56 (by decide) [some (vA (some b)), some (vI a1), some (vI a2), some (vI x9)] rfl ?_
    refine j_aload_n (pc := 57) hX dX4_word_57 rfl ?_
    refine j_iload_n (pc := 58) hX dX4_word_58 rfl ?_
    obtain ⟨x14, w15, hm_, hf⟩ := zB2_e hf
    have kj59 : zJ X 98 [some (vA (some b)), some (vI a1), some (vI a2), none] [vI x14, vA (some b)] (zIj b u w15) := by
      clear hm_
      obtain ⟨x17, w16, hc_, hf⟩ := zB2_e hf
      refine j_callV (pc := 98) hX (ci := 3) mt_X4_holds q2486 q2488 qs32 (zIj_isC b u _) ⟨_, rfl, rfl⟩ [vI x14] rfl rfl (Nat.le_of_ble_eq_true rfl) (by decide) dX4_word_98 (k_X4_holds _ _ hc_) ?_
      refine j_if_eq (pc := 101) hX 106 dX4_word_101 rfl hf (fun h_ hf => ?_) (fun h_ hf => ?_)
      · refine j_aload_n (pc := 106) hX dX4_word_106 rfl ?_
        refine mg_A (pc := 107) hX 22 (by decide) 16 1 rfl rfl (by decide) q2267 dX4_word_107 ?_
        refine j_bipush (pc := 110) hX (60 : Int32) dX4_word_110 (by decide +kernel) ?_
        refine j_aload_n (pc := 112) hX dX4_word_112 rfl ?_
        refine mg_A (pc := 113) hX 24 (by decide) 18 1 rfl rfl (by decide) q2269 dX4_word_113 ?_
        refine j_bipush (pc := 116) hX (6 : Int32) dX4_word_116 (by decide +kernel) ?_
        refine mr_I (pc := 118) hX 24 7 18 (by decide) rfl rfl rfl dX4_word_118 hf (fun x18 hx_ hf => ?_)
        refine j_iadd (pc := 119) hX dX4_word_119 ?_
        refine j_iload_n (pc := 120) hX dX4_word_120 rfl ?_
        refine ms_I (pc := 121) hX 22 70 16 (by decide) rfl rfl rfl dX4_word_121 hf (fun w19 hf => ?_)
        refine j_aload_n (pc := 122) hX dX4_word_122 rfl ?_
        refine mg_A (pc := 123) hX 23 (by decide) 17 1 rfl rfl (by decide) q2268 dX4_word_123 ?_
        refine j_bipush (pc := 126) hX (60 : Int32) dX4_word_126 (by decide +kernel) ?_
        refine j_aload_n (pc := 128) hX dX4_word_128 rfl ?_
        refine mg_A (pc := 129) hX 24 (by decide) 18 1 rfl rfl (by decide) q2269 dX4_word_129 ?_
        refine j_bipush (pc := 132) hX (6 : Int32) dX4_word_132 (by decide +kernel) ?_
        refine mr_I (pc := 134) hX 24 7 18 (by decide) rfl rfl rfl dX4_word_134 hf (fun x20 hx_ hf => ?_)
        refine j_iadd (pc := 135) hX dX4_word_135 ?_
        refine j_iload_n (pc := 136) hX dX4_word_136 rfl ?_
        refine ms_I (pc := 137) hX 23 70 17 (by decide) rfl rfl rfl dX4_word_137 hf (fun w21 hf => ?_)
        refine j_aload_n (pc := 138) hX dX4_word_138 rfl ?_
        refine mg_A (pc := 139) hX 24 (by decide) 18 1 rfl rfl (by decide) q2269 dX4_word_139 ?_
        refine j_bipush (pc := 142) hX (6 : Int32) dX4_word_142 (by decide +kernel) ?_
        refine j_dup2 (pc := 144) hX rfl rfl dX4_word_144 ?_
        refine mr_I (pc := 145) hX 24 7 18 (by decide) rfl rfl rfl dX4_word_145 hf (fun x22 hx_ hf => ?_)
        refine j_iconst (pc := 146) hX (1 : Int32) dX4_word_146 rfl ?_
        refine j_iadd (pc := 147) hX dX4_word_147 ?_
        refine ms_I (pc := 148) hX 24 7 18 (by decide) rfl rfl rfl dX4_word_148 hf (fun w23 hf => ?_)
        refine j_aload_n (pc := 149) hX dX4_word_149 rfl ?_
        refine mg_A (pc := 150) hX 24 (by decide) 18 1 rfl rfl (by decide) q2269 dX4_word_150 ?_
        refine j_bipush (pc := 153) hX (6 : Int32) dX4_word_153 (by decide +kernel) ?_
        refine mr_I (pc := 155) hX 24 7 18 (by decide) rfl rfl rfl dX4_word_155 hf (fun x24 hx_ hf => ?_)
        exact j_ireturn (pc := 156) hX hQ (by cases hf; rfl) dX4_word_156
      · refine j_iconst (pc := 104) hX (-1 : Int32) dX4_word_104 rfl ?_
        exact j_ireturn (pc := 105) hX hQ (by cases hf; rfl) dX4_word_105
    have hf := hm_
    refine j_if_ne (pc := 59) hX 66 dX4_word_59 rfl hf (fun h_ hf => ?_) (fun h_ hf => ?_)
    · refine j_aload_n (pc := 66) hX dX4_word_66 rfl ?_
      refine mg_A (pc := 67) hX 24 (by decide) 18 1 rfl rfl (by decide) q2269 dX4_word_67 ?_
      refine j_bipush (pc := 70) hX (6 : Int32) dX4_word_70 (by decide +kernel) ?_
      refine mr_I (pc := 72) hX 24 7 18 (by decide) rfl rfl rfl dX4_word_72 hf (fun x11 hx_ hf => ?_)
      refine j_bipush (pc := 73) hX (10 : Int32) dX4_word_73 (by decide +kernel) ?_
      refine j_icmp_eq (pc := 75) hX 93 dX4_word_75 rfl hf (fun h_ hf => ?_) (fun h_ hf => ?_)
      · refine j_iconst (pc := 93) hX (2 : Int32) dX4_word_93 rfl ?_
        refine j_goto (pc := 94) hX 98 dX4_word_94 rfl ?_
        refine j_fg [3] [some (vA (some b)), some (vI a1), some (vI a2), none] rfl ?_
        cases hf
        exact kj59
      · refine j_iload_n (pc := 78) hX dX4_word_78 rfl ?_
        refine j_iconst (pc := 79) hX (3 : Int32) dX4_word_79 rfl ?_
        refine j_icmp_le (pc := 80) hX 97 dX4_word_80 rfl hf (fun h_ hf => ?_) (fun h_ hf => ?_)
        · refine j_iconst (pc := 97) hX (0 : Int32) dX4_word_97 rfl ?_
          refine j_fg [3] [some (vA (some b)), some (vI a1), some (vI a2), none] rfl ?_
          cases hf
          exact kj59
        · refine j_aload_n (pc := 83) hX dX4_word_83 rfl ?_
          refine j_bipush (pc := 84) hX (6 : Int32) dX4_word_84 (by decide +kernel) ?_
          obtain ⟨x13, w12, hc_, hf⟩ := zB2_e hf
          refine j_callV (pc := 86) hX (ci := 3) mt_X4_depth q2590 q2592 qs46 (zIj_isC b u _) ⟨_, rfl, rfl⟩ [vI (6 : Int32)] rfl rfl (Nat.le_of_ble_eq_true rfl) (by decide) dX4_word_86 (k_X4_depth _ _ hc_) ?_
          refine j_iconst (pc := 89) hX (2 : Int32) dX4_word_89 rfl ?_
          refine j_icmp_ge (pc := 90) hX 97 dX4_word_90 rfl hf (fun h_ hf => ?_) (fun h_ hf => ?_)
          · refine j_iconst (pc := 97) hX (0 : Int32) dX4_word_97 rfl ?_
            refine j_fg [3] [some (vA (some b)), some (vI a1), some (vI a2), none] rfl ?_
            cases hf
            exact kj59
          · refine j_iconst (pc := 93) hX (2 : Int32) dX4_word_93 rfl ?_
            refine j_goto (pc := 94) hX 98 dX4_word_94 rfl ?_
            refine j_fg [3] [some (vA (some b)), some (vI a1), some (vI a2), none] rfl ?_
            cases hf
            exact kj59
    · refine j_iconst (pc := 62) hX (1 : Int32) dX4_word_62 rfl ?_
      refine j_goto (pc := 63) hX 98 dX4_word_63 rfl ?_
      refine j_fg [3] [some (vA (some b)), some (vI a1), some (vI a2), none] rfl ?_
      cases hf
      exact kj59
  have hf := hm_
  refine j_if_eq (pc := 10) hX 55 dX4_word_10 rfl hf (fun h_ hf => ?_) (fun h_ hf => ?_)
  · refine j_iconst (pc := 55) hX (0 : Int32) dX4_word_55 rfl ?_
    cases hf
    exact kj10
  · refine j_iload_n (pc := 13) hX dX4_word_13 rfl ?_
    refine j_iconst (pc := 14) hX (2 : Int32) dX4_word_14 rfl ?_
    refine j_icmp_ne (pc := 15) hX 31 dX4_word_15 rfl hf (fun h_ hf => ?_) (fun h_ hf => ?_)
    · refine j_iload_n (pc := 31) hX dX4_word_31 rfl ?_
      refine j_iconst (pc := 32) hX (3 : Int32) dX4_word_32 rfl ?_
      refine j_icmp_ne (pc := 33) hX 51 dX4_word_33 rfl hf (fun h_ hf => ?_) (fun h_ hf => ?_)
      · refine j_iconst (pc := 51) hX (1 : Int32) dX4_word_51 rfl ?_
        refine j_goto (pc := 52) hX 56 dX4_word_52 rfl ?_
        cases hf
        exact kj10
      · refine j_aload_n (pc := 36) hX dX4_word_36 rfl ?_
        refine j_iload_n (pc := 37) hX dX4_word_37 rfl ?_
        refine j_i2l (pc := 38) hX dX4_word_38 ?_
        refine j_ldc2 (pc := 39) hX q2589 dX4_word_39 ?_
        refine j_ldc2 (pc := 42) hX q2485 dX4_word_42 ?_
        obtain ⟨x4, w3, hc_, hf⟩ := zB2_e hf
        refine j_callV (pc := 45) hX (ci := 3) mt_X4_in q2469 q2471 qs29 (zIj_isC b u _) ⟨_, rfl, rfl⟩ [vL (Int32.toInt64 a2), vL (-1000000 : Int64), vL (1000000 : Int64)] rfl rfl (Nat.le_of_ble_eq_true rfl) (by decide) dX4_word_45 (k_X4_in _ _ hc_) ?_
        refine j_if_eq (pc := 48) hX 55 dX4_word_48 rfl hf (fun h_ hf => ?_) (fun h_ hf => ?_)
        · refine j_iconst (pc := 55) hX (0 : Int32) dX4_word_55 rfl ?_
          cases hf
          exact kj10
        · refine j_iconst (pc := 51) hX (1 : Int32) dX4_word_51 rfl ?_
          refine j_goto (pc := 52) hX 56 dX4_word_52 rfl ?_
          cases hf
          exact kj10
    · refine j_aload_n (pc := 18) hX dX4_word_18 rfl ?_
      refine j_iload_n (pc := 19) hX dX4_word_19 rfl ?_
      refine j_i2l (pc := 20) hX dX4_word_20 ?_
      refine j_lconst (pc := 21) hX (0 : Int64) dX4_word_21 rfl ?_
      refine j_ldc2 (pc := 22) hX q2468 dX4_word_22 ?_
      obtain ⟨x6, w5, hc_, hf⟩ := zB2_e hf
      refine j_callV (pc := 25) hX (ci := 3) mt_X4_in q2469 q2471 qs29 (zIj_isC b u _) ⟨_, rfl, rfl⟩ [vL (Int32.toInt64 a2), vL (0 : Int64), vL (5 : Int64)] rfl rfl (Nat.le_of_ble_eq_true rfl) (by decide) dX4_word_25 (k_X4_in _ _ hc_) ?_
      refine j_if_eq (pc := 28) hX 55 dX4_word_28 rfl hf (fun h_ hf => ?_) (fun h_ hf => ?_)
      · refine j_iconst (pc := 55) hX (0 : Int32) dX4_word_55 rfl ?_
        cases hf
        exact kj10
      · refine j_iload_n (pc := 31) hX dX4_word_31 rfl ?_
        refine j_iconst (pc := 32) hX (3 : Int32) dX4_word_32 rfl ?_
        refine j_icmp_ne (pc := 33) hX 51 dX4_word_33 rfl hf (fun h_ hf => ?_) (fun h_ hf => ?_)
        · refine j_iconst (pc := 51) hX (1 : Int32) dX4_word_51 rfl ?_
          refine j_goto (pc := 52) hX 56 dX4_word_52 rfl ?_
          cases hf
          exact kj10
        · refine j_aload_n (pc := 36) hX dX4_word_36 rfl ?_
          refine j_iload_n (pc := 37) hX dX4_word_37 rfl ?_
          refine j_i2l (pc := 38) hX dX4_word_38 ?_
          refine j_ldc2 (pc := 39) hX q2589 dX4_word_39 ?_
          refine j_ldc2 (pc := 42) hX q2485 dX4_word_42 ?_
          obtain ⟨x8, w7, hc_, hf⟩ := zB2_e hf
          refine j_callV (pc := 45) hX (ci := 3) mt_X4_in q2469 q2471 qs29 (zIj_isC b u _) ⟨_, rfl, rfl⟩ [vL (Int32.toInt64 a2), vL (-1000000 : Int64), vL (1000000 : Int64)] rfl rfl (Nat.le_of_ble_eq_true rfl) (by decide) dX4_word_45 (k_X4_in _ _ hc_) ?_
          refine j_if_eq (pc := 48) hX 55 dX4_word_48 rfl hf (fun h_ hf => ?_) (fun h_ hf => ?_)
          · refine j_iconst (pc := 55) hX (0 : Int32) dX4_word_55 rfl ?_
            cases hf
            exact kj10
          · refine j_iconst (pc := 51) hX (1 : Int32) dX4_word_51 rfl ?_
            refine j_goto (pc := 52) hX 56 dX4_word_52 rfl ?_
            cases hf
            exact kj10
def f_X4_needs_L4b (n : Nat) (c1 : Int32) (w : zM) (rec : Int32 → Int32 → Option (Int32)) (v2 : Int32) (v3 : Int32) : Option (Int32) :=
  (rIM w 24 7 c1).bind fun x1 =>
  if x1 ≤ v3 then
    some v2
  else
    (rIM w 22 70 (((10 : Int32) * c1) + v3)).bind fun x2 =>
    (
      if x2 = (2 : Int32) then
        (rIM w 23 70 (((10 : Int32) * c1) + v3)).bind fun x3 =>
        some ((1 : Int32) <<< (x3 &&& 31))
      else
        some (0 : Int32)
      ).bind fun x4 =>
    rec (v2 ||| x4) (v3 + (1))
def f_X4_needs_L4 (n : Nat) (c1 : Int32) (w : zM) : Nat → Int32 → Int32 → Option (Int32)
  | 0, _, _ => none
  | k + 1, v2, v3 => f_X4_needs_L4b n c1 w (f_X4_needs_L4 n c1 w k) v2 v3
def f_X4_needs (n : Nat) (a1 : Int32) (w : zM) : Option (Int32 × zM) :=
  (f_X4_needs_L4 n a1 w n (0 : Int32) (0 : Int32)).bind fun x5 =>
  some (x5, w)
theorem mt_X4_needs : zMt yX4_needs cX4_needs 4 (some .int) 1 := ⟨q2605, q82, ⟨by decide, by decide⟩, by decide +kernel, by decide⟩
set_option maxHeartbeats 4000000 in
theorem lp_X4_needs_L4 {X : zX} {b : Nat} {u : zWd} (hX : zGd X RX4 cX4_needs 4 (some .int) 1) (n : Nat) (c1 : Int32) (w : zM) : ∀ (k : Nat) (v2 : Int32) (v3 : Int32) (o2 : Int32) , f_X4_needs_L4 n c1 w k v2 v3 = some o2 → zJ X 55 [some (vA (some b)), some (vI c1), some (vI o2), none] [] (zIj b u w) → zJ X 4 [some (vA (some b)), some (vI c1), some (vI v2), some (vI v3)] [] (zIj b u w) := by
  intro k
  induction k with
  | zero => intro v2 v3 o2 hf _; exact nomatch (show (none : Option (Int32)) = _ from hf)
  | succ k ih =>
    intro v2 v3 o2 hf kx
    have hf : f_X4_needs_L4b n c1 w (f_X4_needs_L4 n c1 w k) v2 v3 = _ := hf
    unfold f_X4_needs_L4b at hf
    refine j_iload_n (pc := 4) hX dX4_needs_4 rfl ?_
    refine j_aload_n (pc := 5) hX dX4_needs_5 rfl ?_
    refine mg_A (pc := 6) hX 24 (by decide) 18 1 rfl rfl (by decide) q2269 dX4_needs_6 ?_
    refine j_iload_n (pc := 9) hX dX4_needs_9 rfl ?_
    refine mr_I (pc := 10) hX 24 7 18 (by decide) rfl rfl rfl dX4_needs_10 hf (fun x1 hx_ hf => ?_)
    refine j_icmp_ge (pc := 11) hX 55 dX4_needs_11 rfl hf (fun h_ hf => ?_) (fun h_ hf => ?_)
    · refine j_fg [3] [some (vA (some b)), some (vI c1), some (vI v2), none] rfl ?_
      cases hf
      exact kx
    · refine j_iload_n (pc := 14) hX dX4_needs_14 rfl ?_
      refine j_aload_n (pc := 15) hX dX4_needs_15 rfl ?_
      refine mg_A (pc := 16) hX 22 (by decide) 16 1 rfl rfl (by decide) q2267 dX4_needs_16 ?_
      refine j_bipush (pc := 19) hX (10 : Int32) dX4_needs_19 (by decide +kernel) ?_
      refine j_iload_n (pc := 21) hX dX4_needs_21 rfl ?_
      refine j_imul (pc := 22) hX dX4_needs_22 ?_
      refine j_iload_n (pc := 23) hX dX4_needs_23 rfl ?_
      refine j_iadd (pc := 24) hX dX4_needs_24 ?_
      refine mr_I (pc := 25) hX 22 70 16 (by decide) rfl rfl rfl dX4_needs_25 hf (fun x2 hx_ hf => ?_)
      refine j_iconst (pc := 26) hX (2 : Int32) dX4_needs_26 rfl ?_
      obtain ⟨x4, hm_, hf⟩ := zob hf
      have kj27 : zJ X 47 [some (vA (some b)), some (vI c1), none, some (vI v3)] [vI x4, vI v2] (zIj b u w) := by
        clear hm_
        refine j_ior (pc := 47) hX dX4_needs_47 ?_
        refine j_istore_n (pc := 48) hX dX4_needs_48 (by decide) [some (vA (some b)), some (vI c1), some (vI (v2 ||| x4)), some (vI v3)] rfl ?_
        refine j_iinc (pc := 49) hX (1) dX4_needs_49 rfl rfl (by decide) [some (vA (some b)), some (vI c1), some (vI (v2 ||| x4)), some (vI (v3 + (1)))] rfl ?_
        refine j_goto (pc := 52) hX 4 dX4_needs_52 rfl ?_
        exact ih _ _ _ hf kx
      have hf := hm_
      refine j_icmp_ne (pc := 27) hX 46 dX4_needs_27 rfl hf (fun h_ hf => ?_) (fun h_ hf => ?_)
      · refine j_iconst (pc := 46) hX (0 : Int32) dX4_needs_46 rfl ?_
        refine j_fg [2] [some (vA (some b)), some (vI c1), none, some (vI v3)] rfl ?_
        cases hf
        exact kj27
      · refine j_iconst (pc := 30) hX (1 : Int32) dX4_needs_30 rfl ?_
        refine j_aload_n (pc := 31) hX dX4_needs_31 rfl ?_
        refine mg_A (pc := 32) hX 23 (by decide) 17 1 rfl rfl (by decide) q2268 dX4_needs_32 ?_
        refine j_bipush (pc := 35) hX (10 : Int32) dX4_needs_35 (by decide +kernel) ?_
        refine j_iload_n (pc := 37) hX dX4_needs_37 rfl ?_
        refine j_imul (pc := 38) hX dX4_needs_38 ?_
        refine j_iload_n (pc := 39) hX dX4_needs_39 rfl ?_
        refine j_iadd (pc := 40) hX dX4_needs_40 ?_
        refine mr_I (pc := 41) hX 23 70 17 (by decide) rfl rfl rfl dX4_needs_41 hf (fun x3 hx_ hf => ?_)
        refine j_ishl (pc := 42) hX dX4_needs_42 ?_
        refine j_goto (pc := 43) hX 47 dX4_needs_43 rfl ?_
        refine j_fg [2] [some (vA (some b)), some (vI c1), none, some (vI v3)] rfl ?_
        cases hf
        exact kj27
set_option maxHeartbeats 4000000 in
theorem k_X4_needs {l : Launch} {n : Nat} {a1 : Int32} {b : Nat} {u : zWd} {w : zM} (r : Int32) (w9 : zM) (hf : f_X4_needs n a1 w = some (r, w9)) : zCt l yX4_needs cX4_needs 4 (some .int) 1 [vA (some b), vI a1] (zIj b u w) (.inr (some (vI r), (zIj b u w9))) := by
  refine zCt_of (lv := [some (vA (some b)), some (vI a1), none, none]) (by decide +kernel) 2 rfl rfl ?_
  intro X hX hI hN hQ
  have hX : zGd X RX4 cX4_needs 4 (some .int) 1 := hX
  unfold f_X4_needs at hf
  refine j_iconst (pc := 0) hX (0 : Int32) dX4_needs_0 rfl ?_
  refine j_istore_n (pc := 1) hX dX4_needs_1 (by decide) [some (vA (some b)), some (vI a1), some (vI (0 : Int32)), none] rfl ?_
  refine j_iconst (pc := 2) hX (0 : Int32) dX4_needs_2 rfl ?_
  refine j_istore_n (pc := 3) hX dX4_needs_3 (by decide) [some (vA (some b)), some (vI a1), some (vI (0 : Int32)), some (vI (0 : Int32))] rfl ?_
  obtain ⟨x5, hm_, hf⟩ := zob hf
  refine lp_X4_needs_L4 hX n _ _ _ _ _ _ hm_ ?_
  refine j_iload_n (pc := 55) hX dX4_needs_55 rfl ?_
  exact j_ireturn (pc := 56) hX hQ (by cases hf; rfl) dX4_needs_56
def f_X4_rings_L18b (n : Nat) (c1 : Int32) (c3 : Int32) (rec : Int32 → Int32 → zM → Option (Int32 × zM)) (v2 : Int32) (v4 : Int32) (w : zM) : Option (Int32 × zM) :=
  if (6 : Int32) ≤ v4 then
    some (v2, w)
  else
    (
      if ((v2 >>> (v4 &&& 31)) &&& (1 : Int32)) = (1 : Int32) then
        some (1 : Int32)
      else
        some (0 : Int32)
      ).bind fun x3 =>
    zB2 (
      if x3 = (0 : Int32) then
        some ((0 : Int32), w)
      else
        if v4 = c1 then
          some ((0 : Int32), w)
        else
          if (mI w 26) ≤ v4 then
            some ((0 : Int32), w)
          else
            zB2 (f_X4_needs n v4 w) fun x5 w4 =>
            some (x5, w4)
      ) fun x6 w7 =>
    rec (v2 ||| x6) (v4 + (1)) w7
def f_X4_rings_L18 (n : Nat) (c1 : Int32) (c3 : Int32) : Nat → Int32 → Int32 → zM → Option (Int32 × zM)
  | 0, _, _, _ => none
  | k + 1, v2, v4, w => f_X4_rings_L18b n c1 c3 (f_X4_rings_L18 n c1 c3 k) v2 v4 w
def f_X4_rings_L9b (n : Nat) (c1 : Int32) (rec : Int32 → Int32 → zM → Option (Int32 × zM)) (v2 : Int32) (v3 : Int32) (w : zM) : Option (Int32 × zM) :=
  if (7 : Int32) ≤ v3 then
    some (v2, w)
  else
    zB2 (f_X4_rings_L18 n c1 v3 n v2 (0 : Int32) w) fun x8 w9 =>
    rec x8 (v3 + (1)) w9
def f_X4_rings_L9 (n : Nat) (c1 : Int32) : Nat → Int32 → Int32 → zM → Option (Int32 × zM)
  | 0, _, _, _ => none
  | k + 1, v2, v3, w => f_X4_rings_L9b n c1 (f_X4_rings_L9 n c1 k) v2 v3 w
def f_X4_rings (n : Nat) (a1 : Int32) (w : zM) : Option (Int32 × zM) :=
  zB2 (f_X4_needs n (6 : Int32) w) fun x2 w1 =>
  zB2 (f_X4_rings_L9 n a1 n x2 (0 : Int32) w1) fun x10 w11 =>
  (
    if ((x10 >>> (a1 &&& 31)) &&& (1 : Int32)) = (1 : Int32) then
      some (1 : Int32)
    else
      some (0 : Int32)
    ).bind fun x12 =>
  zRzM x12 w11
theorem mt_X4_rings : zMt yX4_rings cX4_rings 6 (some .boolean) 1 := ⟨q2601, q82, ⟨by decide, by decide⟩, by decide +kernel, by decide⟩
set_option maxHeartbeats 4000000 in
theorem lp_X4_rings_L18 {X : zX} {b : Nat} {u : zWd} (hX : zGd X RX4 cX4_rings 6 (some .boolean) 2) (n : Nat) (c1 : Int32) (c3 : Int32) : ∀ (k : Nat) (v2 : Int32) (v4 : Int32) (w : zM) (o2 : Int32) (w9 : zM) , f_X4_rings_L18 n c1 c3 k v2 v4 w = some (o2, w9) → zJ X 81 [some (vA (some b)), some (vI c1), some (vI o2), some (vI c3), none, none] [] (zIj b u w9) → zJ X 18 [some (vA (some b)), some (vI c1), some (vI v2), some (vI c3), some (vI v4), none] [] (zIj b u w) := by
  intro k
  induction k with
  | zero => intro v2 v4 w o2 w9 hf _; exact nomatch (show (none : Option (Int32 × zM)) = _ from hf)
  | succ k ih =>
    intro v2 v4 w o2 w9 hf kx
    have hf : f_X4_rings_L18b n c1 c3 (f_X4_rings_L18 n c1 c3 k) v2 v4 w = _ := hf
    unfold f_X4_rings_L18b at hf
    refine j_iload (pc := 18) hX dX4_rings_18 rfl ?_
    refine j_bipush (pc := 20) hX (6 : Int32) dX4_rings_20 (by decide +kernel) ?_
    refine j_icmp_ge (pc := 22) hX 81 dX4_rings_22 rfl hf (fun h_ hf => ?_) (fun h_ hf => ?_)
    · refine j_fg [4] [some (vA (some b)), some (vI c1), some (vI v2), some (vI c3), none, none] rfl ?_
      cases hf
      exact kx
    · refine j_iload_n (pc := 25) hX dX4_rings_25 rfl ?_
      refine j_iload (pc := 26) hX dX4_rings_26 rfl ?_
      refine j_ishr (pc := 28) hX dX4_rings_28 ?_
      refine j_iconst (pc := 29) hX (1 : Int32) dX4_rings_29 rfl ?_
      refine j_iand (pc := 30) hX dX4_rings_30 ?_
      refine j_iconst (pc := 31) hX (1 : Int32) dX4_rings_31 rfl ?_
      obtain ⟨x3, hm_, hf⟩ := zob hf
      have kj32 : zJ X 40 [some (vA (some b)), some (vI c1), some (vI v2), some (vI c3), some (vI v4), none] [vI x3] (zIj b u w) := by
        clear hm_
        refine j_istore (pc := 40) hX dX4_rings_40 (by decide) [some (vA (some b)), some (vI c1), some (vI v2), some (vI c3), some (vI v4), some (vI x3)] rfl ?_
        refine j_iload_n (pc := 42) hX dX4_rings_42 rfl ?_
        refine j_iload (pc := 43) hX dX4_rings_43 rfl ?_
        obtain ⟨x6, w7, hm_, hf⟩ := zB2_e hf
        have kj45 : zJ X 73 [some (vA (some b)), some (vI c1), none, some (vI c3), some (vI v4), none] [vI x6, vI v2] (zIj b u w7) := by
          clear hm_
          refine j_ior (pc := 73) hX dX4_rings_73 ?_
          refine j_istore_n (pc := 74) hX dX4_rings_74 (by decide) [some (vA (some b)), some (vI c1), some (vI (v2 ||| x6)), some (vI c3), some (vI v4), none] rfl ?_
          refine j_iinc (pc := 75) hX (1) dX4_rings_75 rfl rfl (by decide) [some (vA (some b)), some (vI c1), some (vI (v2 ||| x6)), some (vI c3), some (vI (v4 + (1))), none] rfl ?_
          refine j_goto (pc := 78) hX 18 dX4_rings_78 rfl ?_
          exact ih _ _ _ _ _ hf kx
        have hf := hm_
        refine j_if_eq (pc := 45) hX 72 dX4_rings_45 rfl hf (fun h_ hf => ?_) (fun h_ hf => ?_)
        · refine j_iconst (pc := 72) hX (0 : Int32) dX4_rings_72 rfl ?_
          refine j_fg [2, 5] [some (vA (some b)), some (vI c1), none, some (vI c3), some (vI v4), none] rfl ?_
          cases hf
          exact kj45
        · refine j_iload (pc := 48) hX dX4_rings_48 rfl ?_
          refine j_iload_n (pc := 50) hX dX4_rings_50 rfl ?_
          refine j_icmp_eq (pc := 51) hX 72 dX4_rings_51 rfl hf (fun h_ hf => ?_) (fun h_ hf => ?_)
          · refine j_iconst (pc := 72) hX (0 : Int32) dX4_rings_72 rfl ?_
            refine j_fg [2, 5] [some (vA (some b)), some (vI c1), none, some (vI c3), some (vI v4), none] rfl ?_
            cases hf
            exact kj45
          · refine j_iload (pc := 54) hX dX4_rings_54 rfl ?_
            refine j_aload_n (pc := 56) hX dX4_rings_56 rfl ?_
            refine mg_I (pc := 57) hX 26 (by decide) rfl q2271 dX4_rings_57 ?_
            refine j_icmp_ge (pc := 60) hX 72 dX4_rings_60 rfl hf (fun h_ hf => ?_) (fun h_ hf => ?_)
            · refine j_iconst (pc := 72) hX (0 : Int32) dX4_rings_72 rfl ?_
              refine j_fg [2, 5] [some (vA (some b)), some (vI c1), none, some (vI c3), some (vI v4), none] rfl ?_
              cases hf
              exact kj45
            · refine j_aload_n (pc := 63) hX dX4_rings_63 rfl ?_
              refine j_iload (pc := 64) hX dX4_rings_64 rfl ?_
              obtain ⟨x5, w4, hc_, hf⟩ := zB2_e hf
              refine j_callV (pc := 66) hX (ci := 3) mt_X4_needs q2602 q2604 qs48 (zIj_isC b u _) ⟨_, rfl, rfl⟩ [vI v4] rfl rfl (Nat.le_of_ble_eq_true rfl) (by decide) dX4_rings_66 (k_X4_needs _ _ hc_) ?_
              refine j_goto (pc := 69) hX 73 dX4_rings_69 rfl ?_
              refine j_fg [2, 5] [some (vA (some b)), some (vI c1), none, some (vI c3), some (vI v4), none] rfl ?_
              cases hf
              exact kj45
      have hf := hm_
      refine j_icmp_ne (pc := 32) hX 39 dX4_rings_32 rfl hf (fun h_ hf => ?_) (fun h_ hf => ?_)
      · refine j_iconst (pc := 39) hX (0 : Int32) dX4_rings_39 rfl ?_
        cases hf
        exact kj32
      · refine j_iconst (pc := 35) hX (1 : Int32) dX4_rings_35 rfl ?_
        refine j_goto (pc := 36) hX 40 dX4_rings_36 rfl ?_
        cases hf
        exact kj32
set_option maxHeartbeats 4000000 in
theorem lp_X4_rings_L9 {X : zX} {b : Nat} {u : zWd} (hX : zGd X RX4 cX4_rings 6 (some .boolean) 2) (n : Nat) (c1 : Int32) : ∀ (k : Nat) (v2 : Int32) (v3 : Int32) (w : zM) (o2 : Int32) (w9 : zM) , f_X4_rings_L9 n c1 k v2 v3 w = some (o2, w9) → zJ X 87 [some (vA (some b)), some (vI c1), some (vI o2), none, none, none] [] (zIj b u w9) → zJ X 9 [some (vA (some b)), some (vI c1), some (vI v2), some (vI v3), none, none] [] (zIj b u w) := by
  intro k
  induction k with
  | zero => intro v2 v3 w o2 w9 hf _; exact nomatch (show (none : Option (Int32 × zM)) = _ from hf)
  | succ k ih =>
    intro v2 v3 w o2 w9 hf kx
    have hf : f_X4_rings_L9b n c1 (f_X4_rings_L9 n c1 k) v2 v3 w = _ := hf
    unfold f_X4_rings_L9b at hf
    refine j_iload_n (pc := 9) hX dX4_rings_9 rfl ?_
    refine j_bipush (pc := 10) hX (7 : Int32) dX4_rings_10 (by decide +kernel) ?_
    refine j_icmp_ge (pc := 12) hX 87 dX4_rings_12 rfl hf (fun h_ hf => ?_) (fun h_ hf => ?_)
    · refine j_fg [3] [some (vA (some b)), some (vI c1), some (vI v2), none, none, none] rfl ?_
      cases hf
      exact kx
    · refine j_iconst (pc := 15) hX (0 : Int32) dX4_rings_15 rfl ?_
      refine j_istore (pc := 16) hX dX4_rings_16 (by decide) [some (vA (some b)), some (vI c1), some (vI v2), some (vI v3), some (vI (0 : Int32)), none] rfl ?_
      obtain ⟨x8, w9, hm_, hf⟩ := zB2_e hf
      refine lp_X4_rings_L18 hX n _ _ _ _ _ _ _ _ hm_ ?_
      refine j_iinc (pc := 81) hX (1) dX4_rings_81 rfl rfl (by decide) [some (vA (some b)), some (vI c1), some (vI x8), some (vI (v3 + (1))), none, none] rfl ?_
      refine j_goto (pc := 84) hX 9 dX4_rings_84 rfl ?_
      exact ih _ _ _ _ _ hf kx
set_option maxHeartbeats 4000000 in
theorem k_X4_rings {l : Launch} {n : Nat} {a1 : Int32} {b : Nat} {u : zWd} {w : zM} (r : Int32) (w9 : zM) (hf : f_X4_rings n a1 w = some (r, w9)) : zCt l yX4_rings cX4_rings 6 (some .boolean) 2 [vA (some b), vI a1] (zIj b u w) (.inr (some (vI r), (zIj b u w9))) := by
  refine zCt_of (lv := [some (vA (some b)), some (vI a1), none, none, none, none]) (by decide +kernel) 4 rfl rfl ?_
  intro X hX hI hN hQ
  have hX : zGd X RX4 cX4_rings 6 (some .boolean) 2 := hX
  unfold f_X4_rings at hf
  refine j_aload_n (pc := 0) hX dX4_rings_0 rfl ?_
  refine j_bipush (pc := 1) hX (6 : Int32) dX4_rings_1 (by decide +kernel) ?_
  obtain ⟨x2, w1, hc_, hf⟩ := zB2_e hf
  refine j_callV (pc := 3) hX (ci := 3) mt_X4_needs q2602 q2604 qs48 (zIj_isC b u _) ⟨_, rfl, rfl⟩ [vI (6 : Int32)] rfl rfl (Nat.le_of_ble_eq_true rfl) (by decide) dX4_rings_3 (k_X4_needs _ _ hc_) ?_
  refine j_istore_n (pc := 6) hX dX4_rings_6 (by decide) [some (vA (some b)), some (vI a1), some (vI x2), none, none, none] rfl ?_
  refine j_iconst (pc := 7) hX (0 : Int32) dX4_rings_7 rfl ?_
  refine j_istore_n (pc := 8) hX dX4_rings_8 (by decide) [some (vA (some b)), some (vI a1), some (vI x2), some (vI (0 : Int32)), none, none] rfl ?_
  obtain ⟨x10, w11, hm_, hf⟩ := zB2_e hf
  refine lp_X4_rings_L9 hX n _ _ _ _ _ _ _ hm_ ?_
  refine j_iload_n (pc := 87) hX dX4_rings_87 rfl ?_
  refine j_iload_n (pc := 88) hX dX4_rings_88 rfl ?_
  refine j_ishr (pc := 89) hX dX4_rings_89 ?_
  refine j_iconst (pc := 90) hX (1 : Int32) dX4_rings_90 rfl ?_
  refine j_iand (pc := 91) hX dX4_rings_91 ?_
  refine j_iconst (pc := 92) hX (1 : Int32) dX4_rings_92 rfl ?_
  obtain ⟨x12, hm_, hf⟩ := zob hf
  have kj93 : zJ X 101 [none, none, none, none, none, none] [vI x12] (zIj b u w11) := by
    clear hm_
    obtain ⟨hz_, hf⟩ := zRzM_e hf
    exact j_zreturn (pc := 101) hX hQ hz_ (by cases hf; rfl) dX4_rings_101
  have hf := hm_
  refine j_icmp_ne (pc := 93) hX 100 dX4_rings_93 rfl hf (fun h_ hf => ?_) (fun h_ hf => ?_)
  · refine j_iconst (pc := 100) hX (0 : Int32) dX4_rings_100 rfl ?_
    refine j_fg [0, 1, 2] [none, none, none, none, none, none] rfl ?_
    cases hf
    exact kj93
  · refine j_iconst (pc := 96) hX (1 : Int32) dX4_rings_96 rfl ?_
    refine j_goto (pc := 97) hX 101 dX4_rings_97 rfl ?_
    refine j_fg [0, 1, 2] [none, none, none, none, none, none] rfl ?_
    cases hf
    exact kj93
def f_X4_arrange_L32b (n : Nat) (c1 : Int32) (c2 : Int32) (c3 : Int32) (rec : Int32 → Int32 → zM → Option (Int32 × zM)) (v4 : Int32) (v5 : Int32) (w : zM) : Option (Int32 × zM) :=
  if v5 < (0 : Int32) then
    some (v4, w)
  else
    zB2 (
      if ((c1 >>> (v5 &&& 31)) &&& (1 : Int32)) = (0 : Int32) then
        zB2 (f_X4_needs n v5 w) fun x2 w1 =>
        if ((x2 &&& c2) &&& (c1 ^^^ (-1 : Int32))) = (0 : Int32) then
          some ((1 : Int32), w1)
        else
          some ((0 : Int32), w1)
      else
        some ((0 : Int32), w)
      ) fun x3 w4 =>
    (
      if x3 = (0 : Int32) then
        some v4
      else
        some v5
      ).bind fun x5 =>
    rec x5 (v5 + (-1)) w4
def f_X4_arrange_L32 (n : Nat) (c1 : Int32) (c2 : Int32) (c3 : Int32) : Nat → Int32 → Int32 → zM → Option (Int32 × zM)
  | 0, _, _, _ => none
  | k + 1, v4, v5, w => f_X4_arrange_L32b n c1 c2 c3 (f_X4_arrange_L32 n c1 c2 c3 k) v4 v5 w
def f_X4_arrange_L13b (n : Nat) (c2 : Int32) (rec : Int32 → Int32 → zM → Option (zM)) (v1 : Int32) (v3 : Int32) (w : zM) : Option (zM) :=
  if (mI w 26) ≤ v3 then
    some w
  else
    zB2 (f_X4_arrange_L32 n v1 c2 v3 n (-1 : Int32) ((mI w 26) - (1 : Int32)) w) fun x6 w7 =>
    (sIM w7 27 6 v3 x6).bind fun w8 =>
    rec (v1 ||| ((1 : Int32) <<< (x6 &&& 31))) (v3 + (1)) w8
def f_X4_arrange_L13 (n : Nat) (c2 : Int32) : Nat → Int32 → Int32 → zM → Option (zM)
  | 0, _, _, _ => none
  | k + 1, v1, v3, w => f_X4_arrange_L13b n c2 (f_X4_arrange_L13 n c2 k) v1 v3 w
def f_X4_arrange (n : Nat) (w : zM) : Option zM :=
  (f_X4_arrange_L13 n (((1 : Int32) <<< ((mI w 26) &&& 31)) - (1 : Int32)) n (0 : Int32) (0 : Int32) w).bind fun w9 =>
  some w9
theorem mt_X4_arrange : zMt yX4_arrange cX4_arrange 7 none 0 := ⟨q2610, q82, ⟨by decide, by decide⟩, by decide +kernel, by decide⟩
set_option maxHeartbeats 4000000 in
theorem lp_X4_arrange_L32 {X : zX} {b : Nat} {u : zWd} (hX : zGd X RX4 cX4_arrange 7 none 2) (n : Nat) (c1 : Int32) (c2 : Int32) (c3 : Int32) : ∀ (k : Nat) (v4 : Int32) (v5 : Int32) (w : zM) (o4 : Int32) (w9 : zM) , f_X4_arrange_L32 n c1 c2 c3 k v4 v5 w = some (o4, w9) → zJ X 88 [some (vA (some b)), some (vI c1), some (vI c2), some (vI c3), some (vI o4), none, none] [] (zIj b u w9) → zJ X 32 [some (vA (some b)), some (vI c1), some (vI c2), some (vI c3), some (vI v4), some (vI v5), none] [] (zIj b u w) := by
  intro k
  induction k with
  | zero => intro v4 v5 w o4 w9 hf _; exact nomatch (show (none : Option (Int32 × zM)) = _ from hf)
  | succ k ih =>
    intro v4 v5 w o4 w9 hf kx
    have hf : f_X4_arrange_L32b n c1 c2 c3 (f_X4_arrange_L32 n c1 c2 c3 k) v4 v5 w = _ := hf
    unfold f_X4_arrange_L32b at hf
    refine j_iload (pc := 32) hX dX4_arrange_32 rfl ?_
    refine j_if_lt (pc := 34) hX 88 dX4_arrange_34 rfl hf (fun h_ hf => ?_) (fun h_ hf => ?_)
    · refine j_fg [5] [some (vA (some b)), some (vI c1), some (vI c2), some (vI c3), some (vI v4), none, none] rfl ?_
      cases hf
      exact kx
    · refine j_iload_n (pc := 37) hX dX4_arrange_37 rfl ?_
      refine j_iload (pc := 38) hX dX4_arrange_38 rfl ?_
      refine j_ishr (pc := 40) hX dX4_arrange_40 ?_
      refine j_iconst (pc := 41) hX (1 : Int32) dX4_arrange_41 rfl ?_
      refine j_iand (pc := 42) hX dX4_arrange_42 ?_
      obtain ⟨x3, w4, hm_, hf⟩ := zB2_e hf
      have kj43 : zJ X 66 [some (vA (some b)), some (vI c1), some (vI c2), some (vI c3), some (vI v4), some (vI v5), none] [vI x3] (zIj b u w4) := by
        clear hm_
        refine j_istore (pc := 66) hX dX4_arrange_66 (by decide) [some (vA (some b)), some (vI c1), some (vI c2), some (vI c3), some (vI v4), some (vI v5), some (vI x3)] rfl ?_
        refine j_iload (pc := 68) hX dX4_arrange_68 rfl ?_
        obtain ⟨x5, hm_, hf⟩ := zob hf
        have kj70 : zJ X 80 [some (vA (some b)), some (vI c1), some (vI c2), some (vI c3), none, some (vI v5), none] [vI x5] (zIj b u w4) := by
          clear hm_
          refine j_istore (pc := 80) hX dX4_arrange_80 (by decide) [some (vA (some b)), some (vI c1), some (vI c2), some (vI c3), some (vI x5), some (vI v5), none] rfl ?_
          refine j_iinc (pc := 82) hX (-1) dX4_arrange_82 rfl rfl (by decide) [some (vA (some b)), some (vI c1), some (vI c2), some (vI c3), some (vI x5), some (vI (v5 + (-1))), none] rfl ?_
          refine j_goto (pc := 85) hX 32 dX4_arrange_85 rfl ?_
          exact ih _ _ _ _ _ hf kx
        have hf := hm_
        refine j_if_eq (pc := 70) hX 78 dX4_arrange_70 rfl hf (fun h_ hf => ?_) (fun h_ hf => ?_)
        · refine j_iload (pc := 78) hX dX4_arrange_78 rfl ?_
          refine j_fg [4, 6] [some (vA (some b)), some (vI c1), some (vI c2), some (vI c3), none, some (vI v5), none] rfl ?_
          cases hf
          exact kj70
        · refine j_iload (pc := 73) hX dX4_arrange_73 rfl ?_
          refine j_goto (pc := 75) hX 80 dX4_arrange_75 rfl ?_
          refine j_fg [4, 6] [some (vA (some b)), some (vI c1), some (vI c2), some (vI c3), none, some (vI v5), none] rfl ?_
          cases hf
          exact kj70
      have hf := hm_
      refine j_if_ne (pc := 43) hX 65 dX4_arrange_43 rfl hf (fun h_ hf => ?_) (fun h_ hf => ?_)
      · refine j_iconst (pc := 65) hX (0 : Int32) dX4_arrange_65 rfl ?_
        cases hf
        exact kj43
      · refine j_aload_n (pc := 46) hX dX4_arrange_46 rfl ?_
        refine j_iload (pc := 47) hX dX4_arrange_47 rfl ?_
        obtain ⟨x2, w1, hc_, hf⟩ := zB2_e hf
        refine j_callV (pc := 49) hX (ci := 3) mt_X4_needs q2602 q2604 qs48 (zIj_isC b u _) ⟨_, rfl, rfl⟩ [vI v5] rfl rfl (Nat.le_of_ble_eq_true rfl) (by decide) dX4_arrange_49 (k_X4_needs _ _ hc_) ?_
        refine j_iload_n (pc := 52) hX dX4_arrange_52 rfl ?_
        refine j_iand (pc := 53) hX dX4_arrange_53 ?_
        refine j_iload_n (pc := 54) hX dX4_arrange_54 rfl ?_
        refine j_iconst (pc := 55) hX (-1 : Int32) dX4_arrange_55 rfl ?_
        refine j_ixor (pc := 56) hX dX4_arrange_56 ?_
        refine j_iand (pc := 57) hX dX4_arrange_57 ?_
        refine j_if_ne (pc := 58) hX 65 dX4_arrange_58 rfl hf (fun h_ hf => ?_) (fun h_ hf => ?_)
        · refine j_iconst (pc := 65) hX (0 : Int32) dX4_arrange_65 rfl ?_
          cases hf
          exact kj43
        · refine j_iconst (pc := 61) hX (1 : Int32) dX4_arrange_61 rfl ?_
          refine j_goto (pc := 62) hX 66 dX4_arrange_62 rfl ?_
          cases hf
          exact kj43
set_option maxHeartbeats 4000000 in
theorem lp_X4_arrange_L13 {X : zX} {b : Nat} {u : zWd} (hX : zGd X RX4 cX4_arrange 7 none 2) (n : Nat) (c2 : Int32) : ∀ (k : Nat) (v1 : Int32) (v3 : Int32) (w : zM) (w9 : zM) , f_X4_arrange_L13 n c2 k v1 v3 w = some w9 → zJ X 109 [some (vA (some b)), none, some (vI c2), none, none, none, none] [] (zIj b u w9) → zJ X 13 [some (vA (some b)), some (vI v1), some (vI c2), some (vI v3), none, none, none] [] (zIj b u w) := by
  intro k
  induction k with
  | zero => intro v1 v3 w w9 hf _; exact nomatch (show (none : Option (zM)) = _ from hf)
  | succ k ih =>
    intro v1 v3 w w9 hf kx
    have hf : f_X4_arrange_L13b n c2 (f_X4_arrange_L13 n c2 k) v1 v3 w = _ := hf
    unfold f_X4_arrange_L13b at hf
    refine j_iload_n (pc := 13) hX dX4_arrange_13 rfl ?_
    refine j_aload_n (pc := 14) hX dX4_arrange_14 rfl ?_
    refine mg_I (pc := 15) hX 26 (by decide) rfl q2271 dX4_arrange_15 ?_
    refine j_icmp_ge (pc := 18) hX 109 dX4_arrange_18 rfl hf (fun h_ hf => ?_) (fun h_ hf => ?_)
    · refine j_fg [1, 3] [some (vA (some b)), none, some (vI c2), none, none, none, none] rfl ?_
      cases hf
      exact kx
    · refine j_iconst (pc := 21) hX (-1 : Int32) dX4_arrange_21 rfl ?_
      refine j_istore (pc := 22) hX dX4_arrange_22 (by decide) [some (vA (some b)), some (vI v1), some (vI c2), some (vI v3), some (vI (-1 : Int32)), none, none] rfl ?_
      refine j_aload_n (pc := 24) hX dX4_arrange_24 rfl ?_
      refine mg_I (pc := 25) hX 26 (by decide) rfl q2271 dX4_arrange_25 ?_
      refine j_iconst (pc := 28) hX (1 : Int32) dX4_arrange_28 rfl ?_
      refine j_isub (pc := 29) hX dX4_arrange_29 ?_
      refine j_istore (pc := 30) hX dX4_arrange_30 (by decide) [some (vA (some b)), some (vI v1), some (vI c2), some (vI v3), some (vI (-1 : Int32)), some (vI ((mI w 26) - (1 : Int32))), none] rfl ?_
      obtain ⟨x6, w7, hm_, hf⟩ := zB2_e hf
      refine lp_X4_arrange_L32 hX n _ _ _ _ _ _ _ _ _ hm_ ?_
      refine j_aload_n (pc := 88) hX dX4_arrange_88 rfl ?_
      refine mg_A (pc := 89) hX 27 (by decide) 20 1 rfl rfl (by decide) q2272 dX4_arrange_89 ?_
      refine j_iload_n (pc := 92) hX dX4_arrange_92 rfl ?_
      refine j_iload (pc := 93) hX dX4_arrange_93 rfl ?_
      refine ms_I (pc := 95) hX 27 6 20 (by decide) rfl rfl rfl dX4_arrange_95 hf (fun w8 hf => ?_)
      refine j_iload_n (pc := 96) hX dX4_arrange_96 rfl ?_
      refine j_iconst (pc := 97) hX (1 : Int32) dX4_arrange_97 rfl ?_
      refine j_iload (pc := 98) hX dX4_arrange_98 rfl ?_
      refine j_ishl (pc := 100) hX dX4_arrange_100 ?_
      refine j_ior (pc := 101) hX dX4_arrange_101 ?_
      refine j_istore_n (pc := 102) hX dX4_arrange_102 (by decide) [some (vA (some b)), some (vI (v1 ||| ((1 : Int32) <<< (x6 &&& 31)))), some (vI c2), some (vI v3), some (vI x6), none, none] rfl ?_
      refine j_iinc (pc := 103) hX (1) dX4_arrange_103 rfl rfl (by decide) [some (vA (some b)), some (vI (v1 ||| ((1 : Int32) <<< (x6 &&& 31)))), some (vI c2), some (vI (v3 + (1))), some (vI x6), none, none] rfl ?_
      refine j_goto (pc := 106) hX 13 dX4_arrange_106 rfl ?_
      refine j_fg [4] [some (vA (some b)), some (vI (v1 ||| ((1 : Int32) <<< (x6 &&& 31)))), some (vI c2), some (vI (v3 + (1))), none, none, none] rfl ?_
      exact ih _ _ _ _ hf kx
set_option maxHeartbeats 4000000 in
theorem k_X4_arrange {l : Launch} {n : Nat} {b : Nat} {u : zWd} {w : zM} (r : Unit) (w9 : zM) (hf : f_X4_arrange n w = some w9) : zCt l yX4_arrange cX4_arrange 7 none 2 [vA (some b)] (zIj b u w) (.inr (none, (zIj b u w9))) := by
  refine zCt_of (lv := [some (vA (some b)), none, none, none, none, none, none]) (by decide +kernel) 6 rfl rfl ?_
  intro X hX hI hN hQ
  have hX : zGd X RX4 cX4_arrange 7 none 2 := hX
  unfold f_X4_arrange at hf
  refine j_iconst (pc := 0) hX (0 : Int32) dX4_arrange_0 rfl ?_
  refine j_istore_n (pc := 1) hX dX4_arrange_1 (by decide) [some (vA (some b)), some (vI (0 : Int32)), none, none, none, none, none] rfl ?_
  refine j_iconst (pc := 2) hX (1 : Int32) dX4_arrange_2 rfl ?_
  refine j_aload_n (pc := 3) hX dX4_arrange_3 rfl ?_
  refine mg_I (pc := 4) hX 26 (by decide) rfl q2271 dX4_arrange_4 ?_
  refine j_ishl (pc := 7) hX dX4_arrange_7 ?_
  refine j_iconst (pc := 8) hX (1 : Int32) dX4_arrange_8 rfl ?_
  refine j_isub (pc := 9) hX dX4_arrange_9 ?_
  refine j_istore_n (pc := 10) hX dX4_arrange_10 (by decide) [some (vA (some b)), some (vI (0 : Int32)), some (vI (((1 : Int32) <<< ((mI w 26) &&& 31)) - (1 : Int32))), none, none, none, none] rfl ?_
  refine j_iconst (pc := 11) hX (0 : Int32) dX4_arrange_11 rfl ?_
  refine j_istore_n (pc := 12) hX dX4_arrange_12 (by decide) [some (vA (some b)), some (vI (0 : Int32)), some (vI (((1 : Int32) <<< ((mI w 26) &&& 31)) - (1 : Int32))), some (vI (0 : Int32)), none, none, none] rfl ?_
  obtain ⟨w9, hm_, hf⟩ := zob hf
  refine lp_X4_arrange_L13 hX n _ _ _ _ _ _ hm_ ?_
  exact j_return (pc := 109) hX hQ (by cases hf; rfl) dX4_arrange_109
def f_X4_element_L103b (n : Nat) (c1 : Int32) (c2 : Int32) (rec : Int32 → zM → Option (zM)) (v5 : Int32) (w : zM) : Option (zM) :=
  if (10 : Int32) ≤ v5 then
    some w
  else
    (rIM w 22 70 ((60 : Int32) + v5)).bind fun x16 =>
    (sIM w 22 70 (((10 : Int32) * c1) + v5) x16).bind fun w17 =>
    (rIM w17 23 70 ((60 : Int32) + v5)).bind fun x18 =>
    (sIM w17 23 70 (((10 : Int32) * c1) + v5) x18).bind fun w19 =>
    rec (v5 + (1)) w19
def f_X4_element_L103 (n : Nat) (c1 : Int32) (c2 : Int32) : Nat → Int32 → zM → Option (zM)
  | 0, _, _ => none
  | k + 1, v5, w => f_X4_element_L103b n c1 c2 (f_X4_element_L103 n c1 c2 k) v5 w
def f_X4_element (n : Nat) (a1 : Int32) (a2 : Int32) (w : zM) : Option (Int32 × zM) :=
  zB2 (f_X4_in n (Int32.toInt64 a1) (0 : Int64) (Int32.toInt64 (mI w 26)) w) fun x2 w1 =>
  (
    if x2 = (0 : Int32) then
      some (0 : Int32)
    else
      if (6 : Int32) ≤ a1 then
        some (0 : Int32)
      else
        some (1 : Int32)
    ).bind fun x3 =>
  zB2 (
    if x3 = (0 : Int32) then
      some ((0 : Int32), w1)
    else
      zB2 (f_X4_depth n (6 : Int32) w1) fun x5 w4 =>
      if x5 = (1 : Int32) then
        zB2 (f_X4_rings n a1 w4) fun x7 w6 =>
        if x7 = (0 : Int32) then
          some ((0 : Int32), w6)
        else
          some ((1 : Int32), w6)
      else
        some ((1 : Int32), w4)
    ) fun x8 w9 =>
  zB2 (
    if x3 = (0 : Int32) then
      some ((1 : Int32), w9)
    else
      zB2 (f_X4_in n (Int32.toInt64 a2) (0 : Int64) (63 : Int64) w9) fun x11 w10 =>
      if x11 = (0 : Int32) then
        some ((2 : Int32), w10)
      else
        if x8 = (0 : Int32) then
          some ((0 : Int32), w10)
        else
          some ((3 : Int32), w10)
    ) fun x12 w13 =>
  zB2 (f_X4_holds n x12 w13) fun x15 w14 =>
  if x15 = (0 : Int32) then
    (f_X4_element_L103 n a1 a2 n (0 : Int32) w14).bind fun w20 =>
    (rIM w20 24 7 (6 : Int32)).bind fun x21 =>
    (sIM w20 24 7 a1 x21).bind fun w22 =>
    (sIM w22 24 7 (6 : Int32) (0 : Int32)).bind fun w23 =>
    (sIM w23 25 6 a1 a2).bind fun w24 =>
    (
      if a1 = (mI w24 26) then
        some (1 : Int32)
      else
        some (0 : Int32)
      ).bind fun x25 =>
    (pM w24 26 ((mI w24 26) + x25)).bind fun w26 =>
    (f_X4_arrange n w26).bind fun w27 =>
    some ((mI w27 26), w27)
  else
    some ((-1 : Int32), w14)
theorem mt_X4_element : zMt yX4_element cX4_element 6 (some .int) 2 := ⟨q2597, q82, ⟨by decide, by decide⟩, by decide +kernel, by decide⟩
set_option maxHeartbeats 4000000 in
theorem lp_X4_element_L103 {X : zX} {b : Nat} {u : zWd} (hX : zGd X RX4 cX4_element 6 (some .int) 3) (n : Nat) (c1 : Int32) (c2 : Int32) : ∀ (k : Nat) (v5 : Int32) (w : zM) (w9 : zM) , f_X4_element_L103 n c1 c2 k v5 w = some w9 → zJ X 160 [some (vA (some b)), some (vI c1), some (vI c2), none, none, none] [] (zIj b u w9) → zJ X 103 [some (vA (some b)), some (vI c1), some (vI c2), none, none, some (vI v5)] [] (zIj b u w) := by
  intro k
  induction k with
  | zero => intro v5 w w9 hf _; exact nomatch (show (none : Option (zM)) = _ from hf)
  | succ k ih =>
    intro v5 w w9 hf kx
    have hf : f_X4_element_L103b n c1 c2 (f_X4_element_L103 n c1 c2 k) v5 w = _ := hf
    unfold f_X4_element_L103b at hf
    refine j_iload (pc := 103) hX dX4_element_103 rfl ?_
    refine j_bipush (pc := 105) hX (10 : Int32) dX4_element_105 (by decide +kernel) ?_
    refine j_icmp_ge (pc := 107) hX 160 dX4_element_107 rfl hf (fun h_ hf => ?_) (fun h_ hf => ?_)
    · refine j_fg [5] [some (vA (some b)), some (vI c1), some (vI c2), none, none, none] rfl ?_
      cases hf
      exact kx
    · refine j_aload_n (pc := 110) hX dX4_element_110 rfl ?_
      refine mg_A (pc := 111) hX 22 (by decide) 16 1 rfl rfl (by decide) q2267 dX4_element_111 ?_
      refine j_bipush (pc := 114) hX (10 : Int32) dX4_element_114 (by decide +kernel) ?_
      refine j_iload_n (pc := 116) hX dX4_element_116 rfl ?_
      refine j_imul (pc := 117) hX dX4_element_117 ?_
      refine j_iload (pc := 118) hX dX4_element_118 rfl ?_
      refine j_iadd (pc := 120) hX dX4_element_120 ?_
      refine j_aload_n (pc := 121) hX dX4_element_121 rfl ?_
      refine mg_A (pc := 122) hX 22 (by decide) 16 1 rfl rfl (by decide) q2267 dX4_element_122 ?_
      refine j_bipush (pc := 125) hX (60 : Int32) dX4_element_125 (by decide +kernel) ?_
      refine j_iload (pc := 127) hX dX4_element_127 rfl ?_
      refine j_iadd (pc := 129) hX dX4_element_129 ?_
      refine mr_I (pc := 130) hX 22 70 16 (by decide) rfl rfl rfl dX4_element_130 hf (fun x16 hx_ hf => ?_)
      refine ms_I (pc := 131) hX 22 70 16 (by decide) rfl rfl rfl dX4_element_131 hf (fun w17 hf => ?_)
      refine j_aload_n (pc := 132) hX dX4_element_132 rfl ?_
      refine mg_A (pc := 133) hX 23 (by decide) 17 1 rfl rfl (by decide) q2268 dX4_element_133 ?_
      refine j_bipush (pc := 136) hX (10 : Int32) dX4_element_136 (by decide +kernel) ?_
      refine j_iload_n (pc := 138) hX dX4_element_138 rfl ?_
      refine j_imul (pc := 139) hX dX4_element_139 ?_
      refine j_iload (pc := 140) hX dX4_element_140 rfl ?_
      refine j_iadd (pc := 142) hX dX4_element_142 ?_
      refine j_aload_n (pc := 143) hX dX4_element_143 rfl ?_
      refine mg_A (pc := 144) hX 23 (by decide) 17 1 rfl rfl (by decide) q2268 dX4_element_144 ?_
      refine j_bipush (pc := 147) hX (60 : Int32) dX4_element_147 (by decide +kernel) ?_
      refine j_iload (pc := 149) hX dX4_element_149 rfl ?_
      refine j_iadd (pc := 151) hX dX4_element_151 ?_
      refine mr_I (pc := 152) hX 23 70 17 (by decide) rfl rfl rfl dX4_element_152 hf (fun x18 hx_ hf => ?_)
      refine ms_I (pc := 153) hX 23 70 17 (by decide) rfl rfl rfl dX4_element_153 hf (fun w19 hf => ?_)
      refine j_iinc (pc := 154) hX (1) dX4_element_154 rfl rfl (by decide) [some (vA (some b)), some (vI c1), some (vI c2), none, none, some (vI (v5 + (1)))] rfl ?_
      refine j_goto (pc := 157) hX 103 dX4_element_157 rfl ?_
      exact ih _ _ _ hf kx
set_option maxHeartbeats 4000000 in
theorem k_X4_element {l : Launch} {n : Nat} {a1 : Int32} {a2 : Int32} {b : Nat} {u : zWd} {w : zM} (r : Int32) (w9 : zM) (hf : f_X4_element n a1 a2 w = some (r, w9)) : zCt l yX4_element cX4_element 6 (some .int) 3 [vA (some b), vI a1, vI a2] (zIj b u w) (.inr (some (vI r), (zIj b u w9))) := by
  refine zCt_of (lv := [some (vA (some b)), some (vI a1), some (vI a2), none, none, none]) (by decide +kernel) 3 rfl rfl ?_
  intro X hX hI hN hQ
  have hX : zGd X RX4 cX4_element 6 (some .int) 3 := hX
  unfold f_X4_element at hf
  refine j_aload_n (pc := 0) hX dX4_element_0 rfl ?_
  refine j_iload_n (pc := 1) hX dX4_element_1 rfl ?_
  refine j_i2l (pc := 2) hX dX4_element_2 ?_
  refine j_lconst (pc := 3) hX (0 : Int64) dX4_element_3 rfl ?_
  refine j_aload_n (pc := 4) hX dX4_element_4 rfl ?_
  refine mg_I (pc := 5) hX 26 (by decide) rfl q2271 dX4_element_5 ?_
  refine j_i2l (pc := 8) hX dX4_element_8 ?_
  obtain ⟨x2, w1, hc_, hf⟩ := zB2_e hf
  refine j_callV (pc := 9) hX (ci := 3) mt_X4_in q2469 q2471 qs29 (zIj_isC b u _) ⟨_, rfl, rfl⟩ [vL (Int32.toInt64 a1), vL (0 : Int64), vL (Int32.toInt64 (mI w 26))] rfl rfl (Nat.le_of_ble_eq_true rfl) (by decide) dX4_element_9 (k_X4_in _ _ hc_) ?_
  obtain ⟨x3, hm_, hf⟩ := zob hf
  have kj12 : zJ X 26 [some (vA (some b)), some (vI a1), some (vI a2), none, none, none] [vI x3] (zIj b u w1) := by
    clear hm_
    refine j_istore_n (pc := 26) hX dX4_element_26 (by decide) [some (vA (some b)), some (vI a1), some (vI a2), some (vI x3), none, none] rfl ?_
    refine j_iload_n (pc := 27) hX dX4_element_27 rfl ?_
    obtain ⟨x8, w9, hm_, hf⟩ := zB2_e hf
    have kj28 : zJ X 54 [some (vA (some b)), some (vI a1), some (vI a2), some (vI x3), none, none] [vI x8] (zIj b u w9) := by
      clear hm_
      refine j_istore (pc := 54) hX dX4_element_54 (by decide) [some (vA (some b)), some (vI a1), some (vI a2), some (vI x3), some (vI x8), none] rfl ?_
      refine j_aload_n (pc := 56) hX dX4_element_56 rfl ?_
      refine j_iload_n (pc := 57) hX dX4_element_57 rfl ?_
      obtain ⟨x12, w13, hm_, hf⟩ := zB2_e hf
      have kj58 : zJ X 92 [some (vA (some b)), some (vI a1), some (vI a2), none, none, none] [vI x12, vA (some b)] (zIj b u w13) := by
        clear hm_
        obtain ⟨x15, w14, hc_, hf⟩ := zB2_e hf
        refine j_callV (pc := 92) hX (ci := 3) mt_X4_holds q2486 q2488 qs32 (zIj_isC b u _) ⟨_, rfl, rfl⟩ [vI x12] rfl rfl (Nat.le_of_ble_eq_true rfl) (by decide) dX4_element_92 (k_X4_holds _ _ hc_) ?_
        refine j_if_eq (pc := 95) hX 100 dX4_element_95 rfl hf (fun h_ hf => ?_) (fun h_ hf => ?_)
        · refine j_iconst (pc := 100) hX (0 : Int32) dX4_element_100 rfl ?_
          refine j_istore (pc := 101) hX dX4_element_101 (by decide) [some (vA (some b)), some (vI a1), some (vI a2), none, none, some (vI (0 : Int32))] rfl ?_
          obtain ⟨w20, hm_, hf⟩ := zob hf
          refine lp_X4_element_L103 hX n _ _ _ _ _ _ hm_ ?_
          refine j_aload_n (pc := 160) hX dX4_element_160 rfl ?_
          refine mg_A (pc := 161) hX 24 (by decide) 18 1 rfl rfl (by decide) q2269 dX4_element_161 ?_
          refine j_iload_n (pc := 164) hX dX4_element_164 rfl ?_
          refine j_aload_n (pc := 165) hX dX4_element_165 rfl ?_
          refine mg_A (pc := 166) hX 24 (by decide) 18 1 rfl rfl (by decide) q2269 dX4_element_166 ?_
          refine j_bipush (pc := 169) hX (6 : Int32) dX4_element_169 (by decide +kernel) ?_
          refine mr_I (pc := 171) hX 24 7 18 (by decide) rfl rfl rfl dX4_element_171 hf (fun x21 hx_ hf => ?_)
          refine ms_I (pc := 172) hX 24 7 18 (by decide) rfl rfl rfl dX4_element_172 hf (fun w22 hf => ?_)
          refine j_aload_n (pc := 173) hX dX4_element_173 rfl ?_
          refine mg_A (pc := 174) hX 24 (by decide) 18 1 rfl rfl (by decide) q2269 dX4_element_174 ?_
          refine j_bipush (pc := 177) hX (6 : Int32) dX4_element_177 (by decide +kernel) ?_
          refine j_iconst (pc := 179) hX (0 : Int32) dX4_element_179 rfl ?_
          refine ms_I (pc := 180) hX 24 7 18 (by decide) rfl rfl rfl dX4_element_180 hf (fun w23 hf => ?_)
          refine j_aload_n (pc := 181) hX dX4_element_181 rfl ?_
          refine mg_A (pc := 182) hX 25 (by decide) 19 1 rfl rfl (by decide) q2270 dX4_element_182 ?_
          refine j_iload_n (pc := 185) hX dX4_element_185 rfl ?_
          refine j_iload_n (pc := 186) hX dX4_element_186 rfl ?_
          refine ms_I (pc := 187) hX 25 6 19 (by decide) rfl rfl rfl dX4_element_187 hf (fun w24 hf => ?_)
          refine j_aload_n (pc := 188) hX dX4_element_188 rfl ?_
          refine j_dup (pc := 189) hX rfl dX4_element_189 ?_
          refine mg_I (pc := 190) hX 26 (by decide) rfl q2271 dX4_element_190 ?_
          refine j_iload_n (pc := 193) hX dX4_element_193 rfl ?_
          refine j_aload_n (pc := 194) hX dX4_element_194 rfl ?_
          refine mg_I (pc := 195) hX 26 (by decide) rfl q2271 dX4_element_195 ?_
          obtain ⟨x25, hm_, hf⟩ := zob hf
          have kj198 : zJ X 206 [some (vA (some b)), none, none, none, none, none] [vI x25, vI (mI w24 26), vA (some b)] (zIj b u w24) := by
            clear hm_
            refine j_iadd (pc := 206) hX dX4_element_206 ?_
            refine mp_I (pc := 207) hX 26 (by decide) rfl rfl q2271 dX4_element_207 hf (fun w26 hf => ?_)
            refine j_aload_n (pc := 210) hX dX4_element_210 rfl ?_
            obtain ⟨w27, hc_, hf⟩ := zob hf
            refine j_callV (pc := 211) hX (ci := 3) mt_X4_arrange q2607 q2609 qs49 (zIj_isC b u _) ⟨_, rfl, rfl⟩ [] rfl rfl (Nat.le_of_ble_eq_true rfl) (by decide) dX4_element_211 (k_X4_arrange () _ hc_) ?_
            refine j_aload_n (pc := 214) hX dX4_element_214 rfl ?_
            refine mg_I (pc := 215) hX 26 (by decide) rfl q2271 dX4_element_215 ?_
            exact j_ireturn (pc := 218) hX hQ (by cases hf; rfl) dX4_element_218
          have hf := hm_
          refine j_icmp_ne (pc := 198) hX 205 dX4_element_198 rfl hf (fun h_ hf => ?_) (fun h_ hf => ?_)
          · refine j_iconst (pc := 205) hX (0 : Int32) dX4_element_205 rfl ?_
            refine j_fg [1, 2] [some (vA (some b)), none, none, none, none, none] rfl ?_
            cases hf
            exact kj198
          · refine j_iconst (pc := 201) hX (1 : Int32) dX4_element_201 rfl ?_
            refine j_goto (pc := 202) hX 206 dX4_element_202 rfl ?_
            refine j_fg [1, 2] [some (vA (some b)), none, none, none, none, none] rfl ?_
            cases hf
            exact kj198
        · refine j_iconst (pc := 98) hX (-1 : Int32) dX4_element_98 rfl ?_
          exact j_ireturn (pc := 99) hX hQ (by cases hf; rfl) dX4_element_99
      have hf := hm_
      refine j_if_ne (pc := 58) hX 65 dX4_element_58 rfl hf (fun h_ hf => ?_) (fun h_ hf => ?_)
      · refine j_aload_n (pc := 65) hX dX4_element_65 rfl ?_
        refine j_iload_n (pc := 66) hX dX4_element_66 rfl ?_
        refine j_i2l (pc := 67) hX dX4_element_67 ?_
        refine j_lconst (pc := 68) hX (0 : Int64) dX4_element_68 rfl ?_
        refine j_ldc2 (pc := 69) hX q2606 dX4_element_69 ?_
        obtain ⟨x11, w10, hc_, hf⟩ := zB2_e hf
        refine j_callV (pc := 72) hX (ci := 3) mt_X4_in q2469 q2471 qs29 (zIj_isC b u _) ⟨_, rfl, rfl⟩ [vL (Int32.toInt64 a2), vL (0 : Int64), vL (63 : Int64)] rfl rfl (Nat.le_of_ble_eq_true rfl) (by decide) dX4_element_72 (k_X4_in _ _ hc_) ?_
        refine j_if_ne (pc := 75) hX 82 dX4_element_75 rfl hf (fun h_ hf => ?_) (fun h_ hf => ?_)
        · refine j_iload (pc := 82) hX dX4_element_82 rfl ?_
          refine j_if_eq (pc := 84) hX 91 dX4_element_84 rfl hf (fun h_ hf => ?_) (fun h_ hf => ?_)
          · refine j_iconst (pc := 91) hX (0 : Int32) dX4_element_91 rfl ?_
            refine j_fg [3, 4] [some (vA (some b)), some (vI a1), some (vI a2), none, none, none] rfl ?_
            cases hf
            exact kj58
          · refine j_iconst (pc := 87) hX (3 : Int32) dX4_element_87 rfl ?_
            refine j_goto (pc := 88) hX 92 dX4_element_88 rfl ?_
            refine j_fg [3, 4] [some (vA (some b)), some (vI a1), some (vI a2), none, none, none] rfl ?_
            cases hf
            exact kj58
        · refine j_iconst (pc := 78) hX (2 : Int32) dX4_element_78 rfl ?_
          refine j_goto (pc := 79) hX 92 dX4_element_79 rfl ?_
          refine j_fg [3, 4] [some (vA (some b)), some (vI a1), some (vI a2), none, none, none] rfl ?_
          cases hf
          exact kj58
      · refine j_iconst (pc := 61) hX (1 : Int32) dX4_element_61 rfl ?_
        refine j_goto (pc := 62) hX 92 dX4_element_62 rfl ?_
        refine j_fg [3, 4] [some (vA (some b)), some (vI a1), some (vI a2), none, none, none] rfl ?_
        cases hf
        exact kj58
    have hf := hm_
    refine j_if_eq (pc := 28) hX 53 dX4_element_28 rfl hf (fun h_ hf => ?_) (fun h_ hf => ?_)
    · refine j_iconst (pc := 53) hX (0 : Int32) dX4_element_53 rfl ?_
      cases hf
      exact kj28
    · refine j_aload_n (pc := 31) hX dX4_element_31 rfl ?_
      refine j_bipush (pc := 32) hX (6 : Int32) dX4_element_32 (by decide +kernel) ?_
      obtain ⟨x5, w4, hc_, hf⟩ := zB2_e hf
      refine j_callV (pc := 34) hX (ci := 3) mt_X4_depth q2590 q2592 qs46 (zIj_isC b u _) ⟨_, rfl, rfl⟩ [vI (6 : Int32)] rfl rfl (Nat.le_of_ble_eq_true rfl) (by decide) dX4_element_34 (k_X4_depth _ _ hc_) ?_
      refine j_iconst (pc := 37) hX (1 : Int32) dX4_element_37 rfl ?_
      refine j_icmp_ne (pc := 38) hX 49 dX4_element_38 rfl hf (fun h_ hf => ?_) (fun h_ hf => ?_)
      · refine j_iconst (pc := 49) hX (1 : Int32) dX4_element_49 rfl ?_
        refine j_goto (pc := 50) hX 54 dX4_element_50 rfl ?_
        cases hf
        exact kj28
      · refine j_aload_n (pc := 41) hX dX4_element_41 rfl ?_
        refine j_iload_n (pc := 42) hX dX4_element_42 rfl ?_
        obtain ⟨x7, w6, hc_, hf⟩ := zB2_e hf
        refine j_callV (pc := 43) hX (ci := 3) mt_X4_rings q2598 q2600 qs47 (zIj_isC b u _) ⟨_, rfl, rfl⟩ [vI a1] rfl rfl (Nat.le_of_ble_eq_true rfl) (by decide) dX4_element_43 (k_X4_rings _ _ hc_) ?_
        refine j_if_eq (pc := 46) hX 53 dX4_element_46 rfl hf (fun h_ hf => ?_) (fun h_ hf => ?_)
        · refine j_iconst (pc := 53) hX (0 : Int32) dX4_element_53 rfl ?_
          cases hf
          exact kj28
        · refine j_iconst (pc := 49) hX (1 : Int32) dX4_element_49 rfl ?_
          refine j_goto (pc := 50) hX 54 dX4_element_50 rfl ?_
          cases hf
          exact kj28
  have hf := hm_
  refine j_if_eq (pc := 12) hX 25 dX4_element_12 rfl hf (fun h_ hf => ?_) (fun h_ hf => ?_)
  · refine j_iconst (pc := 25) hX (0 : Int32) dX4_element_25 rfl ?_
    cases hf
    exact kj12
  · refine j_iload_n (pc := 15) hX dX4_element_15 rfl ?_
    refine j_bipush (pc := 16) hX (6 : Int32) dX4_element_16 (by decide +kernel) ?_
    refine j_icmp_ge (pc := 18) hX 25 dX4_element_18 rfl hf (fun h_ hf => ?_) (fun h_ hf => ?_)
    · refine j_iconst (pc := 25) hX (0 : Int32) dX4_element_25 rfl ?_
      cases hf
      exact kj12
    · refine j_iconst (pc := 21) hX (1 : Int32) dX4_element_21 rfl ?_
      refine j_goto (pc := 22) hX 26 dX4_element_22 rfl ?_
      cases hf
      exact kj12
def f_X4_order (n : Nat) (a1 : Int32) (w : zM) : Option (Int32 × zM) :=
  zB2 (f_X4_in n (Int32.toInt64 a1) (0 : Int64) (Int32.toInt64 ((mI w 26) - (1 : Int32))) w) fun x2 w1 =>
  (
    if x2 = (0 : Int32) then
      some (1 : Int32)
    else
      some (0 : Int32)
    ).bind fun x3 =>
  zB2 (f_X4_holds n x3 w1) fun x5 w4 =>
  (
    if x5 = (0 : Int32) then
      (rIM w4 27 6 a1).bind fun x6 =>
      some x6
    else
      some (-1 : Int32)
    ).bind fun x7 =>
  some (x7, w4)
theorem mt_X4_order : zMt yX4_order cX4_order 2 (some .int) 1 := ⟨q2614, q82, ⟨by decide, by decide⟩, by decide +kernel, by decide⟩
set_option maxHeartbeats 4000000 in
theorem k_X4_order {l : Launch} {n : Nat} {a1 : Int32} {b : Nat} {u : zWd} {w : zM} (r : Int32) (w9 : zM) (hf : f_X4_order n a1 w = some (r, w9)) : zCt l yX4_order cX4_order 2 (some .int) 2 [vA (some b), vI a1] (zIj b u w) (.inr (some (vI r), (zIj b u w9))) := by
  refine zCt_of (lv := [some (vA (some b)), some (vI a1)]) (by decide +kernel) 0 rfl rfl ?_
  intro X hX hI hN hQ
  have hX : zGd X RX4 cX4_order 2 (some .int) 2 := hX
  unfold f_X4_order at hf
  refine j_aload_n (pc := 0) hX dX4_order_0 rfl ?_
  refine j_aload_n (pc := 1) hX dX4_order_1 rfl ?_
  refine j_iload_n (pc := 2) hX dX4_order_2 rfl ?_
  refine j_i2l (pc := 3) hX dX4_order_3 ?_
  refine j_lconst (pc := 4) hX (0 : Int64) dX4_order_4 rfl ?_
  refine j_aload_n (pc := 5) hX dX4_order_5 rfl ?_
  refine mg_I (pc := 6) hX 26 (by decide) rfl q2271 dX4_order_6 ?_
  refine j_iconst (pc := 9) hX (1 : Int32) dX4_order_9 rfl ?_
  refine j_isub (pc := 10) hX dX4_order_10 ?_
  refine j_i2l (pc := 11) hX dX4_order_11 ?_
  obtain ⟨x2, w1, hc_, hf⟩ := zB2_e hf
  refine j_callV (pc := 12) hX (ci := 3) mt_X4_in q2469 q2471 qs29 (zIj_isC b u _) ⟨_, rfl, rfl⟩ [vL (Int32.toInt64 a1), vL (0 : Int64), vL (Int32.toInt64 ((mI w 26) - (1 : Int32)))] rfl rfl (Nat.le_of_ble_eq_true rfl) (by decide) dX4_order_12 (k_X4_in _ _ hc_) ?_
  obtain ⟨x3, hm_, hf⟩ := zob hf
  have kj15 : zJ X 23 [some (vA (some b)), some (vI a1)] [vI x3, vA (some b)] (zIj b u w1) := by
    clear hm_
    obtain ⟨x5, w4, hc_, hf⟩ := zB2_e hf
    refine j_callV (pc := 23) hX (ci := 3) mt_X4_holds q2486 q2488 qs32 (zIj_isC b u _) ⟨_, rfl, rfl⟩ [vI x3] rfl rfl (Nat.le_of_ble_eq_true rfl) (by decide) dX4_order_23 (k_X4_holds _ _ hc_) ?_
    obtain ⟨x7, hm_, hf⟩ := zob hf
    have kj26 : zJ X 39 [none, none] [vI x7] (zIj b u w4) := by
      clear hm_
      exact j_ireturn (pc := 39) hX hQ (by cases hf; rfl) dX4_order_39
    have hf := hm_
    refine j_if_eq (pc := 26) hX 33 dX4_order_26 rfl hf (fun h_ hf => ?_) (fun h_ hf => ?_)
    · refine j_aload_n (pc := 33) hX dX4_order_33 rfl ?_
      refine mg_A (pc := 34) hX 27 (by decide) 20 1 rfl rfl (by decide) q2272 dX4_order_34 ?_
      refine j_iload_n (pc := 37) hX dX4_order_37 rfl ?_
      refine mr_I (pc := 38) hX 27 6 20 (by decide) rfl rfl rfl dX4_order_38 hf (fun x6 hx_ hf => ?_)
      refine j_fg [0, 1] [none, none] rfl ?_
      cases hf
      exact kj26
    · refine j_iconst (pc := 29) hX (-1 : Int32) dX4_order_29 rfl ?_
      refine j_goto (pc := 30) hX 39 dX4_order_30 rfl ?_
      refine j_fg [0, 1] [none, none] rfl ?_
      simp only [Option.some.injEq, Prod.mk.injEq] at hf
      obtain rfl := hf
      exact kj26
  have hf := hm_
  refine j_if_eq (pc := 15) hX 22 dX4_order_15 rfl hf (fun h_ hf => ?_) (fun h_ hf => ?_)
  · refine j_iconst (pc := 22) hX (1 : Int32) dX4_order_22 rfl ?_
    cases hf
    exact kj15
  · refine j_iconst (pc := 18) hX (0 : Int32) dX4_order_18 rfl ?_
    refine j_goto (pc := 19) hX 23 dX4_order_19 rfl ?_
    cases hf
    exact kj15
def f_X4_bonus (n : Nat) (a1 : Int32) (a2 : Int32) (a3 : Int32) (a4 : Int32) (w : zM) : Option (Int32 × zM) :=
  zB2 (f_X4_isPerson n a1 w) fun x2 w1 =>
  zB2 (
    if x2 = (0 : Int32) then
      some ((0 : Int32), w1)
    else
      zB2 (f_X4_isMonth n a2 w1) fun x4 w3 =>
      if x4 = (0 : Int32) then
        some ((0 : Int32), w3)
      else
        zB2 (f_X4_isPlace n a3 w3) fun x6 w5 =>
        if x6 = (0 : Int32) then
          some ((0 : Int32), w5)
        else
          some ((1 : Int32), w5)
    ) fun x7 w8 =>
  zB2 (
    if x7 = (0 : Int32) then
      some ((1 : Int32), w8)
    else
      zB2 (f_X4_in n (Int32.toInt64 a4) (-10000000 : Int64) (10000000 : Int64) w8) fun x10 w9 =>
      if x10 = (0 : Int32) then
        some ((2 : Int32), w9)
      else
        some ((0 : Int32), w9)
    ) fun x11 w12 =>
  zB2 (f_X4_holds n x11 w12) fun x14 w13 =>
  if x14 = (0 : Int32) then
    (rIM w13 30 432 ((((72 : Int32) * a1) + ((3 : Int32) * a2)) + a3)).bind fun x15 =>
    (sIM w13 30 432 ((((72 : Int32) * a1) + ((3 : Int32) * a2)) + a3) a4).bind fun w16 =>
    some (x15, w16)
  else
    some ((-1 : Int32), w13)
theorem mt_X4_bonus : zMt yX4_bonus cX4_bonus 8 (some .int) 4 := ⟨q2618, q82, ⟨by decide, by decide⟩, by decide +kernel, by decide⟩
set_option maxHeartbeats 4000000 in
theorem k_X4_bonus {l : Launch} {n : Nat} {a1 : Int32} {a2 : Int32} {a3 : Int32} {a4 : Int32} {b : Nat} {u : zWd} {w : zM} (r : Int32) (w9 : zM) (hf : f_X4_bonus n a1 a2 a3 a4 w = some (r, w9)) : zCt l yX4_bonus cX4_bonus 8 (some .int) 3 [vA (some b), vI a1, vI a2, vI a3, vI a4] (zIj b u w) (.inr (some (vI r), (zIj b u w9))) := by
  refine zCt_of (lv := [some (vA (some b)), some (vI a1), some (vI a2), some (vI a3), some (vI a4), none, none, none]) (by decide +kernel) 3 rfl rfl ?_
  intro X hX hI hN hQ
  have hX : zGd X RX4 cX4_bonus 8 (some .int) 3 := hX
  unfold f_X4_bonus at hf
  refine j_aload_n (pc := 0) hX dX4_bonus_0 rfl ?_
  refine j_iload_n (pc := 1) hX dX4_bonus_1 rfl ?_
  obtain ⟨x2, w1, hc_, hf⟩ := zB2_e hf
  refine j_callV (pc := 2) hX (ci := 3) mt_X4_isPerson q2464 q2466 qs28 (zIj_isC b u _) ⟨_, rfl, rfl⟩ [vI a1] rfl rfl (Nat.le_of_ble_eq_true rfl) (by decide) dX4_bonus_2 (k_X4_isPerson _ _ hc_) ?_
  obtain ⟨x7, w8, hm_, hf⟩ := zB2_e hf
  have kj5 : zJ X 29 [some (vA (some b)), some (vI a1), some (vI a2), some (vI a3), some (vI a4), none, none, none] [vI x7] (zIj b u w8) := by
    clear hm_
    refine j_istore (pc := 29) hX dX4_bonus_29 (by decide) [some (vA (some b)), some (vI a1), some (vI a2), some (vI a3), some (vI a4), some (vI x7), none, none] rfl ?_
    refine j_aload_n (pc := 31) hX dX4_bonus_31 rfl ?_
    refine j_iload (pc := 32) hX dX4_bonus_32 rfl ?_
    obtain ⟨x11, w12, hm_, hf⟩ := zB2_e hf
    have kj34 : zJ X 62 [some (vA (some b)), some (vI a1), some (vI a2), some (vI a3), some (vI a4), none, none, none] [vI x11, vA (some b)] (zIj b u w12) := by
      clear hm_
      obtain ⟨x14, w13, hc_, hf⟩ := zB2_e hf
      refine j_callV (pc := 62) hX (ci := 3) mt_X4_holds q2486 q2488 qs32 (zIj_isC b u _) ⟨_, rfl, rfl⟩ [vI x11] rfl rfl (Nat.le_of_ble_eq_true rfl) (by decide) dX4_bonus_62 (k_X4_holds _ _ hc_) ?_
      refine j_if_eq (pc := 65) hX 70 dX4_bonus_65 rfl hf (fun h_ hf => ?_) (fun h_ hf => ?_)
      · refine j_bipush (pc := 70) hX (72 : Int32) dX4_bonus_70 (by decide +kernel) ?_
        refine j_iload_n (pc := 72) hX dX4_bonus_72 rfl ?_
        refine j_imul (pc := 73) hX dX4_bonus_73 ?_
        refine j_iconst (pc := 74) hX (3 : Int32) dX4_bonus_74 rfl ?_
        refine j_iload_n (pc := 75) hX dX4_bonus_75 rfl ?_
        refine j_imul (pc := 76) hX dX4_bonus_76 ?_
        refine j_iadd (pc := 77) hX dX4_bonus_77 ?_
        refine j_iload_n (pc := 78) hX dX4_bonus_78 rfl ?_
        refine j_iadd (pc := 79) hX dX4_bonus_79 ?_
        refine j_istore (pc := 80) hX dX4_bonus_80 (by decide) [some (vA (some b)), some (vI a1), some (vI a2), some (vI a3), some (vI a4), none, some (vI ((((72 : Int32) * a1) + ((3 : Int32) * a2)) + a3)), none] rfl ?_
        refine j_aload_n (pc := 82) hX dX4_bonus_82 rfl ?_
        refine mg_A (pc := 83) hX 30 (by decide) 23 1 rfl rfl (by decide) q2275 dX4_bonus_83 ?_
        refine j_iload (pc := 86) hX dX4_bonus_86 rfl ?_
        refine mr_I (pc := 88) hX 30 432 23 (by decide) rfl rfl rfl dX4_bonus_88 hf (fun x15 hx_ hf => ?_)
        refine j_istore (pc := 89) hX dX4_bonus_89 (by decide) [some (vA (some b)), some (vI a1), some (vI a2), some (vI a3), some (vI a4), none, some (vI ((((72 : Int32) * a1) + ((3 : Int32) * a2)) + a3)), some (vI x15)] rfl ?_
        refine j_aload_n (pc := 91) hX dX4_bonus_91 rfl ?_
        refine mg_A (pc := 92) hX 30 (by decide) 23 1 rfl rfl (by decide) q2275 dX4_bonus_92 ?_
        refine j_iload (pc := 95) hX dX4_bonus_95 rfl ?_
        refine j_iload (pc := 97) hX dX4_bonus_97 rfl ?_
        refine ms_I (pc := 99) hX 30 432 23 (by decide) rfl rfl rfl dX4_bonus_99 hf (fun w16 hf => ?_)
        refine j_iload (pc := 100) hX dX4_bonus_100 rfl ?_
        exact j_ireturn (pc := 102) hX hQ (by cases hf; rfl) dX4_bonus_102
      · refine j_iconst (pc := 68) hX (-1 : Int32) dX4_bonus_68 rfl ?_
        exact j_ireturn (pc := 69) hX hQ (by cases hf; rfl) dX4_bonus_69
    have hf := hm_
    refine j_if_ne (pc := 34) hX 41 dX4_bonus_34 rfl hf (fun h_ hf => ?_) (fun h_ hf => ?_)
    · refine j_aload_n (pc := 41) hX dX4_bonus_41 rfl ?_
      refine j_iload (pc := 42) hX dX4_bonus_42 rfl ?_
      refine j_i2l (pc := 44) hX dX4_bonus_44 ?_
      refine j_ldc2 (pc := 45) hX q2619 dX4_bonus_45 ?_
      refine j_ldc2 (pc := 48) hX q2620 dX4_bonus_48 ?_
      obtain ⟨x10, w9, hc_, hf⟩ := zB2_e hf
      refine j_callV (pc := 51) hX (ci := 3) mt_X4_in q2469 q2471 qs29 (zIj_isC b u _) ⟨_, rfl, rfl⟩ [vL (Int32.toInt64 a4), vL (-10000000 : Int64), vL (10000000 : Int64)] rfl rfl (Nat.le_of_ble_eq_true rfl) (by decide) dX4_bonus_51 (k_X4_in _ _ hc_) ?_
      refine j_if_eq (pc := 54) hX 61 dX4_bonus_54 rfl hf (fun h_ hf => ?_) (fun h_ hf => ?_)
      · refine j_iconst (pc := 61) hX (2 : Int32) dX4_bonus_61 rfl ?_
        refine j_fg [5] [some (vA (some b)), some (vI a1), some (vI a2), some (vI a3), some (vI a4), none, none, none] rfl ?_
        cases hf
        exact kj34
      · refine j_iconst (pc := 57) hX (0 : Int32) dX4_bonus_57 rfl ?_
        refine j_goto (pc := 58) hX 62 dX4_bonus_58 rfl ?_
        refine j_fg [5] [some (vA (some b)), some (vI a1), some (vI a2), some (vI a3), some (vI a4), none, none, none] rfl ?_
        cases hf
        exact kj34
    · refine j_iconst (pc := 37) hX (1 : Int32) dX4_bonus_37 rfl ?_
      refine j_goto (pc := 38) hX 62 dX4_bonus_38 rfl ?_
      refine j_fg [5] [some (vA (some b)), some (vI a1), some (vI a2), some (vI a3), some (vI a4), none, none, none] rfl ?_
      cases hf
      exact kj34
  have hf := hm_
  refine j_if_eq (pc := 5) hX 28 dX4_bonus_5 rfl hf (fun h_ hf => ?_) (fun h_ hf => ?_)
  · refine j_iconst (pc := 28) hX (0 : Int32) dX4_bonus_28 rfl ?_
    cases hf
    exact kj5
  · refine j_aload_n (pc := 8) hX dX4_bonus_8 rfl ?_
    refine j_iload_n (pc := 9) hX dX4_bonus_9 rfl ?_
    obtain ⟨x4, w3, hc_, hf⟩ := zB2_e hf
    refine j_callV (pc := 10) hX (ci := 3) mt_X4_isMonth q2537 q2539 qs39 (zIj_isC b u _) ⟨_, rfl, rfl⟩ [vI a2] rfl rfl (Nat.le_of_ble_eq_true rfl) (by decide) dX4_bonus_10 (k_X4_isMonth _ _ hc_) ?_
    refine j_if_eq (pc := 13) hX 28 dX4_bonus_13 rfl hf (fun h_ hf => ?_) (fun h_ hf => ?_)
    · refine j_iconst (pc := 28) hX (0 : Int32) dX4_bonus_28 rfl ?_
      cases hf
      exact kj5
    · refine j_aload_n (pc := 16) hX dX4_bonus_16 rfl ?_
      refine j_iload_n (pc := 17) hX dX4_bonus_17 rfl ?_
      obtain ⟨x6, w5, hc_, hf⟩ := zB2_e hf
      refine j_callV (pc := 18) hX (ci := 3) mt_X4_isPlace q2473 q2475 qs30 (zIj_isC b u _) ⟨_, rfl, rfl⟩ [vI a3] rfl rfl (Nat.le_of_ble_eq_true rfl) (by decide) dX4_bonus_18 (k_X4_isPlace _ _ hc_) ?_
      refine j_if_eq (pc := 21) hX 28 dX4_bonus_21 rfl hf (fun h_ hf => ?_) (fun h_ hf => ?_)
      · refine j_iconst (pc := 28) hX (0 : Int32) dX4_bonus_28 rfl ?_
        cases hf
        exact kj5
      · refine j_iconst (pc := 24) hX (1 : Int32) dX4_bonus_24 rfl ?_
        refine j_goto (pc := 25) hX 29 dX4_bonus_25 rfl ?_
        cases hf
        exact kj5
def f_X4_contribution (n : Nat) (a1 : Int32) (a2 : Int32) (a3 : Int32) (a4 : Int32) (w : zM) : Option zM :=
  zB2 (f_X4_isPlace n a1 w) fun x2 w1 =>
  zB2 (
    if x2 = (0 : Int32) then
      some ((1 : Int32), w1)
    else
      zB2 (f_X4_isMonth n a2 w1) fun x4 w3 =>
      if x4 = (0 : Int32) then
        some ((1 : Int32), w3)
      else
        zB2 (f_X4_in n (Int32.toInt64 a3) (0 : Int64) (500 : Int64) w3) fun x6 w5 =>
        if x6 = (0 : Int32) then
          some ((2 : Int32), w5)
        else
          zB2 (f_X4_in n (Int32.toInt64 a4) (0 : Int64) (100000000 : Int64) w5) fun x8 w7 =>
          if x8 = (0 : Int32) then
            some ((2 : Int32), w7)
          else
            some ((0 : Int32), w7)
    ) fun x9 w10 =>
  zB2 (f_X4_holds n x9 w10) fun x12 w11 =>
  (
    if x12 = (0 : Int32) then
      (sIM w11 31 72 (((24 : Int32) * a1) + a2) a3).bind fun w13 =>
      (sIM w13 32 72 (((24 : Int32) * a1) + a2) a4).bind fun w14 =>
      some w14
    else
      some w11
    ).bind fun w15 =>
  some w15
theorem mt_X4_contribution : zMt yX4_contribution cX4_contribution 5 none 4 := ⟨q2624, q82, ⟨by decide, by decide⟩, by decide +kernel, by decide⟩
set_option maxHeartbeats 4000000 in
theorem k_X4_contribution {l : Launch} {n : Nat} {a1 : Int32} {a2 : Int32} {a3 : Int32} {a4 : Int32} {b : Nat} {u : zWd} {w : zM} (r : Unit) (w9 : zM) (hf : f_X4_contribution n a1 a2 a3 a4 w = some w9) : zCt l yX4_contribution cX4_contribution 5 none 3 [vA (some b), vI a1, vI a2, vI a3, vI a4] (zIj b u w) (.inr (none, (zIj b u w9))) := by
  refine zCt_of (lv := [some (vA (some b)), some (vI a1), some (vI a2), some (vI a3), some (vI a4)]) (by decide +kernel) 0 rfl rfl ?_
  intro X hX hI hN hQ
  have hX : zGd X RX4 cX4_contribution 5 none 3 := hX
  unfold f_X4_contribution at hf
  refine j_aload_n (pc := 0) hX dX4_contribution_0 rfl ?_
  refine j_aload_n (pc := 1) hX dX4_contribution_1 rfl ?_
  refine j_iload_n (pc := 2) hX dX4_contribution_2 rfl ?_
  obtain ⟨x2, w1, hc_, hf⟩ := zB2_e hf
  refine j_callV (pc := 3) hX (ci := 3) mt_X4_isPlace q2473 q2475 qs30 (zIj_isC b u _) ⟨_, rfl, rfl⟩ [vI a1] rfl rfl (Nat.le_of_ble_eq_true rfl) (by decide) dX4_contribution_3 (k_X4_isPlace _ _ hc_) ?_
  obtain ⟨x9, w10, hm_, hf⟩ := zB2_e hf
  have kj6 : zJ X 53 [some (vA (some b)), some (vI a1), some (vI a2), some (vI a3), some (vI a4)] [vI x9, vA (some b)] (zIj b u w10) := by
    clear hm_
    obtain ⟨x12, w11, hc_, hf⟩ := zB2_e hf
    refine j_callV (pc := 53) hX (ci := 3) mt_X4_holds q2486 q2488 qs32 (zIj_isC b u _) ⟨_, rfl, rfl⟩ [vI x9] rfl rfl (Nat.le_of_ble_eq_true rfl) (by decide) dX4_contribution_53 (k_X4_holds _ _ hc_) ?_
    obtain ⟨w15, hm_, hf⟩ := zob hf
    have kj56 : zJ X 84 [none, none, none, none, none] [] (zIj b u w15) := by
      clear hm_
      exact j_return (pc := 84) hX hQ (by cases hf; rfl) dX4_contribution_84
    have hf := hm_
    refine j_if_ne (pc := 56) hX 84 dX4_contribution_56 rfl hf (fun h_ hf => ?_) (fun h_ hf => ?_)
    · refine j_fg [0, 1, 2, 3, 4] [none, none, none, none, none] rfl ?_
      cases hf
      exact kj56
    · refine j_aload_n (pc := 59) hX dX4_contribution_59 rfl ?_
      refine mg_A (pc := 60) hX 31 (by decide) 24 1 rfl rfl (by decide) q2276 dX4_contribution_60 ?_
      refine j_bipush (pc := 63) hX (24 : Int32) dX4_contribution_63 (by decide +kernel) ?_
      refine j_iload_n (pc := 65) hX dX4_contribution_65 rfl ?_
      refine j_imul (pc := 66) hX dX4_contribution_66 ?_
      refine j_iload_n (pc := 67) hX dX4_contribution_67 rfl ?_
      refine j_iadd (pc := 68) hX dX4_contribution_68 ?_
      refine j_iload_n (pc := 69) hX dX4_contribution_69 rfl ?_
      refine ms_I (pc := 70) hX 31 72 24 (by decide) rfl rfl rfl dX4_contribution_70 hf (fun w13 hf => ?_)
      refine j_aload_n (pc := 71) hX dX4_contribution_71 rfl ?_
      refine mg_A (pc := 72) hX 32 (by decide) 25 1 rfl rfl (by decide) q2277 dX4_contribution_72 ?_
      refine j_bipush (pc := 75) hX (24 : Int32) dX4_contribution_75 (by decide +kernel) ?_
      refine j_iload_n (pc := 77) hX dX4_contribution_77 rfl ?_
      refine j_imul (pc := 78) hX dX4_contribution_78 ?_
      refine j_iload_n (pc := 79) hX dX4_contribution_79 rfl ?_
      refine j_iadd (pc := 80) hX dX4_contribution_80 ?_
      refine j_iload (pc := 81) hX dX4_contribution_81 rfl ?_
      refine ms_I (pc := 83) hX 32 72 25 (by decide) rfl rfl rfl dX4_contribution_83 hf (fun w14 hf => ?_)
      refine j_fg [0, 1, 2, 3, 4] [none, none, none, none, none] rfl ?_
      cases hf
      exact kj56
  have hf := hm_
  refine j_if_eq (pc := 6) hX 17 dX4_contribution_6 rfl hf (fun h_ hf => ?_) (fun h_ hf => ?_)
  · refine j_iconst (pc := 17) hX (1 : Int32) dX4_contribution_17 rfl ?_
    refine j_goto (pc := 18) hX 53 dX4_contribution_18 rfl ?_
    cases hf
    exact kj6
  · refine j_aload_n (pc := 9) hX dX4_contribution_9 rfl ?_
    refine j_iload_n (pc := 10) hX dX4_contribution_10 rfl ?_
    obtain ⟨x4, w3, hc_, hf⟩ := zB2_e hf
    refine j_callV (pc := 11) hX (ci := 3) mt_X4_isMonth q2537 q2539 qs39 (zIj_isC b u _) ⟨_, rfl, rfl⟩ [vI a2] rfl rfl (Nat.le_of_ble_eq_true rfl) (by decide) dX4_contribution_11 (k_X4_isMonth _ _ hc_) ?_
    refine j_if_ne (pc := 14) hX 21 dX4_contribution_14 rfl hf (fun h_ hf => ?_) (fun h_ hf => ?_)
    · refine j_aload_n (pc := 21) hX dX4_contribution_21 rfl ?_
      refine j_iload_n (pc := 22) hX dX4_contribution_22 rfl ?_
      refine j_i2l (pc := 23) hX dX4_contribution_23 ?_
      refine j_lconst (pc := 24) hX (0 : Int64) dX4_contribution_24 rfl ?_
      refine j_ldc2 (pc := 25) hX q2574 dX4_contribution_25 ?_
      obtain ⟨x6, w5, hc_, hf⟩ := zB2_e hf
      refine j_callV (pc := 28) hX (ci := 3) mt_X4_in q2469 q2471 qs29 (zIj_isC b u _) ⟨_, rfl, rfl⟩ [vL (Int32.toInt64 a3), vL (0 : Int64), vL (500 : Int64)] rfl rfl (Nat.le_of_ble_eq_true rfl) (by decide) dX4_contribution_28 (k_X4_in _ _ hc_) ?_
      refine j_if_eq (pc := 31) hX 52 dX4_contribution_31 rfl hf (fun h_ hf => ?_) (fun h_ hf => ?_)
      · refine j_iconst (pc := 52) hX (2 : Int32) dX4_contribution_52 rfl ?_
        cases hf
        exact kj6
      · refine j_aload_n (pc := 34) hX dX4_contribution_34 rfl ?_
        refine j_iload (pc := 35) hX dX4_contribution_35 rfl ?_
        refine j_i2l (pc := 37) hX dX4_contribution_37 ?_
        refine j_lconst (pc := 38) hX (0 : Int64) dX4_contribution_38 rfl ?_
        refine j_ldc2 (pc := 39) hX q2625 dX4_contribution_39 ?_
        obtain ⟨x8, w7, hc_, hf⟩ := zB2_e hf
        refine j_callV (pc := 42) hX (ci := 3) mt_X4_in q2469 q2471 qs29 (zIj_isC b u _) ⟨_, rfl, rfl⟩ [vL (Int32.toInt64 a4), vL (0 : Int64), vL (100000000 : Int64)] rfl rfl (Nat.le_of_ble_eq_true rfl) (by decide) dX4_contribution_42 (k_X4_in _ _ hc_) ?_
        refine j_if_eq (pc := 45) hX 52 dX4_contribution_45 rfl hf (fun h_ hf => ?_) (fun h_ hf => ?_)
        · refine j_iconst (pc := 52) hX (2 : Int32) dX4_contribution_52 rfl ?_
          cases hf
          exact kj6
        · refine j_iconst (pc := 48) hX (0 : Int32) dX4_contribution_48 rfl ?_
          refine j_goto (pc := 49) hX 53 dX4_contribution_49 rfl ?_
          cases hf
          exact kj6
    · refine j_iconst (pc := 17) hX (1 : Int32) dX4_contribution_17 rfl ?_
      refine j_goto (pc := 18) hX 53 dX4_contribution_18 rfl ?_
      cases hf
      exact kj6
def f_X4_bracket (n : Nat) (a1 : Int32) (a2 : Int32) (a3 : Int32) (a4 : Int32) (a5 : Int32) (w : zM) : Option (Int32 × zM) :=
  zB2 (f_X4_isPlace n a1 w) fun x2 w1 =>
  zB2 (
    if x2 = (0 : Int32) then
      some ((0 : Int32), w1)
    else
      zB2 (f_X4_isMonth n a3 w1) fun x4 w3 =>
      if x4 = (0 : Int32) then
        some ((0 : Int32), w3)
      else
        some ((1 : Int32), w3)
    ) fun x5 w6 =>
  zB2 (f_X4_in n (Int32.toInt64 a2) (0 : Int64) (1 : Int64) w6) fun x8 w7 =>
  zB2 (
    if x8 = (0 : Int32) then
      some ((0 : Int32), w7)
    else
      zB2 (f_X4_in n (Int32.toInt64 a4) (1 : Int64) (1000000000 : Int64) w7) fun x10 w9 =>
      if x10 = (0 : Int32) then
        some ((0 : Int32), w9)
      else
        zB2 (f_X4_in n (Int32.toInt64 a5) (0 : Int64) (900 : Int64) w9) fun x12 w11 =>
        if x12 = (0 : Int32) then
          some ((0 : Int32), w11)
        else
          some ((1 : Int32), w11)
    ) fun x13 w14 =>
  (
    if x5 = (0 : Int32) then
      some (0 : Int32)
    else
      if x13 = (0 : Int32) then
        some (0 : Int32)
      else
        some ((((48 : Int32) * a1) + ((24 : Int32) * a2)) + a3)
    ).bind fun x15 =>
  (
    if x5 = (0 : Int32) then
      some (0 : Int32)
    else
      if x13 = (0 : Int32) then
        some (0 : Int32)
      else
        (rIM w14 33 144 x15).bind fun x16 =>
        if x16 = (4 : Int32) then
          some (1 : Int32)
        else
          (rIM w14 33 144 x15).bind fun x17 =>
          if x17 ≤ (0 : Int32) then
            some (0 : Int32)
          else
            (rIM w14 33 144 x15).bind fun x18 =>
            (rIM w14 34 576 ((((4 : Int32) * x15) + x18) - (1 : Int32))).bind fun x19 =>
            if x19 < a4 then
              some (0 : Int32)
            else
              some (1 : Int32)
    ).bind fun x20 =>
  (
    if x5 = (0 : Int32) then
      some (1 : Int32)
    else
      if x13 = (0 : Int32) then
        some (2 : Int32)
      else
        if x20 = (0 : Int32) then
          some (0 : Int32)
        else
          some (3 : Int32)
    ).bind fun x21 =>
  zB2 (f_X4_holds n x21 w14) fun x23 w22 =>
  if x23 = (0 : Int32) then
    (rIM w22 33 144 x15).bind fun x24 =>
    (sIM w22 34 576 (((4 : Int32) * x15) + x24) a4).bind fun w25 =>
    (rIM w25 33 144 x15).bind fun x26 =>
    (sIM w25 35 576 (((4 : Int32) * x15) + x26) a5).bind fun w27 =>
    (rIM w27 33 144 x15).bind fun x28 =>
    (sIM w27 33 144 x15 (x28 + (1 : Int32))).bind fun w29 =>
    (rIM w29 33 144 x15).bind fun x30 =>
    some (x30, w29)
  else
    some ((-1 : Int32), w22)
theorem mt_X4_bracket : zMt yX4_bracket cX4_bracket 10 (some .int) 5 := ⟨q2629, q82, ⟨by decide, by decide⟩, by decide +kernel, by decide⟩
set_option maxHeartbeats 4000000 in
theorem k_X4_bracket {l : Launch} {n : Nat} {a1 : Int32} {a2 : Int32} {a3 : Int32} {a4 : Int32} {a5 : Int32} {b : Nat} {u : zWd} {w : zM} (r : Int32) (w9 : zM) (hf : f_X4_bracket n a1 a2 a3 a4 a5 w = some (r, w9)) : zCt l yX4_bracket cX4_bracket 10 (some .int) 3 [vA (some b), vI a1, vI a2, vI a3, vI a4, vI a5] (zIj b u w) (.inr (some (vI r), (zIj b u w9))) := by
  refine zCt_of (lv := [some (vA (some b)), some (vI a1), some (vI a2), some (vI a3), some (vI a4), some (vI a5), none, none, none, none]) (by decide +kernel) 4 rfl rfl ?_
  intro X hX hI hN hQ
  have hX : zGd X RX4 cX4_bracket 10 (some .int) 3 := hX
  unfold f_X4_bracket at hf
  refine j_aload_n (pc := 0) hX dX4_bracket_0 rfl ?_
  refine j_iload_n (pc := 1) hX dX4_bracket_1 rfl ?_
  obtain ⟨x2, w1, hc_, hf⟩ := zB2_e hf
  refine j_callV (pc := 2) hX (ci := 3) mt_X4_isPlace q2473 q2475 qs30 (zIj_isC b u _) ⟨_, rfl, rfl⟩ [vI a1] rfl rfl (Nat.le_of_ble_eq_true rfl) (by decide) dX4_bracket_2 (k_X4_isPlace _ _ hc_) ?_
  obtain ⟨x5, w6, hm_, hf⟩ := zB2_e hf
  have kj5 : zJ X 21 [some (vA (some b)), some (vI a1), some (vI a2), some (vI a3), some (vI a4), some (vI a5), none, none, none, none] [vI x5] (zIj b u w6) := by
    clear hm_
    refine j_istore (pc := 21) hX dX4_bracket_21 (by decide) [some (vA (some b)), some (vI a1), some (vI a2), some (vI a3), some (vI a4), some (vI a5), some (vI x5), none, none, none] rfl ?_
    refine j_aload_n (pc := 23) hX dX4_bracket_23 rfl ?_
    refine j_iload_n (pc := 24) hX dX4_bracket_24 rfl ?_
    refine j_i2l (pc := 25) hX dX4_bracket_25 ?_
    refine j_lconst (pc := 26) hX (0 : Int64) dX4_bracket_26 rfl ?_
    refine j_lconst (pc := 27) hX (1 : Int64) dX4_bracket_27 rfl ?_
    obtain ⟨x8, w7, hc_, hf⟩ := zB2_e hf
    refine j_callV (pc := 28) hX (ci := 3) mt_X4_in q2469 q2471 qs29 (zIj_isC b u _) ⟨_, rfl, rfl⟩ [vL (Int32.toInt64 a2), vL (0 : Int64), vL (1 : Int64)] rfl rfl (Nat.le_of_ble_eq_true rfl) (by decide) dX4_bracket_28 (k_X4_in _ _ hc_) ?_
    obtain ⟨x13, w14, hm_, hf⟩ := zB2_e hf
    have kj31 : zJ X 67 [some (vA (some b)), some (vI a1), some (vI a2), some (vI a3), some (vI a4), some (vI a5), some (vI x5), none, none, none] [vI x13] (zIj b u w14) := by
      clear hm_
      refine j_istore (pc := 67) hX dX4_bracket_67 (by decide) [some (vA (some b)), some (vI a1), some (vI a2), some (vI a3), some (vI a4), some (vI a5), some (vI x5), some (vI x13), none, none] rfl ?_
      refine j_iload (pc := 69) hX dX4_bracket_69 rfl ?_
      obtain ⟨x15, hm_, hf⟩ := zob hf
      have kj71 : zJ X 94 [some (vA (some b)), none, none, none, some (vI a4), some (vI a5), some (vI x5), some (vI x13), none, none] [vI x15] (zIj b u w14) := by
        clear hm_
        refine j_istore (pc := 94) hX dX4_bracket_94 (by decide) [some (vA (some b)), none, none, none, some (vI a4), some (vI a5), some (vI x5), some (vI x13), some (vI x15), none] rfl ?_
        refine j_iload (pc := 96) hX dX4_bracket_96 rfl ?_
        obtain ⟨x20, hm_, hf⟩ := zob hf
        have kj98 : zJ X 156 [some (vA (some b)), none, none, none, some (vI a4), some (vI a5), some (vI x5), some (vI x13), some (vI x15), none] [vI x20] (zIj b u w14) := by
          clear hm_
          refine j_istore (pc := 156) hX dX4_bracket_156 (by decide) [some (vA (some b)), none, none, none, some (vI a4), some (vI a5), some (vI x5), some (vI x13), some (vI x15), some (vI x20)] rfl ?_
          refine j_aload_n (pc := 158) hX dX4_bracket_158 rfl ?_
          refine j_iload (pc := 159) hX dX4_bracket_159 rfl ?_
          obtain ⟨x21, hm_, hf⟩ := zob hf
          have kj161 : zJ X 187 [some (vA (some b)), none, none, none, some (vI a4), some (vI a5), none, none, some (vI x15), none] [vI x21, vA (some b)] (zIj b u w14) := by
            clear hm_
            obtain ⟨x23, w22, hc_, hf⟩ := zB2_e hf
            refine j_callV (pc := 187) hX (ci := 3) mt_X4_holds q2486 q2488 qs32 (zIj_isC b u _) ⟨_, rfl, rfl⟩ [vI x21] rfl rfl (Nat.le_of_ble_eq_true rfl) (by decide) dX4_bracket_187 (k_X4_holds _ _ hc_) ?_
            refine j_if_eq (pc := 190) hX 195 dX4_bracket_190 rfl hf (fun h_ hf => ?_) (fun h_ hf => ?_)
            · refine j_aload_n (pc := 195) hX dX4_bracket_195 rfl ?_
              refine mg_A (pc := 196) hX 34 (by decide) 27 1 rfl rfl (by decide) q2279 dX4_bracket_196 ?_
              refine j_iconst (pc := 199) hX (4 : Int32) dX4_bracket_199 rfl ?_
              refine j_iload (pc := 200) hX dX4_bracket_200 rfl ?_
              refine j_imul (pc := 202) hX dX4_bracket_202 ?_
              refine j_aload_n (pc := 203) hX dX4_bracket_203 rfl ?_
              refine mg_A (pc := 204) hX 33 (by decide) 26 1 rfl rfl (by decide) q2278 dX4_bracket_204 ?_
              refine j_iload (pc := 207) hX dX4_bracket_207 rfl ?_
              refine mr_I (pc := 209) hX 33 144 26 (by decide) rfl rfl rfl dX4_bracket_209 hf (fun x24 hx_ hf => ?_)
              refine j_iadd (pc := 210) hX dX4_bracket_210 ?_
              refine j_iload (pc := 211) hX dX4_bracket_211 rfl ?_
              refine ms_I (pc := 213) hX 34 576 27 (by decide) rfl rfl rfl dX4_bracket_213 hf (fun w25 hf => ?_)
              refine j_aload_n (pc := 214) hX dX4_bracket_214 rfl ?_
              refine mg_A (pc := 215) hX 35 (by decide) 28 1 rfl rfl (by decide) q2280 dX4_bracket_215 ?_
              refine j_iconst (pc := 218) hX (4 : Int32) dX4_bracket_218 rfl ?_
              refine j_iload (pc := 219) hX dX4_bracket_219 rfl ?_
              refine j_imul (pc := 221) hX dX4_bracket_221 ?_
              refine j_aload_n (pc := 222) hX dX4_bracket_222 rfl ?_
              refine mg_A (pc := 223) hX 33 (by decide) 26 1 rfl rfl (by decide) q2278 dX4_bracket_223 ?_
              refine j_iload (pc := 226) hX dX4_bracket_226 rfl ?_
              refine mr_I (pc := 228) hX 33 144 26 (by decide) rfl rfl rfl dX4_bracket_228 hf (fun x26 hx_ hf => ?_)
              refine j_iadd (pc := 229) hX dX4_bracket_229 ?_
              refine j_iload (pc := 230) hX dX4_bracket_230 rfl ?_
              refine ms_I (pc := 232) hX 35 576 28 (by decide) rfl rfl rfl dX4_bracket_232 hf (fun w27 hf => ?_)
              refine j_aload_n (pc := 233) hX dX4_bracket_233 rfl ?_
              refine mg_A (pc := 234) hX 33 (by decide) 26 1 rfl rfl (by decide) q2278 dX4_bracket_234 ?_
              refine j_iload (pc := 237) hX dX4_bracket_237 rfl ?_
              refine j_dup2 (pc := 239) hX rfl rfl dX4_bracket_239 ?_
              refine mr_I (pc := 240) hX 33 144 26 (by decide) rfl rfl rfl dX4_bracket_240 hf (fun x28 hx_ hf => ?_)
              refine j_iconst (pc := 241) hX (1 : Int32) dX4_bracket_241 rfl ?_
              refine j_iadd (pc := 242) hX dX4_bracket_242 ?_
              refine ms_I (pc := 243) hX 33 144 26 (by decide) rfl rfl rfl dX4_bracket_243 hf (fun w29 hf => ?_)
              refine j_aload_n (pc := 244) hX dX4_bracket_244 rfl ?_
              refine mg_A (pc := 245) hX 33 (by decide) 26 1 rfl rfl (by decide) q2278 dX4_bracket_245 ?_
              refine j_iload (pc := 248) hX dX4_bracket_248 rfl ?_
              refine mr_I (pc := 250) hX 33 144 26 (by decide) rfl rfl rfl dX4_bracket_250 hf (fun x30 hx_ hf => ?_)
              exact j_ireturn (pc := 251) hX hQ (by cases hf; rfl) dX4_bracket_251
            · refine j_iconst (pc := 193) hX (-1 : Int32) dX4_bracket_193 rfl ?_
              exact j_ireturn (pc := 194) hX hQ (by cases hf; rfl) dX4_bracket_194
          have hf := hm_
          refine j_if_ne (pc := 161) hX 168 dX4_bracket_161 rfl hf (fun h_ hf => ?_) (fun h_ hf => ?_)
          · refine j_iload (pc := 168) hX dX4_bracket_168 rfl ?_
            refine j_if_ne (pc := 170) hX 177 dX4_bracket_170 rfl hf (fun h_ hf => ?_) (fun h_ hf => ?_)
            · refine j_iload (pc := 177) hX dX4_bracket_177 rfl ?_
              refine j_if_eq (pc := 179) hX 186 dX4_bracket_179 rfl hf (fun h_ hf => ?_) (fun h_ hf => ?_)
              · refine j_iconst (pc := 186) hX (0 : Int32) dX4_bracket_186 rfl ?_
                refine j_fg [6, 7, 9] [some (vA (some b)), none, none, none, some (vI a4), some (vI a5), none, none, some (vI x15), none] rfl ?_
                cases hf
                exact kj161
              · refine j_iconst (pc := 182) hX (3 : Int32) dX4_bracket_182 rfl ?_
                refine j_goto (pc := 183) hX 187 dX4_bracket_183 rfl ?_
                refine j_fg [6, 7, 9] [some (vA (some b)), none, none, none, some (vI a4), some (vI a5), none, none, some (vI x15), none] rfl ?_
                cases hf
                exact kj161
            · refine j_iconst (pc := 173) hX (2 : Int32) dX4_bracket_173 rfl ?_
              refine j_goto (pc := 174) hX 187 dX4_bracket_174 rfl ?_
              refine j_fg [6, 7, 9] [some (vA (some b)), none, none, none, some (vI a4), some (vI a5), none, none, some (vI x15), none] rfl ?_
              cases hf
              exact kj161
          · refine j_iconst (pc := 164) hX (1 : Int32) dX4_bracket_164 rfl ?_
            refine j_goto (pc := 165) hX 187 dX4_bracket_165 rfl ?_
            refine j_fg [6, 7, 9] [some (vA (some b)), none, none, none, some (vI a4), some (vI a5), none, none, some (vI x15), none] rfl ?_
            cases hf
            exact kj161
        have hf := hm_
        refine j_if_eq (pc := 98) hX 155 dX4_bracket_98 rfl hf (fun h_ hf => ?_) (fun h_ hf => ?_)
        · refine j_iconst (pc := 155) hX (0 : Int32) dX4_bracket_155 rfl ?_
          cases hf
          exact kj98
        · refine j_iload (pc := 101) hX dX4_bracket_101 rfl ?_
          refine j_if_eq (pc := 103) hX 155 dX4_bracket_103 rfl hf (fun h_ hf => ?_) (fun h_ hf => ?_)
          · refine j_iconst (pc := 155) hX (0 : Int32) dX4_bracket_155 rfl ?_
            cases hf
            exact kj98
          · refine j_aload_n (pc := 106) hX dX4_bracket_106 rfl ?_
            refine mg_A (pc := 107) hX 33 (by decide) 26 1 rfl rfl (by decide) q2278 dX4_bracket_107 ?_
            refine j_iload (pc := 110) hX dX4_bracket_110 rfl ?_
            refine mr_I (pc := 112) hX 33 144 26 (by decide) rfl rfl rfl dX4_bracket_112 hf (fun x16 hx_ hf => ?_)
            refine j_iconst (pc := 113) hX (4 : Int32) dX4_bracket_113 rfl ?_
            refine j_icmp_eq (pc := 114) hX 151 dX4_bracket_114 rfl hf (fun h_ hf => ?_) (fun h_ hf => ?_)
            · refine j_iconst (pc := 151) hX (1 : Int32) dX4_bracket_151 rfl ?_
              refine j_goto (pc := 152) hX 156 dX4_bracket_152 rfl ?_
              cases hf
              exact kj98
            · refine j_aload_n (pc := 117) hX dX4_bracket_117 rfl ?_
              refine mg_A (pc := 118) hX 33 (by decide) 26 1 rfl rfl (by decide) q2278 dX4_bracket_118 ?_
              refine j_iload (pc := 121) hX dX4_bracket_121 rfl ?_
              refine mr_I (pc := 123) hX 33 144 26 (by decide) rfl rfl rfl dX4_bracket_123 hf (fun x17 hx_ hf => ?_)
              refine j_if_le (pc := 124) hX 155 dX4_bracket_124 rfl hf (fun h_ hf => ?_) (fun h_ hf => ?_)
              · refine j_iconst (pc := 155) hX (0 : Int32) dX4_bracket_155 rfl ?_
                cases hf
                exact kj98
              · refine j_iload (pc := 127) hX dX4_bracket_127 rfl ?_
                refine j_aload_n (pc := 129) hX dX4_bracket_129 rfl ?_
                refine mg_A (pc := 130) hX 34 (by decide) 27 1 rfl rfl (by decide) q2279 dX4_bracket_130 ?_
                refine j_iconst (pc := 133) hX (4 : Int32) dX4_bracket_133 rfl ?_
                refine j_iload (pc := 134) hX dX4_bracket_134 rfl ?_
                refine j_imul (pc := 136) hX dX4_bracket_136 ?_
                refine j_aload_n (pc := 137) hX dX4_bracket_137 rfl ?_
                refine mg_A (pc := 138) hX 33 (by decide) 26 1 rfl rfl (by decide) q2278 dX4_bracket_138 ?_
                refine j_iload (pc := 141) hX dX4_bracket_141 rfl ?_
                refine mr_I (pc := 143) hX 33 144 26 (by decide) rfl rfl rfl dX4_bracket_143 hf (fun x18 hx_ hf => ?_)
                refine j_iadd (pc := 144) hX dX4_bracket_144 ?_
                refine j_iconst (pc := 145) hX (1 : Int32) dX4_bracket_145 rfl ?_
                refine j_isub (pc := 146) hX dX4_bracket_146 ?_
                refine mr_I (pc := 147) hX 34 576 27 (by decide) rfl rfl rfl dX4_bracket_147 hf (fun x19 hx_ hf => ?_)
                refine j_icmp_gt (pc := 148) hX 155 dX4_bracket_148 rfl hf (fun h_ hf => ?_) (fun h_ hf => ?_)
                · refine j_iconst (pc := 155) hX (0 : Int32) dX4_bracket_155 rfl ?_
                  cases hf
                  exact kj98
                · refine j_iconst (pc := 151) hX (1 : Int32) dX4_bracket_151 rfl ?_
                  refine j_goto (pc := 152) hX 156 dX4_bracket_152 rfl ?_
                  cases hf
                  exact kj98
      have hf := hm_
      refine j_if_eq (pc := 71) hX 93 dX4_bracket_71 rfl hf (fun h_ hf => ?_) (fun h_ hf => ?_)
      · refine j_iconst (pc := 93) hX (0 : Int32) dX4_bracket_93 rfl ?_
        refine j_fg [1, 2, 3] [some (vA (some b)), none, none, none, some (vI a4), some (vI a5), some (vI x5), some (vI x13), none, none] rfl ?_
        cases hf
        exact kj71
      · refine j_iload (pc := 74) hX dX4_bracket_74 rfl ?_
        refine j_if_eq (pc := 76) hX 93 dX4_bracket_76 rfl hf (fun h_ hf => ?_) (fun h_ hf => ?_)
        · refine j_iconst (pc := 93) hX (0 : Int32) dX4_bracket_93 rfl ?_
          refine j_fg [1, 2, 3] [some (vA (some b)), none, none, none, some (vI a4), some (vI a5), some (vI x5), some (vI x13), none, none] rfl ?_
          cases hf
          exact kj71
        · refine j_bipush (pc := 79) hX (48 : Int32) dX4_bracket_79 (by decide +kernel) ?_
          refine j_iload_n (pc := 81) hX dX4_bracket_81 rfl ?_
          refine j_imul (pc := 82) hX dX4_bracket_82 ?_
          refine j_bipush (pc := 83) hX (24 : Int32) dX4_bracket_83 (by decide +kernel) ?_
          refine j_iload_n (pc := 85) hX dX4_bracket_85 rfl ?_
          refine j_imul (pc := 86) hX dX4_bracket_86 ?_
          refine j_iadd (pc := 87) hX dX4_bracket_87 ?_
          refine j_iload_n (pc := 88) hX dX4_bracket_88 rfl ?_
          refine j_iadd (pc := 89) hX dX4_bracket_89 ?_
          refine j_goto (pc := 90) hX 94 dX4_bracket_90 rfl ?_
          refine j_fg [1, 2, 3] [some (vA (some b)), none, none, none, some (vI a4), some (vI a5), some (vI x5), some (vI x13), none, none] rfl ?_
          cases hf
          exact kj71
    have hf := hm_
    refine j_if_eq (pc := 31) hX 66 dX4_bracket_31 rfl hf (fun h_ hf => ?_) (fun h_ hf => ?_)
    · refine j_iconst (pc := 66) hX (0 : Int32) dX4_bracket_66 rfl ?_
      cases hf
      exact kj31
    · refine j_aload_n (pc := 34) hX dX4_bracket_34 rfl ?_
      refine j_iload (pc := 35) hX dX4_bracket_35 rfl ?_
      refine j_i2l (pc := 37) hX dX4_bracket_37 ?_
      refine j_lconst (pc := 38) hX (1 : Int64) dX4_bracket_38 rfl ?_
      refine j_ldc2 (pc := 39) hX q2630 dX4_bracket_39 ?_
      obtain ⟨x10, w9, hc_, hf⟩ := zB2_e hf
      refine j_callV (pc := 42) hX (ci := 3) mt_X4_in q2469 q2471 qs29 (zIj_isC b u _) ⟨_, rfl, rfl⟩ [vL (Int32.toInt64 a4), vL (1 : Int64), vL (1000000000 : Int64)] rfl rfl (Nat.le_of_ble_eq_true rfl) (by decide) dX4_bracket_42 (k_X4_in _ _ hc_) ?_
      refine j_if_eq (pc := 45) hX 66 dX4_bracket_45 rfl hf (fun h_ hf => ?_) (fun h_ hf => ?_)
      · refine j_iconst (pc := 66) hX (0 : Int32) dX4_bracket_66 rfl ?_
        cases hf
        exact kj31
      · refine j_aload_n (pc := 48) hX dX4_bracket_48 rfl ?_
        refine j_iload (pc := 49) hX dX4_bracket_49 rfl ?_
        refine j_i2l (pc := 51) hX dX4_bracket_51 ?_
        refine j_lconst (pc := 52) hX (0 : Int64) dX4_bracket_52 rfl ?_
        refine j_ldc2 (pc := 53) hX q2631 dX4_bracket_53 ?_
        obtain ⟨x12, w11, hc_, hf⟩ := zB2_e hf
        refine j_callV (pc := 56) hX (ci := 3) mt_X4_in q2469 q2471 qs29 (zIj_isC b u _) ⟨_, rfl, rfl⟩ [vL (Int32.toInt64 a5), vL (0 : Int64), vL (900 : Int64)] rfl rfl (Nat.le_of_ble_eq_true rfl) (by decide) dX4_bracket_56 (k_X4_in _ _ hc_) ?_
        refine j_if_eq (pc := 59) hX 66 dX4_bracket_59 rfl hf (fun h_ hf => ?_) (fun h_ hf => ?_)
        · refine j_iconst (pc := 66) hX (0 : Int32) dX4_bracket_66 rfl ?_
          cases hf
          exact kj31
        · refine j_iconst (pc := 62) hX (1 : Int32) dX4_bracket_62 rfl ?_
          refine j_goto (pc := 63) hX 67 dX4_bracket_63 rfl ?_
          cases hf
          exact kj31
  have hf := hm_
  refine j_if_eq (pc := 5) hX 20 dX4_bracket_5 rfl hf (fun h_ hf => ?_) (fun h_ hf => ?_)
  · refine j_iconst (pc := 20) hX (0 : Int32) dX4_bracket_20 rfl ?_
    cases hf
    exact kj5
  · refine j_aload_n (pc := 8) hX dX4_bracket_8 rfl ?_
    refine j_iload_n (pc := 9) hX dX4_bracket_9 rfl ?_
    obtain ⟨x4, w3, hc_, hf⟩ := zB2_e hf
    refine j_callV (pc := 10) hX (ci := 3) mt_X4_isMonth q2537 q2539 qs39 (zIj_isC b u _) ⟨_, rfl, rfl⟩ [vI a3] rfl rfl (Nat.le_of_ble_eq_true rfl) (by decide) dX4_bracket_10 (k_X4_isMonth _ _ hc_) ?_
    refine j_if_eq (pc := 13) hX 20 dX4_bracket_13 rfl hf (fun h_ hf => ?_) (fun h_ hf => ?_)
    · refine j_iconst (pc := 20) hX (0 : Int32) dX4_bracket_20 rfl ?_
      cases hf
      exact kj5
    · refine j_iconst (pc := 16) hX (1 : Int32) dX4_bracket_16 rfl ?_
      refine j_goto (pc := 17) hX 21 dX4_bracket_17 rfl ?_
      cases hf
      exact kj5
def f_X4_state (n : Nat) (a1 : Int32) (a2 : Int32) (a3 : Int32) (w : zM) : Option zM :=
  zB2 (f_X4_isPerson n a1 w) fun x2 w1 =>
  zB2 (
    if x2 = (0 : Int32) then
      some ((1 : Int32), w1)
    else
      zB2 (f_X4_isMonth n a2 w1) fun x4 w3 =>
      if x4 = (0 : Int32) then
        some ((1 : Int32), w3)
      else
        zB2 (f_X4_in n (Int32.toInt64 a3) (0 : Int64) (1 : Int64) w3) fun x6 w5 =>
        if x6 = (0 : Int32) then
          some ((2 : Int32), w5)
        else
          some ((0 : Int32), w5)
    ) fun x7 w8 =>
  zB2 (f_X4_holds n x7 w8) fun x10 w9 =>
  (
    if x10 = (0 : Int32) then
      (sIM w9 36 144 (((24 : Int32) * a1) + a2) a3).bind fun w11 =>
      some w11
    else
      some w9
    ).bind fun w12 =>
  some w12
theorem mt_X4_state : zMt yX4_state cX4_state 4 none 3 := ⟨q2635, q82, ⟨by decide, by decide⟩, by decide +kernel, by decide⟩
set_option maxHeartbeats 4000000 in
theorem k_X4_state {l : Launch} {n : Nat} {a1 : Int32} {a2 : Int32} {a3 : Int32} {b : Nat} {u : zWd} {w : zM} (r : Unit) (w9 : zM) (hf : f_X4_state n a1 a2 a3 w = some w9) : zCt l yX4_state cX4_state 4 none 3 [vA (some b), vI a1, vI a2, vI a3] (zIj b u w) (.inr (none, (zIj b u w9))) := by
  refine zCt_of (lv := [some (vA (some b)), some (vI a1), some (vI a2), some (vI a3)]) (by decide +kernel) 0 rfl rfl ?_
  intro X hX hI hN hQ
  have hX : zGd X RX4 cX4_state 4 none 3 := hX
  unfold f_X4_state at hf
  refine j_aload_n (pc := 0) hX dX4_state_0 rfl ?_
  refine j_aload_n (pc := 1) hX dX4_state_1 rfl ?_
  refine j_iload_n (pc := 2) hX dX4_state_2 rfl ?_
  obtain ⟨x2, w1, hc_, hf⟩ := zB2_e hf
  refine j_callV (pc := 3) hX (ci := 3) mt_X4_isPerson q2464 q2466 qs28 (zIj_isC b u _) ⟨_, rfl, rfl⟩ [vI a1] rfl rfl (Nat.le_of_ble_eq_true rfl) (by decide) dX4_state_3 (k_X4_isPerson _ _ hc_) ?_
  obtain ⟨x7, w8, hm_, hf⟩ := zB2_e hf
  have kj6 : zJ X 37 [some (vA (some b)), some (vI a1), some (vI a2), some (vI a3)] [vI x7, vA (some b)] (zIj b u w8) := by
    clear hm_
    obtain ⟨x10, w9, hc_, hf⟩ := zB2_e hf
    refine j_callV (pc := 37) hX (ci := 3) mt_X4_holds q2486 q2488 qs32 (zIj_isC b u _) ⟨_, rfl, rfl⟩ [vI x7] rfl rfl (Nat.le_of_ble_eq_true rfl) (by decide) dX4_state_37 (k_X4_holds _ _ hc_) ?_
    obtain ⟨w12, hm_, hf⟩ := zob hf
    have kj40 : zJ X 55 [none, none, none, none] [] (zIj b u w12) := by
      clear hm_
      exact j_return (pc := 55) hX hQ (by cases hf; rfl) dX4_state_55
    have hf := hm_
    refine j_if_ne (pc := 40) hX 55 dX4_state_40 rfl hf (fun h_ hf => ?_) (fun h_ hf => ?_)
    · refine j_fg [0, 1, 2, 3] [none, none, none, none] rfl ?_
      cases hf
      exact kj40
    · refine j_aload_n (pc := 43) hX dX4_state_43 rfl ?_
      refine mg_A (pc := 44) hX 36 (by decide) 29 1 rfl rfl (by decide) q2281 dX4_state_44 ?_
      refine j_bipush (pc := 47) hX (24 : Int32) dX4_state_47 (by decide +kernel) ?_
      refine j_iload_n (pc := 49) hX dX4_state_49 rfl ?_
      refine j_imul (pc := 50) hX dX4_state_50 ?_
      refine j_iload_n (pc := 51) hX dX4_state_51 rfl ?_
      refine j_iadd (pc := 52) hX dX4_state_52 ?_
      refine j_iload_n (pc := 53) hX dX4_state_53 rfl ?_
      refine ms_I (pc := 54) hX 36 144 29 (by decide) rfl rfl rfl dX4_state_54 hf (fun w11 hf => ?_)
      refine j_fg [0, 1, 2, 3] [none, none, none, none] rfl ?_
      cases hf
      exact kj40
  have hf := hm_
  refine j_if_eq (pc := 6) hX 17 dX4_state_6 rfl hf (fun h_ hf => ?_) (fun h_ hf => ?_)
  · refine j_iconst (pc := 17) hX (1 : Int32) dX4_state_17 rfl ?_
    refine j_goto (pc := 18) hX 37 dX4_state_18 rfl ?_
    cases hf
    exact kj6
  · refine j_aload_n (pc := 9) hX dX4_state_9 rfl ?_
    refine j_iload_n (pc := 10) hX dX4_state_10 rfl ?_
    obtain ⟨x4, w3, hc_, hf⟩ := zB2_e hf
    refine j_callV (pc := 11) hX (ci := 3) mt_X4_isMonth q2537 q2539 qs39 (zIj_isC b u _) ⟨_, rfl, rfl⟩ [vI a2] rfl rfl (Nat.le_of_ble_eq_true rfl) (by decide) dX4_state_11 (k_X4_isMonth _ _ hc_) ?_
    refine j_if_ne (pc := 14) hX 21 dX4_state_14 rfl hf (fun h_ hf => ?_) (fun h_ hf => ?_)
    · refine j_aload_n (pc := 21) hX dX4_state_21 rfl ?_
      refine j_iload_n (pc := 22) hX dX4_state_22 rfl ?_
      refine j_i2l (pc := 23) hX dX4_state_23 ?_
      refine j_lconst (pc := 24) hX (0 : Int64) dX4_state_24 rfl ?_
      refine j_lconst (pc := 25) hX (1 : Int64) dX4_state_25 rfl ?_
      obtain ⟨x6, w5, hc_, hf⟩ := zB2_e hf
      refine j_callV (pc := 26) hX (ci := 3) mt_X4_in q2469 q2471 qs29 (zIj_isC b u _) ⟨_, rfl, rfl⟩ [vL (Int32.toInt64 a3), vL (0 : Int64), vL (1 : Int64)] rfl rfl (Nat.le_of_ble_eq_true rfl) (by decide) dX4_state_26 (k_X4_in _ _ hc_) ?_
      refine j_if_eq (pc := 29) hX 36 dX4_state_29 rfl hf (fun h_ hf => ?_) (fun h_ hf => ?_)
      · refine j_iconst (pc := 36) hX (2 : Int32) dX4_state_36 rfl ?_
        cases hf
        exact kj6
      · refine j_iconst (pc := 32) hX (0 : Int32) dX4_state_32 rfl ?_
        refine j_goto (pc := 33) hX 37 dX4_state_33 rfl ?_
        cases hf
        exact kj6
    · refine j_iconst (pc := 17) hX (1 : Int32) dX4_state_17 rfl ?_
      refine j_goto (pc := 18) hX 37 dX4_state_18 rfl ?_
      cases hf
      exact kj6
