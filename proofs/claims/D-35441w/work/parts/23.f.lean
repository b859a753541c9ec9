set_option maxRecDepth 100000
def f_X5_leavePay (n : Nat) (a0 : Option Nat) (a1 : Int32) (w : zWd) : Option (Int64 × zWd) :=
  (gI w 4 4 a0).bind fun x1 =>
  zB2 (
    if x1 = (0 : Int32) then
      some ((0 : Int64), w)
    else
      (gI w 4 5 a0).bind fun x2 =>
      (gA w 4 8 a0).bind fun x3 =>
      (aI w x3 a1).bind fun x4 =>
      zB2 (f_X1_rounded n ((Int32.toInt64 x2) * (Int32.toInt64 x4)) (60 : Int64) w) fun x6 w5 =>
      some (x6, w5)
    ) fun x7 w8 =>
  some (x7, w8)
theorem mt_X5_leavePay : zMt yX5_leavePay cX5_leavePay 2 (some .long) 1 := ⟨q1202, q91, ⟨by decide, by decide⟩, by decide +kernel, by decide⟩
set_option maxHeartbeats 4000000 in
theorem k_X5_leavePay {l : Launch} {n : Nat} {a0 : Option Nat} {a1 : Int32} {w : zWd} (r : Int64) (w9 : zWd) (hf : f_X5_leavePay n a0 a1 w = some (r, w9)) : zCt l yX5_leavePay cX5_leavePay 2 (some .long) 3 [vA a0, vI a1] w (.inr (some (vL r), w9)) := by
  refine zCt_of (lv := [some (vA a0), some (vI a1)]) (by decide +kernel) 0 rfl rfl ?_
  intro X hX hI hN hQ
  have hX : zGd X RX5 cX5_leavePay 2 (some .long) 3 := hX
  unfold f_X5_leavePay at hf
  refine j_aload_n (pc := 0) hX dX5_leavePay_0 rfl ?_
  refine j_getI (pc := 1) hX kX5 (k := 4) (Nat.le_of_ble_eq_true rfl) q924 (Or.inl rfl) dX5_leavePay_1 hf (fun x1 hx_ hf => ?_)
  obtain ⟨x7, w8, hm_, hf⟩ := zB2_e hf
  have kj4 : zJ X 30 [none, none] [vL x7] w8 := by
    clear hm_
    exact j_lreturn (pc := 30) hX hQ (by cases hf; rfl) dX5_leavePay_30
  have hf := hm_
  refine j_if_eq (pc := 4) hX 29 dX5_leavePay_4 rfl hf (fun h_ hf => ?_) (fun h_ hf => ?_)
  · refine j_lconst (pc := 29) hX (0 : Int64) dX5_leavePay_29 rfl ?_
    refine j_fg [0, 1] [none, none] rfl ?_
    cases hf
    exact kj4
  · refine j_aload_n (pc := 7) hX dX5_leavePay_7 rfl ?_
    refine j_getI (pc := 8) hX kX5 (k := 5) (Nat.le_of_ble_eq_true rfl) q925 (Or.inl rfl) dX5_leavePay_8 hf (fun x2 hx_ hf => ?_)
    refine j_i2l (pc := 11) hX dX5_leavePay_11 ?_
    refine j_aload_n (pc := 12) hX dX5_leavePay_12 rfl ?_
    refine j_getA (pc := 13) hX kX5 (k := 8) (Nat.le_of_ble_eq_true rfl) q928 (Or.inl rfl) dX5_leavePay_13 hf (fun x3 hx_ hf => ?_)
    refine j_iload_n (pc := 16) hX dX5_leavePay_16 rfl ?_
    refine j_iaload (pc := 17) hX dX5_leavePay_17 hf (fun x4 hx_ hf => ?_)
    refine j_i2l (pc := 18) hX dX5_leavePay_18 ?_
    refine j_lmul (pc := 19) hX dX5_leavePay_19 ?_
    refine j_ldc2 (pc := 20) hX q1183 dX5_leavePay_20 ?_
    obtain ⟨x6, w5, hc_, hf⟩ := zB2_e hf
    refine j_callSN (pc := 23) hX mt_X1_rounded q1185 q1186 [vL ((Int32.toInt64 x2) * (Int32.toInt64 x4)), vL (60 : Int64)] rfl rfl (Nat.le_of_ble_eq_true rfl) (by decide) dX5_leavePay_23 (k_X1_rounded _ _ hc_) ?_
    refine j_goto (pc := 26) hX 30 dX5_leavePay_26 rfl ?_
    refine j_fg [0, 1] [none, none] rfl ?_
    cases hf
    exact kj4
def f_X1_baseOf_L9b (n : Nat) (c0 : Option Nat) (c1 : Option Nat) (c2 : Int32) (rec : Int64 → Int32 → zWd → Option (Int64 × zWd)) (v3 : Int64) (v5 : Int32) (w : zWd) : Option (Int64 × zWd) :=
  (gA w 0 2 c0).bind fun x3 =>
  zB2 (zV (isC w 18 x3) (f_J2_size n x3 w)) fun x5 w4 =>
  if x5 ≤ v5 then
    some (v3, w4)
  else
    (gA w4 0 2 c0).bind fun x6 =>
    zB2 (zV (isC w4 18 x6) (f_J2_get n x6 v5 w4)) fun x8 w7 =>
    (cK w7 [7] x8).bind fun _ =>
    (gA w7 7 0 x8).bind fun x9 =>
    zB2 (
      if x9 = c1 then
        (gI w7 7 1 x8).bind fun x10 =>
        if (x10 / (30 : Int32)) = c2 then
          (gI w7 7 2 x8).bind fun x11 =>
          if x11 = (0 : Int32) then
            some ((0 : Int64), w7)
          else
            (gI w7 7 1 x8).bind fun x12 =>
            zB2 (zV (isC w7 4 c1) (f_X5_leavePay n c1 x12 w7)) fun x14 w13 =>
            some (x14, w13)
        else
          some ((0 : Int64), w7)
      else
        some ((0 : Int64), w7)
      ) fun x15 w16 =>
    rec (v3 + x15) (v5 + (1)) w16
def f_X1_baseOf_L9 (n : Nat) (c0 : Option Nat) (c1 : Option Nat) (c2 : Int32) : Nat → Int64 → Int32 → zWd → Option (Int64 × zWd)
  | 0, _, _, _ => none
  | k + 1, v3, v5, w => f_X1_baseOf_L9b n c0 c1 c2 (f_X1_baseOf_L9 n c0 c1 c2 k) v3 v5 w
def f_X1_baseOf (n : Nat) (a0 : Option Nat) (a1 : Option Nat) (a2 : Int32) (w : zWd) : Option (Int64 × zWd) :=
  zB2 (zV (isC w 4 a1) (f_X5_base n a1 a2 w)) fun x2 w1 =>
  zB2 (f_X1_baseOf_L9 n a0 a1 a2 n x2 (0 : Int32) w1) fun x17 w18 =>
  some (x17, w18)
theorem mt_X1_baseOf : zMt yX1_baseOf cX1_baseOf 7 (some .long) 2 := ⟨q1177, q66, ⟨by decide, by decide⟩, by decide +kernel, by decide⟩
set_option maxHeartbeats 4000000 in
theorem lp_X1_baseOf_L9 {X : zX} (hX : zGd X RX1 cX1_baseOf 7 (some .long) 5) (n : Nat) (c0 : Option Nat) (c1 : Option Nat) (c2 : Int32) : ∀ (k : Nat) (v3 : Int64) (v5 : Int32) (w : zWd) (o3 : Int64) (w9 : zWd) , f_X1_baseOf_L9 n c0 c1 c2 k v3 v5 w = some (o3, w9) → zJ X 90 [some (vA c0), some (vA c1), some (vI c2), some (vL o3), none, none, none] [] w9 → zJ X 9 [some (vA c0), some (vA c1), some (vI c2), some (vL v3), none, some (vI v5), none] [] w := by
  intro k
  induction k with
  | zero => intro v3 v5 w o3 w9 hf _; exact nomatch (show (none : Option (Int64 × zWd)) = _ from hf)
  | succ k ih =>
    intro v3 v5 w o3 w9 hf kx
    have hf : f_X1_baseOf_L9b n c0 c1 c2 (f_X1_baseOf_L9 n c0 c1 c2 k) v3 v5 w = _ := hf
    unfold f_X1_baseOf_L9b at hf
    refine j_iload (pc := 9) hX dX1_baseOf_9 rfl ?_
    refine j_aload_n (pc := 11) hX dX1_baseOf_11 rfl ?_
    refine j_getA (pc := 12) hX kX1 (k := 2) (Nat.le_of_ble_eq_true rfl) q335 (Or.inl rfl) dX1_baseOf_12 hf (fun x3 hx_ hf => ?_)
    obtain ⟨x5, w4, hc_, hf⟩ := zB2_e hf
    obtain ⟨hi_, hc_⟩ := zV_e hc_
    refine j_callF (pc := 15) hX (ci := 18) mt_J2_size q413 q418 q416 (by decide +kernel) rfl hi_ ⟨_, rfl, rfl⟩ [] rfl rfl (Nat.le_of_ble_eq_true rfl) (by decide) dX1_baseOf_15 (k_J2_size _ _ hc_) ?_
    refine j_icmp_ge (pc := 20) hX 90 dX1_baseOf_20 rfl hf (fun h_ hf => ?_) (fun h_ hf => ?_)
    · refine j_fg [5] [some (vA c0), some (vA c1), some (vI c2), some (vL v3), none, none, none] rfl ?_
      cases hf
      exact kx
    · refine j_aload_n (pc := 23) hX dX1_baseOf_23 rfl ?_
      refine j_getA (pc := 24) hX kX1 (k := 2) (Nat.le_of_ble_eq_true rfl) q335 (Or.inl rfl) dX1_baseOf_24 hf (fun x6 hx_ hf => ?_)
      refine j_iload (pc := 27) hX dX1_baseOf_27 rfl ?_
      obtain ⟨x8, w7, hc_, hf⟩ := zB2_e hf
      obtain ⟨hi_, hc_⟩ := zV_e hc_
      refine j_callF (pc := 29) hX (ci := 18) mt_J2_get q965 q970 q968 (by decide +kernel) rfl hi_ ⟨_, rfl, rfl⟩ [vI v5] rfl rfl (Nat.le_of_ble_eq_true rfl) (by decide) dX1_baseOf_29 (k_J2_get _ _ hc_) ?_
      refine j_cast (pc := 34) hX q1198 [7] (zC1 ⟨_, rfl, Or.inl rfl⟩) dX1_baseOf_34 hf (fun hf => ?_)
      refine j_astore (pc := 37) hX dX1_baseOf_37 (by decide) [some (vA c0), some (vA c1), some (vI c2), some (vL v3), none, some (vI v5), some (vA x8)] rfl ?_
      refine j_lload_n (pc := 39) hX dX1_baseOf_39 rfl ?_
      refine j_aload (pc := 40) hX dX1_baseOf_40 rfl ?_
      refine j_getAN (pc := 42) hX kX8 (k := 0) (Nat.le_of_ble_eq_true rfl) q1224 rfl dX1_baseOf_42 hf (fun x9 hx_ hf => ?_)
      refine j_aload_n (pc := 45) hX dX1_baseOf_45 rfl ?_
      obtain ⟨x15, w16, hm_, hf⟩ := zB2_e hf
      have kj46 : zJ X 82 [some (vA c0), some (vA c1), some (vI c2), none, none, some (vI v5), none] [vL x15, vL v3] w16 := by
        clear hm_
        refine j_ladd (pc := 82) hX dX1_baseOf_82 ?_
        refine j_lstore_n (pc := 83) hX dX1_baseOf_83 (by decide) [some (vA c0), some (vA c1), some (vI c2), some (vL (v3 + x15)), none, some (vI v5), none] rfl ?_
        refine j_iinc (pc := 84) hX (1) dX1_baseOf_84 rfl rfl (by decide) [some (vA c0), some (vA c1), some (vI c2), some (vL (v3 + x15)), none, some (vI (v5 + (1))), none] rfl ?_
        refine j_goto (pc := 87) hX 9 dX1_baseOf_87 rfl ?_
        exact ih _ _ _ _ _ hf kx
      have hf := hm_
      refine j_acmp_ne (pc := 46) hX 81 dX1_baseOf_46 rfl hf (fun h_ hf => ?_) (fun h_ hf => ?_)
      · refine j_lconst (pc := 81) hX (0 : Int64) dX1_baseOf_81 rfl ?_
        refine j_fg [3, 6] [some (vA c0), some (vA c1), some (vI c2), none, none, some (vI v5), none] rfl ?_
        cases hf
        exact kj46
      · refine j_aload (pc := 49) hX dX1_baseOf_49 rfl ?_
        refine j_getIN (pc := 51) hX kX8 (k := 1) (Nat.le_of_ble_eq_true rfl) q1227 rfl dX1_baseOf_51 hf (fun x10 hx_ hf => ?_)
        refine j_bipush (pc := 54) hX (30 : Int32) dX1_baseOf_54 (by decide +kernel) ?_
        refine j_idiv (pc := 56) hX dX1_baseOf_56 (by decide) ?_
        refine j_iload_n (pc := 57) hX dX1_baseOf_57 rfl ?_
        refine j_icmp_ne (pc := 58) hX 81 dX1_baseOf_58 rfl hf (fun h_ hf => ?_) (fun h_ hf => ?_)
        · refine j_lconst (pc := 81) hX (0 : Int64) dX1_baseOf_81 rfl ?_
          refine j_fg [3, 6] [some (vA c0), some (vA c1), some (vI c2), none, none, some (vI v5), none] rfl ?_
          cases hf
          exact kj46
        · refine j_aload (pc := 61) hX dX1_baseOf_61 rfl ?_
          refine j_getIN (pc := 63) hX kX8 (k := 2) (Nat.le_of_ble_eq_true rfl) q1229 rfl dX1_baseOf_63 hf (fun x11 hx_ hf => ?_)
          refine j_if_eq (pc := 66) hX 81 dX1_baseOf_66 rfl hf (fun h_ hf => ?_) (fun h_ hf => ?_)
          · refine j_lconst (pc := 81) hX (0 : Int64) dX1_baseOf_81 rfl ?_
            refine j_fg [3, 6] [some (vA c0), some (vA c1), some (vI c2), none, none, some (vI v5), none] rfl ?_
            cases hf
            exact kj46
          · refine j_aload_n (pc := 69) hX dX1_baseOf_69 rfl ?_
            refine j_aload (pc := 70) hX dX1_baseOf_70 rfl ?_
            refine j_getIN (pc := 72) hX kX8 (k := 1) (Nat.le_of_ble_eq_true rfl) q1227 rfl dX1_baseOf_72 hf (fun x12 hx_ hf => ?_)
            obtain ⟨x14, w13, hc_, hf⟩ := zB2_e hf
            obtain ⟨hi_, hc_⟩ := zV_e hc_
            refine j_callV (pc := 75) hX (ci := 4) mt_X5_leavePay q1199 q1200 q1201 hi_ ⟨_, rfl, rfl⟩ [vI x12] rfl rfl (Nat.le_of_ble_eq_true rfl) (by decide) dX1_baseOf_75 (k_X5_leavePay _ _ hc_) ?_
            refine j_goto (pc := 78) hX 82 dX1_baseOf_78 rfl ?_
            refine j_fg [3, 6] [some (vA c0), some (vA c1), some (vI c2), none, none, some (vI v5), none] rfl ?_
            cases hf
            exact kj46
set_option maxHeartbeats 4000000 in
theorem k_X1_baseOf {l : Launch} {n : Nat} {a0 : Option Nat} {a1 : Option Nat} {a2 : Int32} {w : zWd} (r : Int64) (w9 : zWd) (hf : f_X1_baseOf n a0 a1 a2 w = some (r, w9)) : zCt l yX1_baseOf cX1_baseOf 7 (some .long) 5 [vA a0, vA a1, vI a2] w (.inr (some (vL r), w9)) := by
  refine zCt_of (lv := [some (vA a0), some (vA a1), some (vI a2), none, none, none, none]) (by decide +kernel) 4 rfl rfl ?_
  intro X hX hI hN hQ
  have hX : zGd X RX1 cX1_baseOf 7 (some .long) 5 := hX
  unfold f_X1_baseOf at hf
  refine j_aload_n (pc := 0) hX dX1_baseOf_0 rfl ?_
  refine j_iload_n (pc := 1) hX dX1_baseOf_1 rfl ?_
  obtain ⟨x2, w1, hc_, hf⟩ := zB2_e hf
  obtain ⟨hi_, hc_⟩ := zV_e hc_
  refine j_callV (pc := 2) hX (ci := 4) mt_X5_base q1178 q1179 q1180 hi_ ⟨_, rfl, rfl⟩ [vI a2] rfl rfl (Nat.le_of_ble_eq_true rfl) (by decide) dX1_baseOf_2 (k_X5_base _ _ hc_) ?_
  refine j_lstore_n (pc := 5) hX dX1_baseOf_5 (by decide) [some (vA a0), some (vA a1), some (vI a2), some (vL x2), none, none, none] rfl ?_
  refine j_iconst (pc := 6) hX (0 : Int32) dX1_baseOf_6 rfl ?_
  refine j_istore (pc := 7) hX dX1_baseOf_7 (by decide) [some (vA a0), some (vA a1), some (vI a2), some (vL x2), none, some (vI (0 : Int32)), none] rfl ?_
  obtain ⟨x17, w18, hm_, hf⟩ := zB2_e hf
  refine lp_X1_baseOf_L9 hX n _ _ _ _ _ _ _ _ _ hm_ ?_
  refine j_lload_n (pc := 90) hX dX1_baseOf_90 rfl ?_
  exact j_lreturn (pc := 91) hX hQ (by cases hf; rfl) dX1_baseOf_91
def f_X1_base (n : Nat) (a0 : Option Nat) (a1 : Int32) (a2 : Int32) (w : zWd) : Option ((String ⊕ Int64) × zWd) :=
  zBX (zV (isC w 0 a0) (f_X1_contractAt n a0 a1 w)) fun x2 w1 =>
  zBX (f_X1_at n a2 (24 : Int32) w1) fun x4 w3 =>
  (gI w3 4 0 x2).bind fun x5 =>
  (zV (isC w3 0 a0) (f_X1_findLeave n a0 x5 w3)).bind fun w6 =>
  zB2 (zV (isC w6 0 a0) (f_X1_baseOf n a0 x2 a2 w6)) fun x8 w7 =>
  some (.inr x8, w7)
theorem mt_X1_base : zMt yX1_base cX1_base 4 (some .long) 2 := ⟨q1125, q66, ⟨by decide, by decide⟩, by decide +kernel, by decide⟩
set_option maxHeartbeats 4000000 in
theorem k_X1_base {l : Launch} {n : Nat} {a0 : Option Nat} {a1 : Int32} {a2 : Int32} {w : zWd} (r : String ⊕ Int64) (w9 : zWd) (hf : f_X1_base n a0 a1 a2 w = some (r, w9)) : zCt l yX1_base cX1_base 4 (some .long) 8 [vA a0, vI a1, vI a2] w (zXL r w9) := by
  refine zCt_of (lv := [some (vA a0), some (vI a1), some (vI a2), none]) (by decide +kernel) 1 rfl rfl ?_
  intro X hX hI hN hQ
  have hX : zGd X RX1 cX1_base 4 (some .long) 8 := hX
  unfold f_X1_base at hf
  refine j_aload_n (pc := 0) hX dX1_base_0 rfl ?_
  refine j_iload_n (pc := 1) hX dX1_base_1 rfl ?_
  obtain ⟨⟨q_, w1⟩, hc_, hf⟩ := zob hf
  obtain ⟨hi_, hc_⟩ := zV_e hc_
  cases q_ with
  | inl E_ =>
    cases hf
    exact j_callVX (pc := 2) hX (ci := 0) mt_X1_contractAt q960 q962 qs10 hi_ ⟨_, rfl, rfl⟩ [vI a1] rfl rfl (Nat.le_of_ble_eq_true rfl) (by decide) dX1_base_2 hN hQ (k_X1_contractAt _ _ hc_)
  | inr x2 =>
    refine j_callV (pc := 2) hX (ci := 0) mt_X1_contractAt q960 q962 qs10 hi_ ⟨_, rfl, rfl⟩ [vI a1] rfl rfl (Nat.le_of_ble_eq_true rfl) (by decide) dX1_base_2 (k_X1_contractAt _ _ hc_) ?_
    refine j_astore_n (pc := 5) hX dX1_base_5 (by decide) [some (vA a0), some (vI a1), some (vI a2), some (vA x2)] rfl ?_
    refine j_iload_n (pc := 6) hX dX1_base_6 rfl ?_
    refine j_bipush (pc := 7) hX (24 : Int32) dX1_base_7 (by decide +kernel) ?_
    obtain ⟨⟨q_, w3⟩, hc_, hf⟩ := zob hf
    cases q_ with
    | inl E_ =>
      cases hf
      exact j_callSX (pc := 9) hX mt_X1_at q507 q508 [vI a2, vI (24 : Int32)] rfl rfl (Nat.le_of_ble_eq_true rfl) (by decide) dX1_base_9 hN hQ (k_X1_at _ _ hc_)
    | inr x4 =>
      refine j_callS (pc := 9) hX mt_X1_at q507 q508 [vI a2, vI (24 : Int32)] rfl rfl (Nat.le_of_ble_eq_true rfl) (by decide) dX1_base_9 (k_X1_at _ _ hc_) ?_
      refine j_pop (pc := 12) hX rfl dX1_base_12 ?_
      refine j_aload_n (pc := 13) hX dX1_base_13 rfl ?_
      refine j_aload_n (pc := 14) hX dX1_base_14 rfl ?_
      refine j_getIN (pc := 15) hX kX5 (k := 0) (Nat.le_of_ble_eq_true rfl) q919 rfl dX1_base_15 hf (fun x5 hx_ hf => ?_)
      obtain ⟨w6, hc_, hf⟩ := zob hf
      obtain ⟨hi_, hc_⟩ := zV_e hc_
      refine j_callV (pc := 18) hX (ci := 0) mt_X1_findLeave q1126 q1128 qs12 hi_ ⟨_, rfl, rfl⟩ [vI x5] rfl rfl (Nat.le_of_ble_eq_true rfl) (by decide) dX1_base_18 (k_X1_findLeave () _ hc_) ?_
      refine j_aload_n (pc := 21) hX dX1_base_21 rfl ?_
      refine j_aload_n (pc := 22) hX dX1_base_22 rfl ?_
      refine j_iload_n (pc := 23) hX dX1_base_23 rfl ?_
      obtain ⟨x8, w7, hc_, hf⟩ := zB2_e hf
      obtain ⟨hi_, hc_⟩ := zV_e hc_
      refine j_callV (pc := 24) hX (ci := 0) mt_X1_baseOf q1174 q1176 qs14 hi_ ⟨_, rfl, rfl⟩ [vA x2, vI a2] rfl rfl (Nat.le_of_ble_eq_true rfl) (by decide) dX1_base_24 (k_X1_baseOf _ _ hc_) ?_
      exact j_lreturn (pc := 27) hX hQ (by cases hf; rfl) dX1_base_27
def f_X1_leaveRule (n : Nat) (a0 : Option Nat) (a1 : Int32) (a2 : Int32) (a3 : Int32) (w : zWd) : Option ((String ⊕ Unit) × zWd) :=
  zBX (f_X1_in n a1 (0 : Int32) (50 : Int32) w) fun x2 w1 =>
  zBX (f_X1_in n a2 (0 : Int32) (500 : Int32) w1) fun x4 w3 =>
  zBX (f_X1_in n a3 (1 : Int32) (12 : Int32) w3) fun x6 w5 =>
  (pI w5 0 3 a0 a1).bind fun w7 =>
  (pI w7 0 4 a0 a2).bind fun w8 =>
  (pI w8 0 5 a0 a3).bind fun w9 =>
  some (.inr (), w9)
theorem mt_X1_leaveRule : zMt yX1_leaveRule cX1_leaveRule 4 none 3 := ⟨q1209, q66, ⟨by decide, by decide⟩, by decide +kernel, by decide⟩
set_option maxHeartbeats 4000000 in
theorem k_X1_leaveRule {l : Launch} {n : Nat} {a0 : Option Nat} {a1 : Int32} {a2 : Int32} {a3 : Int32} {w : zWd} (r : String ⊕ Unit) (w9 : zWd) (hf : f_X1_leaveRule n a0 a1 a2 a3 w = some (r, w9)) : zCt l yX1_leaveRule cX1_leaveRule 4 none 7 [vA a0, vI a1, vI a2, vI a3] w (zXU r w9) := by
  refine zCt_of (lv := [some (vA a0), some (vI a1), some (vI a2), some (vI a3)]) (by decide +kernel) 0 rfl rfl ?_
  intro X hX hI hN hQ
  have hX : zGd X RX1 cX1_leaveRule 4 none 7 := hX
  unfold f_X1_leaveRule at hf
  refine j_iload_n (pc := 0) hX dX1_leaveRule_0 rfl ?_
  refine j_iconst (pc := 1) hX (0 : Int32) dX1_leaveRule_1 rfl ?_
  refine j_bipush (pc := 2) hX (50 : Int32) dX1_leaveRule_2 (by decide +kernel) ?_
  obtain ⟨⟨q_, w1⟩, hc_, hf⟩ := zob hf
  cases q_ with
  | inl E_ =>
    cases hf
    exact j_callSX (pc := 4) hX mt_X1_in q523 q524 [vI a1, vI (0 : Int32), vI (50 : Int32)] rfl rfl (Nat.le_of_ble_eq_true rfl) (by decide) dX1_leaveRule_4 hN hQ (k_X1_in _ _ hc_)
  | inr x2 =>
    refine j_callS (pc := 4) hX mt_X1_in q523 q524 [vI a1, vI (0 : Int32), vI (50 : Int32)] rfl rfl (Nat.le_of_ble_eq_true rfl) (by decide) dX1_leaveRule_4 (k_X1_in _ _ hc_) ?_
    refine j_pop (pc := 7) hX rfl dX1_leaveRule_7 ?_
    refine j_iload_n (pc := 8) hX dX1_leaveRule_8 rfl ?_
    refine j_iconst (pc := 9) hX (0 : Int32) dX1_leaveRule_9 rfl ?_
    refine j_sipush (pc := 10) hX (500 : Int32) dX1_leaveRule_10 (by decide +kernel) ?_
    obtain ⟨⟨q_, w3⟩, hc_, hf⟩ := zob hf
    cases q_ with
    | inl E_ =>
      cases hf
      exact j_callSX (pc := 13) hX mt_X1_in q523 q524 [vI a2, vI (0 : Int32), vI (500 : Int32)] rfl rfl (Nat.le_of_ble_eq_true rfl) (by decide) dX1_leaveRule_13 hN hQ (k_X1_in _ _ hc_)
    | inr x4 =>
      refine j_callS (pc := 13) hX mt_X1_in q523 q524 [vI a2, vI (0 : Int32), vI (500 : Int32)] rfl rfl (Nat.le_of_ble_eq_true rfl) (by decide) dX1_leaveRule_13 (k_X1_in _ _ hc_) ?_
      refine j_pop (pc := 16) hX rfl dX1_leaveRule_16 ?_
      refine j_iload_n (pc := 17) hX dX1_leaveRule_17 rfl ?_
      refine j_iconst (pc := 18) hX (1 : Int32) dX1_leaveRule_18 rfl ?_
      refine j_bipush (pc := 19) hX (12 : Int32) dX1_leaveRule_19 (by decide +kernel) ?_
      obtain ⟨⟨q_, w5⟩, hc_, hf⟩ := zob hf
      cases q_ with
      | inl E_ =>
        cases hf
        exact j_callSX (pc := 21) hX mt_X1_in q523 q524 [vI a3, vI (1 : Int32), vI (12 : Int32)] rfl rfl (Nat.le_of_ble_eq_true rfl) (by decide) dX1_leaveRule_21 hN hQ (k_X1_in _ _ hc_)
      | inr x6 =>
        refine j_callS (pc := 21) hX mt_X1_in q523 q524 [vI a3, vI (1 : Int32), vI (12 : Int32)] rfl rfl (Nat.le_of_ble_eq_true rfl) (by decide) dX1_leaveRule_21 (k_X1_in _ _ hc_) ?_
        refine j_pop (pc := 24) hX rfl dX1_leaveRule_24 ?_
        refine j_aload_n (pc := 25) hX dX1_leaveRule_25 rfl ?_
        refine j_iload_n (pc := 26) hX dX1_leaveRule_26 rfl ?_
        refine j_putI (pc := 27) hX kX1 (k := 3) (Nat.le_of_ble_eq_true rfl) q337 (Or.inl rfl) rfl rfl dX1_leaveRule_27 hf (fun w7 hf => ?_)
        refine j_aload_n (pc := 30) hX dX1_leaveRule_30 rfl ?_
        refine j_iload_n (pc := 31) hX dX1_leaveRule_31 rfl ?_
        refine j_putI (pc := 32) hX kX1 (k := 4) (Nat.le_of_ble_eq_true rfl) q339 (Or.inl rfl) rfl rfl dX1_leaveRule_32 hf (fun w8 hf => ?_)
        refine j_aload_n (pc := 35) hX dX1_leaveRule_35 rfl ?_
        refine j_iload_n (pc := 36) hX dX1_leaveRule_36 rfl ?_
        refine j_putI (pc := 37) hX kX1 (k := 5) (Nat.le_of_ble_eq_true rfl) q341 (Or.inl rfl) rfl rfl dX1_leaveRule_37 hf (fun w9 hf => ?_)
        exact j_return (pc := 40) hX hQ (by cases hf; rfl) dX1_leaveRule_40
def f_X8_init (n : Nat) (a0 : Option Nat) (a1 : Option Nat) (a2 : Int32) (w : zWd) : Option zWd :=
  if a0 = none then none else
  (pA w 7 0 a0 a1).bind fun w1 =>
  (pI w1 7 1 a0 a2).bind fun w2 =>
  some w2
theorem mt_X8_init : zMt yX8_init cX8_init 3 none 2 := ⟨q1220, q103, ⟨by decide, by decide⟩, by decide +kernel, by decide⟩
set_option maxHeartbeats 4000000 in
theorem k_X8_init {l : Launch} {n : Nat} {a0 : Option Nat} {a1 : Option Nat} {a2 : Int32} {w : zWd} (r : Unit) (w9 : zWd) (hf : f_X8_init n a0 a1 a2 w = some w9) : zCt l yX8_init cX8_init 3 none 1 [vA a0, vA a1, vI a2] w (.inr (none, w9)) := by
  refine zCt_of (lv := [some (vA a0), some (vA a1), some (vI a2)]) (by decide +kernel) 0 rfl rfl ?_
  intro X hX hI hN hQ
  have hX : zGd X RX8 cX8_init 3 none 1 := hX
  unfold f_X8_init at hf
  refine j_aload_n (pc := 0) hX dX8_init_0 rfl ?_
  obtain ⟨hne_, hf⟩ := zGd_e hf
  refine j_objInit (pc := 1) hX (by decide) q1221 q124 q125 (by rw [zCs_eq]; exact Nat.le_of_ble_eq_true rfl) dX8_init_1 hne_ ?_
  refine j_aload_n (pc := 4) hX dX8_init_4 rfl ?_
  refine j_aload_n (pc := 5) hX dX8_init_5 rfl ?_
  refine j_putAF (pc := 6) hX hI kX8 (k := 0) (Nat.le_of_ble_eq_true rfl) q1222 rfl rfl rfl rfl dX8_init_6 hf (fun w1 hf => ?_)
  refine j_aload_n (pc := 9) hX dX8_init_9 rfl ?_
  refine j_iload_n (pc := 10) hX dX8_init_10 rfl ?_
  refine j_putIF (pc := 11) hX hI kX8 (k := 1) (Nat.le_of_ble_eq_true rfl) q1225 rfl rfl rfl rfl dX8_init_11 hf (fun w2 hf => ?_)
  exact j_return (pc := 14) hX hQ (by cases hf; rfl) dX8_init_14
def f_X1_leave (n : Nat) (a0 : Option Nat) (a1 : Int32) (a2 : Int32) (w : zWd) : Option ((String ⊕ Int32) × zWd) :=
  zBX (zV (isC w 0 a0) (f_X1_contractOn n a0 a1 a2 w)) fun x2 w1 =>
  (gA w1 0 2 a0).bind fun x3 =>
  zB2 (zV (isC w1 18 x3) (f_J2_size n x3 w1)) fun x5 w4 =>
  (
    if (30 : Int32) ≤ x5 then
      some (0 : Int32)
    else
      some (1 : Int32)
    ).bind fun x6 =>
  zBX (f_X1_must n x6 w4) fun _u w7 =>
  zB2 (zNew w7 3 (.inr (7, df_X8))) fun x8 w9 =>
  (zV (decide (x8 ≠ none)) (f_X8_init n x8 x2 a2 w9)).bind fun w10 =>
  (gA w10 0 2 a0).bind fun x11 =>
  zB2 (zV (isC w10 18 x11) (f_J2_add n x11 x8 w10)) fun x13 w12 =>
  (gI w12 4 0 x2).bind fun x14 =>
  (zV (isC w12 0 a0) (f_X1_findLeave n a0 x14 w12)).bind fun w15 =>
  (gI w15 7 2 x8).bind fun x16 =>
  zRzX x16 w15
theorem mt_X1_leave : zMt yX1_leave cX1_leave 5 (some .boolean) 2 := ⟨q1216, q66, ⟨by decide, by decide⟩, by decide +kernel, by decide⟩
set_option maxHeartbeats 4000000 in
theorem k_X1_leave {l : Launch} {n : Nat} {a0 : Option Nat} {a1 : Int32} {a2 : Int32} {w : zWd} (r : String ⊕ Int32) (w9 : zWd) (hf : f_X1_leave n a0 a1 a2 w = some (r, w9)) : zCt l yX1_leave cX1_leave 5 (some .boolean) 9 [vA a0, vI a1, vI a2] w (zXI r w9) := by
  refine zCt_of (lv := [some (vA a0), some (vI a1), some (vI a2), none, none]) (by decide +kernel) 2 rfl rfl ?_
  intro X hX hI hN hQ
  have hX : zGd X RX1 cX1_leave 5 (some .boolean) 9 := hX
  unfold f_X1_leave at hf
  refine j_aload_n (pc := 0) hX dX1_leave_0 rfl ?_
  refine j_iload_n (pc := 1) hX dX1_leave_1 rfl ?_
  refine j_iload_n (pc := 2) hX dX1_leave_2 rfl ?_
  obtain ⟨⟨q_, w1⟩, hc_, hf⟩ := zob hf
  obtain ⟨hi_, hc_⟩ := zV_e hc_
  cases q_ with
  | inl E_ =>
    cases hf
    exact j_callVX (pc := 3) hX (ci := 0) mt_X1_contractOn q995 q997 qs11 hi_ ⟨_, rfl, rfl⟩ [vI a1, vI a2] rfl rfl (Nat.le_of_ble_eq_true rfl) (by decide) dX1_leave_3 hN hQ (k_X1_contractOn _ _ hc_)
  | inr x2 =>
    refine j_callV (pc := 3) hX (ci := 0) mt_X1_contractOn q995 q997 qs11 hi_ ⟨_, rfl, rfl⟩ [vI a1, vI a2] rfl rfl (Nat.le_of_ble_eq_true rfl) (by decide) dX1_leave_3 (k_X1_contractOn _ _ hc_) ?_
    refine j_astore_n (pc := 6) hX dX1_leave_6 (by decide) [some (vA a0), some (vI a1), some (vI a2), some (vA x2), none] rfl ?_
    refine j_aload_n (pc := 7) hX dX1_leave_7 rfl ?_
    refine j_getA (pc := 8) hX kX1 (k := 2) (Nat.le_of_ble_eq_true rfl) q335 (Or.inl rfl) dX1_leave_8 hf (fun x3 hx_ hf => ?_)
    obtain ⟨x5, w4, hc_, hf⟩ := zB2_e hf
    obtain ⟨hi_, hc_⟩ := zV_e hc_
    refine j_callF (pc := 11) hX (ci := 18) mt_J2_size q413 q418 q416 (by decide +kernel) rfl hi_ ⟨_, rfl, rfl⟩ [] rfl rfl (Nat.le_of_ble_eq_true rfl) (by decide) dX1_leave_11 (k_J2_size _ _ hc_) ?_
    refine j_bipush (pc := 16) hX (30 : Int32) dX1_leave_16 (by decide +kernel) ?_
    obtain ⟨x6, hm_, hf⟩ := zob hf
    have kj18 : zJ X 26 [some (vA a0), none, some (vI a2), some (vA x2), none] [vI x6] w4 := by
      clear hm_
      obtain ⟨⟨q_, w7⟩, hc_, hf⟩ := zob hf
      cases q_ with
      | inl E_ =>
        cases hf
        exact j_callSX (pc := 26) hX mt_X1_must q543 q544 [vI x6] rfl rfl (Nat.le_of_ble_eq_true rfl) (by decide) dX1_leave_26 hN hQ (k_X1_must _ _ hc_)
      | inr u_ =>
        refine j_callS (pc := 26) hX mt_X1_must q543 q544 [vI x6] rfl rfl (Nat.le_of_ble_eq_true rfl) (by decide) dX1_leave_26 (k_X1_must _ _ hc_) ?_
        refine j_new (pc := 29) hX kX8 q1198 q1217 q103 df_X8 df_X8_ok dX1_leave_29 hf (fun x8 w9 hf => ?_)
        refine j_dup (pc := 32) hX rfl dX1_leave_32 ?_
        refine j_aload_n (pc := 33) hX dX1_leave_33 rfl ?_
        refine j_iload_n (pc := 34) hX dX1_leave_34 rfl ?_
        obtain ⟨w10, hc_, hf⟩ := zob hf
        obtain ⟨hi_, hc_⟩ := zV_e hc_
        refine j_callI (pc := 35) hX mt_X8_init q1218 q1219 rfl rfl [vA x2, vI a2] rfl rfl (Nat.le_of_ble_eq_true rfl) (by decide) dX1_leave_35 (of_decide_eq_true hi_) (k_X8_init () _ hc_) ?_
        refine j_astore (pc := 38) hX dX1_leave_38 (by decide) [some (vA a0), none, some (vI a2), some (vA x2), some (vA x8)] rfl ?_
        refine j_aload_n (pc := 40) hX dX1_leave_40 rfl ?_
        refine j_getA (pc := 41) hX kX1 (k := 2) (Nat.le_of_ble_eq_true rfl) q335 (Or.inl rfl) dX1_leave_41 hf (fun x11 hx_ hf => ?_)
        refine j_aload (pc := 44) hX dX1_leave_44 rfl ?_
        obtain ⟨x13, w12, hc_, hf⟩ := zB2_e hf
        obtain ⟨hi_, hc_⟩ := zV_e hc_
        refine j_callF (pc := 46) hX (ci := 18) mt_J2_add q226 q232 q230 (by decide +kernel) rfl hi_ ⟨_, rfl, rfl⟩ [vA x8] rfl rfl (Nat.le_of_ble_eq_true rfl) (by decide) dX1_leave_46 (k_J2_add _ _ hc_) ?_
        refine j_pop (pc := 51) hX rfl dX1_leave_51 ?_
        refine j_aload_n (pc := 52) hX dX1_leave_52 rfl ?_
        refine j_aload_n (pc := 53) hX dX1_leave_53 rfl ?_
        refine j_getIN (pc := 54) hX kX5 (k := 0) (Nat.le_of_ble_eq_true rfl) q919 rfl dX1_leave_54 hf (fun x14 hx_ hf => ?_)
        obtain ⟨w15, hc_, hf⟩ := zob hf
        obtain ⟨hi_, hc_⟩ := zV_e hc_
        refine j_callV (pc := 57) hX (ci := 0) mt_X1_findLeave q1126 q1128 qs12 hi_ ⟨_, rfl, rfl⟩ [vI x14] rfl rfl (Nat.le_of_ble_eq_true rfl) (by decide) dX1_leave_57 (k_X1_findLeave () _ hc_) ?_
        refine j_aload (pc := 60) hX dX1_leave_60 rfl ?_
        refine j_getIN (pc := 62) hX kX8 (k := 2) (Nat.le_of_ble_eq_true rfl) q1229 rfl dX1_leave_62 hf (fun x16 hx_ hf => ?_)
        obtain ⟨hz_, hf⟩ := zRzX_e hf
        exact j_zreturn (pc := 65) hX hQ hz_ (by cases hf; rfl) dX1_leave_65
    have hf := hm_
    refine j_icmp_ge (pc := 18) hX 25 dX1_leave_18 rfl hf (fun h_ hf => ?_) (fun h_ hf => ?_)
    · refine j_iconst (pc := 25) hX (0 : Int32) dX1_leave_25 rfl ?_
      refine j_fg [1] [some (vA a0), none, some (vI a2), some (vA x2), none] rfl ?_
      cases hf
      exact kj18
    · refine j_iconst (pc := 21) hX (1 : Int32) dX1_leave_21 rfl ?_
      refine j_goto (pc := 22) hX 26 dX1_leave_22 rfl ?_
      refine j_fg [1] [some (vA a0), none, some (vI a2), some (vA x2), none] rfl ?_
      cases hf
      exact kj18
def f_X1_leaveLeft (n : Nat) (a0 : Option Nat) (a1 : Int32) (a2 : Int32) (w : zWd) : Option ((String ⊕ Int32) × zWd) :=
  zBX (f_X1_at n a1 (6 : Int32) w) fun x2 w1 =>
  zB2 (zNew w1 4 (.inr (6, df_X7))) fun x3 w4 =>
  (zV (decide (x3 ≠ none)) (f_X7_init n x3 a0 a1 w4)).bind fun w5 =>
  zBX (f_X1_at n a2 (720 : Int32) w5) fun x7 w6 =>
  zB2 (zV (isC w6 6 x3) (f_X7_upTo n x3 x7 w6)) fun x9 w8 =>
  some (.inr x9, w8)
theorem mt_X1_leaveLeft : zMt yX1_leaveLeft cX1_leaveLeft 3 (some .int) 2 := ⟨q1243, q66, ⟨by decide, by decide⟩, by decide +kernel, by decide⟩
set_option maxHeartbeats 4000000 in
theorem k_X1_leaveLeft {l : Launch} {n : Nat} {a0 : Option Nat} {a1 : Int32} {a2 : Int32} {w : zWd} (r : String ⊕ Int32) (w9 : zWd) (hf : f_X1_leaveLeft n a0 a1 a2 w = some (r, w9)) : zCt l yX1_leaveLeft cX1_leaveLeft 3 (some .int) 7 [vA a0, vI a1, vI a2] w (zXI r w9) := by
  refine zCt_of (lv := [some (vA a0), some (vI a1), some (vI a2)]) (by decide +kernel) 0 rfl rfl ?_
  intro X hX hI hN hQ
  have hX : zGd X RX1 cX1_leaveLeft 3 (some .int) 7 := hX
  unfold f_X1_leaveLeft at hf
  refine j_iload_n (pc := 0) hX dX1_leaveLeft_0 rfl ?_
  refine j_bipush (pc := 1) hX (6 : Int32) dX1_leaveLeft_1 (by decide +kernel) ?_
  obtain ⟨⟨q_, w1⟩, hc_, hf⟩ := zob hf
  cases q_ with
  | inl E_ =>
    cases hf
    exact j_callSX (pc := 3) hX mt_X1_at q507 q508 [vI a1, vI (6 : Int32)] rfl rfl (Nat.le_of_ble_eq_true rfl) (by decide) dX1_leaveLeft_3 hN hQ (k_X1_at _ _ hc_)
  | inr x2 =>
    refine j_callS (pc := 3) hX mt_X1_at q507 q508 [vI a1, vI (6 : Int32)] rfl rfl (Nat.le_of_ble_eq_true rfl) (by decide) dX1_leaveLeft_3 (k_X1_at _ _ hc_) ?_
    refine j_pop (pc := 6) hX rfl dX1_leaveLeft_6 ?_
    refine j_new (pc := 7) hX kX7 q1130 q1131 q102 df_X7 df_X7_ok dX1_leaveLeft_7 hf (fun x3 w4 hf => ?_)
    refine j_dup (pc := 10) hX rfl dX1_leaveLeft_10 ?_
    refine j_aload_n (pc := 11) hX dX1_leaveLeft_11 rfl ?_
    refine j_iload_n (pc := 12) hX dX1_leaveLeft_12 rfl ?_
    obtain ⟨w5, hc_, hf⟩ := zob hf
    obtain ⟨hi_, hc_⟩ := zV_e hc_
    refine j_callI (pc := 13) hX mt_X7_init q1132 q1133 rfl rfl [vA a0, vI a1] rfl rfl (Nat.le_of_ble_eq_true rfl) (by decide) dX1_leaveLeft_13 (of_decide_eq_true hi_) (k_X7_init () _ hc_) ?_
    refine j_iload_n (pc := 16) hX dX1_leaveLeft_16 rfl ?_
    refine j_sipush (pc := 17) hX (720 : Int32) dX1_leaveLeft_17 (by decide +kernel) ?_
    obtain ⟨⟨q_, w6⟩, hc_, hf⟩ := zob hf
    cases q_ with
    | inl E_ =>
      cases hf
      exact j_callSX (pc := 20) hX mt_X1_at q507 q508 [vI a2, vI (720 : Int32)] rfl rfl (Nat.le_of_ble_eq_true rfl) (by decide) dX1_leaveLeft_20 hN hQ (k_X1_at _ _ hc_)
    | inr x7 =>
      refine j_callS (pc := 20) hX mt_X1_at q507 q508 [vI a2, vI (720 : Int32)] rfl rfl (Nat.le_of_ble_eq_true rfl) (by decide) dX1_leaveLeft_20 (k_X1_at _ _ hc_) ?_
      obtain ⟨x9, w8, hc_, hf⟩ := zB2_e hf
      obtain ⟨hi_, hc_⟩ := zV_e hc_
      refine j_callV (pc := 23) hX (ci := 6) mt_X7_upTo q1149 q1150 q1151 hi_ ⟨_, rfl, rfl⟩ [vI x7] rfl rfl (Nat.le_of_ble_eq_true rfl) (by decide) dX1_leaveLeft_23 (k_X7_upTo _ _ hc_) ?_
      exact j_ireturn (pc := 26) hX hQ (by cases hf; rfl) dX1_leaveLeft_26
def f_X9_init (n : Nat) (a0 : Option Nat) (a1 : Int32) (w : zWd) : Option zWd :=
  (zV (decide (a0 ≠ none)) (f_J3_init n a0 w)).bind fun w1 =>
  (pI w1 8 0 a0 a1).bind fun w2 =>
  some w2
theorem mt_X9_init : zMt yX9_init cX9_init 2 none 1 := ⟨q1255, q104, ⟨by decide, by decide⟩, by decide +kernel, by decide⟩
set_option maxHeartbeats 4000000 in
theorem k_X9_init {l : Launch} {n : Nat} {a0 : Option Nat} {a1 : Int32} {w : zWd} (r : Unit) (w9 : zWd) (hf : f_X9_init n a0 a1 w = some w9) : zCt l yX9_init cX9_init 2 none 2 [vA a0, vI a1] w (.inr (none, w9)) := by
  refine zCt_of (lv := [some (vA a0), some (vI a1)]) (by decide +kernel) 0 rfl rfl ?_
  intro X hX hI hN hQ
  have hX : zGd X RX9 cX9_init 2 none 2 := hX
  unfold f_X9_init at hf
  refine j_aload_n (pc := 0) hX dX9_init_0 rfl ?_
  obtain ⟨w1, hc_, hf⟩ := zob hf
  obtain ⟨hi_, hc_⟩ := zV_e hc_
  refine j_callI (pc := 1) hX mt_J3_init q1256 q170 rfl rfl [] rfl rfl (Nat.le_of_ble_eq_true rfl) (by decide) dX9_init_1 (of_decide_eq_true hi_) (k_J3_init () _ hc_) ?_
  refine j_aload_n (pc := 4) hX dX9_init_4 rfl ?_
  refine j_iload_n (pc := 5) hX dX9_init_5 rfl ?_
  refine j_putIF (pc := 6) hX hI kX9 (k := 0) (Nat.le_of_ble_eq_true rfl) q1257 rfl rfl rfl rfl dX9_init_6 hf (fun w2 hf => ?_)
  exact j_return (pc := 9) hX hQ (by cases hf; rfl) dX9_init_9
def f_X10_init (n : Nat) (a0 : Option Nat) (a1 : Int32) (w : zWd) : Option zWd :=
  (zV (decide (a0 ≠ none)) (f_J3_init n a0 w)).bind fun w1 =>
  (pI w1 9 0 a0 a1).bind fun w2 =>
  some w2
theorem mt_X10_init : zMt yX10_init cX10_init 2 none 1 := ⟨q1265, q105, ⟨by decide, by decide⟩, by decide +kernel, by decide⟩
set_option maxHeartbeats 4000000 in
theorem k_X10_init {l : Launch} {n : Nat} {a0 : Option Nat} {a1 : Int32} {w : zWd} (r : Unit) (w9 : zWd) (hf : f_X10_init n a0 a1 w = some w9) : zCt l yX10_init cX10_init 2 none 2 [vA a0, vI a1] w (.inr (none, w9)) := by
  refine zCt_of (lv := [some (vA a0), some (vI a1)]) (by decide +kernel) 0 rfl rfl ?_
  intro X hX hI hN hQ
  have hX : zGd X RX10 cX10_init 2 none 2 := hX
  unfold f_X10_init at hf
  refine j_aload_n (pc := 0) hX dX10_init_0 rfl ?_
  obtain ⟨w1, hc_, hf⟩ := zob hf
  obtain ⟨hi_, hc_⟩ := zV_e hc_
  refine j_callI (pc := 1) hX mt_J3_init q1266 q170 rfl rfl [] rfl rfl (Nat.le_of_ble_eq_true rfl) (by decide) dX10_init_1 (of_decide_eq_true hi_) (k_J3_init () _ hc_) ?_
  refine j_aload_n (pc := 4) hX dX10_init_4 rfl ?_
  refine j_iload_n (pc := 5) hX dX10_init_5 rfl ?_
  refine j_putIF (pc := 6) hX hI kX10 (k := 0) (Nat.le_of_ble_eq_true rfl) q1267 rfl rfl rfl rfl dX10_init_6 hf (fun w2 hf => ?_)
  exact j_return (pc := 9) hX hQ (by cases hf; rfl) dX10_init_9
def f_X11_init (n : Nat) (a0 : Option Nat) (a1 : Int32) (w : zWd) : Option zWd :=
  (zV (decide (a0 ≠ none)) (f_J3_init n a0 w)).bind fun w1 =>
  (pI w1 10 0 a0 a1).bind fun w2 =>
  some w2
theorem mt_X11_init : zMt yX11_init cX11_init 2 none 1 := ⟨q1276, q106, ⟨by decide, by decide⟩, by decide +kernel, by decide⟩
set_option maxHeartbeats 4000000 in
theorem k_X11_init {l : Launch} {n : Nat} {a0 : Option Nat} {a1 : Int32} {w : zWd} (r : Unit) (w9 : zWd) (hf : f_X11_init n a0 a1 w = some w9) : zCt l yX11_init cX11_init 2 none 2 [vA a0, vI a1] w (.inr (none, w9)) := by
  refine zCt_of (lv := [some (vA a0), some (vI a1)]) (by decide +kernel) 0 rfl rfl ?_
  intro X hX hI hN hQ
  have hX : zGd X RX11 cX11_init 2 none 2 := hX
  unfold f_X11_init at hf
  refine j_aload_n (pc := 0) hX dX11_init_0 rfl ?_
  obtain ⟨w1, hc_, hf⟩ := zob hf
  obtain ⟨hi_, hc_⟩ := zV_e hc_
  refine j_callI (pc := 1) hX mt_J3_init q1277 q170 rfl rfl [] rfl rfl (Nat.le_of_ble_eq_true rfl) (by decide) dX11_init_1 (of_decide_eq_true hi_) (k_J3_init () _ hc_) ?_
  refine j_aload_n (pc := 4) hX dX11_init_4 rfl ?_
  refine j_iload_n (pc := 5) hX dX11_init_5 rfl ?_
  refine j_putIF (pc := 6) hX hI kX11 (k := 0) (Nat.le_of_ble_eq_true rfl) q1278 rfl rfl rfl rfl dX11_init_6 hf (fun w2 hf => ?_)
  exact j_return (pc := 9) hX hQ (by cases hf; rfl) dX11_init_9
def f_X9_what (n : Nat) (a0 : Option Nat) (w : zWd) : Option (Int32 × zWd) :=
  (gI w 8 0 a0).bind fun x1 =>
  some (x1, w)
theorem mt_X9_what : zMt yX9_what cX9_what 1 (some .int) 0 := ⟨q1299, q104, ⟨by decide, by decide⟩, by decide +kernel, by decide⟩
set_option maxHeartbeats 4000000 in
theorem k_X9_what {l : Launch} {n : Nat} {a0 : Option Nat} {w : zWd} (r : Int32) (w9 : zWd) (hf : f_X9_what n a0 w = some (r, w9)) : zCt l yX9_what cX9_what 1 (some .int) 1 [vA a0] w (.inr (some (vI r), w9)) := by
  refine zCt_of (lv := [some (vA a0)]) (by decide +kernel) 0 rfl rfl ?_
  intro X hX hI hN hQ
  have hX : zGd X RX9 cX9_what 1 (some .int) 1 := hX
  unfold f_X9_what at hf
  refine j_aload_n (pc := 0) hX dX9_what_0 rfl ?_
  refine j_getI (pc := 1) hX kX9 (k := 0) (Nat.le_of_ble_eq_true rfl) q1257 (Or.inl rfl) dX9_what_1 hf (fun x1 hx_ hf => ?_)
  exact j_ireturn (pc := 4) hX hQ (by cases hf; rfl) dX9_what_4
def f_X1_takes (n : Nat) (a0 : Option Nat) (w : zWd) : Option (Int32 × zWd) :=
  (iO w 8 a0).bind fun x1 =>
  zB2 (
    if x1 = (0 : Int32) then
      some ((0 : Int32), w)
    else
      (cK w [8] a0).bind fun _ =>
      zB2 (zV (isC w 8 a0) (f_X9_what n a0 w)) fun x3 w2 =>
      if x3 < (4 : Int32) then
        some ((0 : Int32), w2)
      else
        some ((2 : Int32), w2)
    ) fun x4 w5 =>
  some (x4, w5)
theorem mt_X1_takes : zMt yX1_takes cX1_takes 2 (some .int) 1 := ⟨q1295, q66, ⟨by decide, by decide⟩, by decide +kernel, by decide⟩
set_option maxHeartbeats 4000000 in
theorem k_X1_takes {l : Launch} {n : Nat} {a0 : Option Nat} {w : zWd} (r : Int32) (w9 : zWd) (hf : f_X1_takes n a0 w = some (r, w9)) : zCt l yX1_takes cX1_takes 2 (some .int) 2 [vA a0] w (.inr (some (vI r), w9)) := by
  refine zCt_of (lv := [some (vA a0), none]) (by decide +kernel) 1 rfl rfl ?_
  intro X hX hI hN hQ
  have hX : zGd X RX1 cX1_takes 2 (some .int) 2 := hX
  unfold f_X1_takes at hf
  refine j_aload_n (pc := 0) hX dX1_takes_0 rfl ?_
  refine j_inst (pc := 1) hX q1251 8 ⟨_, rfl, rfl⟩ dX1_takes_1 hf (fun x1 hx_ hf => ?_)
  obtain ⟨x4, w5, hm_, hf⟩ := zB2_e hf
  have kj4 : zJ X 25 [none, none] [vI x4] w5 := by
    clear hm_
    exact j_ireturn (pc := 25) hX hQ (by cases hf; rfl) dX1_takes_25
  have hf := hm_
  refine j_if_eq (pc := 4) hX 24 dX1_takes_4 rfl hf (fun h_ hf => ?_) (fun h_ hf => ?_)
  · refine j_iconst (pc := 24) hX (0 : Int32) dX1_takes_24 rfl ?_
    refine j_fg [0] [none, none] rfl ?_
    cases hf
    exact kj4
  · refine j_aload_n (pc := 7) hX dX1_takes_7 rfl ?_
    refine j_cast (pc := 8) hX q1251 [8] (zC1 ⟨_, rfl, Or.inl rfl⟩) dX1_takes_8 hf (fun hf => ?_)
    refine j_astore_n (pc := 11) hX dX1_takes_11 (by decide) [some (vA a0), some (vA a0)] rfl ?_
    refine j_aload_n (pc := 12) hX dX1_takes_12 rfl ?_
    obtain ⟨x3, w2, hc_, hf⟩ := zB2_e hf
    obtain ⟨hi_, hc_⟩ := zV_e hc_
    refine j_callV (pc := 13) hX (ci := 8) mt_X9_what q1296 q1297 q1298 hi_ ⟨_, rfl, rfl⟩ [] rfl rfl (Nat.le_of_ble_eq_true rfl) (by decide) dX1_takes_13 (k_X9_what _ _ hc_) ?_
    refine j_iconst (pc := 16) hX (4 : Int32) dX1_takes_16 rfl ?_
    refine j_icmp_lt (pc := 17) hX 24 dX1_takes_17 rfl hf (fun h_ hf => ?_) (fun h_ hf => ?_)
    · refine j_iconst (pc := 24) hX (0 : Int32) dX1_takes_24 rfl ?_
      refine j_fg [0, 1] [none, none] rfl ?_
      cases hf
      exact kj4
    · refine j_iconst (pc := 20) hX (2 : Int32) dX1_takes_20 rfl ?_
      refine j_goto (pc := 21) hX 25 dX1_takes_21 rfl ?_
      refine j_fg [0, 1] [none, none] rfl ?_
      cases hf
      exact kj4
def f_X1_high_L12b (n : Nat) (c2 : Option Nat) (rec : Int32 → zWd → Option (Int32 × zWd)) (v1 : Int32) (w : zWd) : Option (Int32 × zWd) :=
  zB2 (zV (isC w 22 c2) (f_J26_hasNext n c2 w)) fun x5 w4 =>
  if x5 = (0 : Int32) then
    some (v1, w4)
  else
    zB2 (zV (isC w4 22 c2) (f_J26_next n c2 w4)) fun x7 w6 =>
    (cK w6 [8, 9, 10] x7).bind fun _ =>
    zB2 (f_X1_takes n x7 w6) fun x9 w8 =>
    rec (v1 + ((1 : Int32) - x9)) w8
def f_X1_high_L12 (n : Nat) (c2 : Option Nat) : Nat → Int32 → zWd → Option (Int32 × zWd)
  | 0, _, _ => none
  | k + 1, v1, w => f_X1_high_L12b n c2 (f_X1_high_L12 n c2 k) v1 w
def f_X1_high (n : Nat) (a0 : Option Nat) (w : zWd) : Option (Int32 × zWd) :=
  (gA w 0 6 a0).bind fun x1 =>
  zB2 (zV (isC w 18 x1) (f_J2_iterator n x1 w)) fun x3 w2 =>
  zB2 (f_X1_high_L12 n x3 n (0 : Int32) w2) fun x10 w11 =>
  some (x10, w11)
theorem mt_X1_high : zMt yX1_high cX1_high 4 (some .int) 0 := ⟨q1285, q66, ⟨by decide, by decide⟩, by decide +kernel, by decide⟩
set_option maxHeartbeats 4000000 in
theorem lp_X1_high_L12 {X : zX} (hX : zGd X RX1 cX1_high 4 (some .int) 3) (n : Nat) (c2 : Option Nat) : ∀ (k : Nat) (v1 : Int32) (w : zWd) (o1 : Int32) (w9 : zWd) , f_X1_high_L12 n c2 k v1 w = some (o1, w9) → zJ X 43 [none, some (vI o1), some (vA c2), none] [] w9 → zJ X 12 [none, some (vI v1), some (vA c2), none] [] w := by
  intro k
  induction k with
  | zero => intro v1 w o1 w9 hf _; exact nomatch (show (none : Option (Int32 × zWd)) = _ from hf)
  | succ k ih =>
    intro v1 w o1 w9 hf kx
    have hf : f_X1_high_L12b n c2 (f_X1_high_L12 n c2 k) v1 w = _ := hf
    unfold f_X1_high_L12b at hf
    refine j_aload_n (pc := 12) hX dX1_high_12 rfl ?_
    obtain ⟨x5, w4, hc_, hf⟩ := zB2_e hf
    obtain ⟨hi_, hc_⟩ := zV_e hc_
    refine j_callF (pc := 13) hX (ci := 22) mt_J26_hasNext q1289 q1057 q1055 (by decide +kernel) rfl hi_ ⟨_, rfl, rfl⟩ [] rfl rfl (Nat.le_of_ble_eq_true rfl) (by decide) dX1_high_13 (k_J26_hasNext _ _ hc_) ?_
    refine j_if_eq (pc := 18) hX 43 dX1_high_18 rfl hf (fun h_ hf => ?_) (fun h_ hf => ?_)
    · cases hf
      exact kx
    · refine j_aload_n (pc := 21) hX dX1_high_21 rfl ?_
      obtain ⟨x7, w6, hc_, hf⟩ := zB2_e hf
      obtain ⟨hi_, hc_⟩ := zV_e hc_
      refine j_callF (pc := 22) hX (ci := 22) mt_J26_next q1291 q1066 q1064 (by decide +kernel) rfl hi_ ⟨_, rfl, rfl⟩ [] rfl rfl (Nat.le_of_ble_eq_true rfl) (by decide) dX1_high_22 (k_J26_next _ _ hc_) ?_
      refine j_cast (pc := 27) hX q1292 [8, 9, 10] (zC3 ⟨_, rfl, Or.inr q2788⟩ ⟨_, rfl, Or.inr q2787⟩ ⟨_, rfl, Or.inr q2789⟩) dX1_high_27 hf (fun hf => ?_)
      refine j_astore_n (pc := 30) hX dX1_high_30 (by decide) [none, some (vI v1), some (vA c2), some (vA x7)] rfl ?_
      refine j_iload_n (pc := 31) hX dX1_high_31 rfl ?_
      refine j_iconst (pc := 32) hX (1 : Int32) dX1_high_32 rfl ?_
      refine j_aload_n (pc := 33) hX dX1_high_33 rfl ?_
      obtain ⟨x9, w8, hc_, hf⟩ := zB2_e hf
      refine j_callS (pc := 34) hX mt_X1_takes q1293 q1294 [vA x7] rfl rfl (Nat.le_of_ble_eq_true rfl) (by decide) dX1_high_34 (k_X1_takes _ _ hc_) ?_
      refine j_isub (pc := 37) hX dX1_high_37 ?_
      refine j_iadd (pc := 38) hX dX1_high_38 ?_
      refine j_istore_n (pc := 39) hX dX1_high_39 (by decide) [none, some (vI (v1 + ((1 : Int32) - x9))), some (vA c2), some (vA x7)] rfl ?_
      refine j_goto (pc := 40) hX 12 dX1_high_40 rfl ?_
      refine j_fg [3] [none, some (vI (v1 + ((1 : Int32) - x9))), some (vA c2), none] rfl ?_
      exact ih _ _ _ _ hf kx
set_option maxHeartbeats 4000000 in
theorem k_X1_high {l : Launch} {n : Nat} {a0 : Option Nat} {w : zWd} (r : Int32) (w9 : zWd) (hf : f_X1_high n a0 w = some (r, w9)) : zCt l yX1_high cX1_high 4 (some .int) 3 [vA a0] w (.inr (some (vI r), w9)) := by
  refine zCt_of (lv := [some (vA a0), none, none, none]) (by decide +kernel) 3 rfl rfl ?_
  intro X hX hI hN hQ
  have hX : zGd X RX1 cX1_high 4 (some .int) 3 := hX
  unfold f_X1_high at hf
  refine j_iconst (pc := 0) hX (0 : Int32) dX1_high_0 rfl ?_
  refine j_istore_n (pc := 1) hX dX1_high_1 (by decide) [some (vA a0), some (vI (0 : Int32)), none, none] rfl ?_
  refine j_aload_n (pc := 2) hX dX1_high_2 rfl ?_
  refine j_getA (pc := 3) hX kX1 (k := 6) (Nat.le_of_ble_eq_true rfl) q342 (Or.inl rfl) dX1_high_3 hf (fun x1 hx_ hf => ?_)
  obtain ⟨x3, w2, hc_, hf⟩ := zB2_e hf
  obtain ⟨hi_, hc_⟩ := zV_e hc_
  refine j_callF (pc := 6) hX (ci := 18) mt_J2_iterator q1287 q1028 q1026 (by decide +kernel) rfl hi_ ⟨_, rfl, rfl⟩ [] rfl rfl (Nat.le_of_ble_eq_true rfl) (by decide) dX1_high_6 (k_J2_iterator _ _ hc_) ?_
  refine j_astore_n (pc := 11) hX dX1_high_11 (by decide) [some (vA a0), some (vI (0 : Int32)), some (vA x3), none] rfl ?_
  obtain ⟨x10, w11, hm_, hf⟩ := zB2_e hf
  refine j_fg [0] [none, some (vI (0 : Int32)), some (vA x3), none] rfl ?_
  refine lp_X1_high_L12 hX n _ _ _ _ _ _ hm_ ?_
  refine j_iload_n (pc := 43) hX dX1_high_43 rfl ?_
  exact j_ireturn (pc := 44) hX hQ (by cases hf; rfl) dX1_high_44
def f_X1_word (n : Nat) (a0 : Option Nat) (a1 : Int32) (a2 : Int32) (w : zWd) : Option ((String ⊕ Int32) × zWd) :=
  zBX (f_X1_in n a1 (0 : Int32) (9 : Int32) w) fun x2 w1 =>
  zB2 (zNew w1 1 (.inr (8, df_X9))) fun x3 w4 =>
  (zV (decide (x3 ≠ none)) (f_X9_init n x3 a1 w4)).bind fun w5 =>
  zBX (
    if a1 = (2 : Int32) then
      zB2 (zNew w5 1 (.inr (9, df_X10))) fun x11 w12 =>
      zBX (f_X1_in n a2 (0 : Int32) (5 : Int32) w12) fun x14 w13 =>
      (zV (decide (x11 ≠ none)) (f_X10_init n x11 x14 w13)).bind fun w15 =>
      some (.inr x11, w15)
    else
      if a1 = (3 : Int32) then
        zB2 (zNew w5 1 (.inr (10, df_X11))) fun x6 w7 =>
        zBX (f_X1_in n a2 (-1000000 : Int32) (1000000 : Int32) w7) fun x9 w8 =>
        (zV (decide (x6 ≠ none)) (f_X11_init n x6 x9 w8)).bind fun w10 =>
        some (.inr x6, w10)
      else
        some (.inr x3, w5)
    ) fun x16 w17 =>
  (gA w17 0 6 a0).bind fun x18 =>
  zB2 (zV (isC w17 18 x18) (f_J2_size n x18 w17)) fun x20 w19 =>
  zB2 (
    if (10 : Int32) ≤ x20 then
      some ((0 : Int32), w19)
    else
      zB2 (zV (isC w19 0 a0) (f_X1_high n a0 w19)) fun x22 w21 =>
      zB2 (f_X1_takes n x16 w21) fun x24 w23 =>
      if x22 < x24 then
        some ((0 : Int32), w23)
      else
        some ((1 : Int32), w23)
    ) fun x25 w26 =>
  zBX (f_X1_must n x25 w26) fun _u w27 =>
  (gA w27 0 6 a0).bind fun x28 =>
  zB2 (zV (isC w27 18 x28) (f_J2_add n x28 x16 w27)) fun x30 w29 =>
  (gA w29 0 6 a0).bind fun x31 =>
  zB2 (zV (isC w29 18 x31) (f_J2_size n x31 w29)) fun x33 w32 =>
  some (.inr x33, w32)
theorem mt_X1_word : zMt yX1_word cX1_word 4 (some .int) 2 := ⟨q1250, q66, ⟨by decide, by decide⟩, by decide +kernel, by decide⟩
set_option maxHeartbeats 4000000 in
theorem k_X1_word {l : Launch} {n : Nat} {a0 : Option Nat} {a1 : Int32} {a2 : Int32} {w : zWd} (r : String ⊕ Int32) (w9 : zWd) (hf : f_X1_word n a0 a1 a2 w = some (r, w9)) : zCt l yX1_word cX1_word 4 (some .int) 8 [vA a0, vI a1, vI a2] w (zXI r w9) := by
  refine zCt_of (lv := [some (vA a0), some (vI a1), some (vI a2), none]) (by decide +kernel) 1 rfl rfl ?_
  intro X hX hI hN hQ
  have hX : zGd X RX1 cX1_word 4 (some .int) 8 := hX
  unfold f_X1_word at hf
  refine j_iload_n (pc := 0) hX dX1_word_0 rfl ?_
  refine j_iconst (pc := 1) hX (0 : Int32) dX1_word_1 rfl ?_
  refine j_bipush (pc := 2) hX (9 : Int32) dX1_word_2 (by decide +kernel) ?_
  obtain ⟨⟨q_, w1⟩, hc_, hf⟩ := zob hf
  cases q_ with
  | inl E_ =>
    cases hf
    exact j_callSX (pc := 4) hX mt_X1_in q523 q524 [vI a1, vI (0 : Int32), vI (9 : Int32)] rfl rfl (Nat.le_of_ble_eq_true rfl) (by decide) dX1_word_4 hN hQ (k_X1_in _ _ hc_)
  | inr x2 =>
    refine j_callS (pc := 4) hX mt_X1_in q523 q524 [vI a1, vI (0 : Int32), vI (9 : Int32)] rfl rfl (Nat.le_of_ble_eq_true rfl) (by decide) dX1_word_4 (k_X1_in _ _ hc_) ?_
    refine j_pop (pc := 7) hX rfl dX1_word_7 ?_
    refine j_new (pc := 8) hX kX9 q1251 q1252 q104 df_X9 df_X9_ok dX1_word_8 hf (fun x3 w4 hf => ?_)
    refine j_dup (pc := 11) hX rfl dX1_word_11 ?_
    refine j_iload_n (pc := 12) hX dX1_word_12 rfl ?_
    obtain ⟨w5, hc_, hf⟩ := zob hf
    obtain ⟨hi_, hc_⟩ := zV_e hc_
    refine j_callIN (pc := 13) hX mt_X9_init q1253 q1254 rfl rfl [vI a1] rfl rfl (Nat.le_of_ble_eq_true rfl) (by decide) dX1_word_13 (of_decide_eq_true hi_) (k_X9_init () _ hc_) ?_
    refine j_astore_n (pc := 16) hX dX1_word_16 (by decide) [some (vA a0), some (vI a1), some (vI a2), some (vA x3)] rfl ?_
    refine j_iload_n (pc := 17) hX dX1_word_17 rfl ?_
    refine j_iconst (pc := 18) hX (2 : Int32) dX1_word_18 rfl ?_
    obtain ⟨⟨q_62, w17⟩, hm_62, hq_62⟩ := zob hf
    have kj19 : ∀ (x16 : Option Nat), q_62 = .inr x16 → zJ X 62 [some (vA a0), none, none, some (vA x16)] [] w17 := by
      intro x16 hq2_
      subst hq2_
      have hf := hq_62
      refine j_aload_n (pc := 62) hX dX1_word_62 rfl ?_
      refine j_getA (pc := 63) hX kX1 (k := 6) (Nat.le_of_ble_eq_true rfl) q342 (Or.inl rfl) dX1_word_63 hf (fun x18 hx_ hf => ?_)
      obtain ⟨x20, w19, hc_, hf⟩ := zB2_e hf
      obtain ⟨hi_, hc_⟩ := zV_e hc_
      refine j_callF (pc := 66) hX (ci := 18) mt_J2_size q413 q418 q416 (by decide +kernel) rfl hi_ ⟨_, rfl, rfl⟩ [] rfl rfl (Nat.le_of_ble_eq_true rfl) (by decide) dX1_word_66 (k_J2_size _ _ hc_) ?_
      refine j_bipush (pc := 71) hX (10 : Int32) dX1_word_71 (by decide +kernel) ?_
      obtain ⟨x25, w26, hm_, hf⟩ := zB2_e hf
      have kj73 : zJ X 92 [some (vA a0), none, none, some (vA x16)] [vI x25] w26 := by
        clear hm_
        obtain ⟨⟨q_, w27⟩, hc_, hf⟩ := zob hf
        cases q_ with
        | inl E_ =>
          cases hf
          exact j_callSX (pc := 92) hX mt_X1_must q543 q544 [vI x25] rfl rfl (Nat.le_of_ble_eq_true rfl) (by decide) dX1_word_92 hN hQ (k_X1_must _ _ hc_)
        | inr u_ =>
          refine j_callS (pc := 92) hX mt_X1_must q543 q544 [vI x25] rfl rfl (Nat.le_of_ble_eq_true rfl) (by decide) dX1_word_92 (k_X1_must _ _ hc_) ?_
          refine j_aload_n (pc := 95) hX dX1_word_95 rfl ?_
          refine j_getA (pc := 96) hX kX1 (k := 6) (Nat.le_of_ble_eq_true rfl) q342 (Or.inl rfl) dX1_word_96 hf (fun x28 hx_ hf => ?_)
          refine j_aload_n (pc := 99) hX dX1_word_99 rfl ?_
          obtain ⟨x30, w29, hc_, hf⟩ := zB2_e hf
          obtain ⟨hi_, hc_⟩ := zV_e hc_
          refine j_callF (pc := 100) hX (ci := 18) mt_J2_add q226 q232 q230 (by decide +kernel) rfl hi_ ⟨_, rfl, rfl⟩ [vA x16] rfl rfl (Nat.le_of_ble_eq_true rfl) (by decide) dX1_word_100 (k_J2_add _ _ hc_) ?_
          refine j_pop (pc := 105) hX rfl dX1_word_105 ?_
          refine j_aload_n (pc := 106) hX dX1_word_106 rfl ?_
          refine j_getA (pc := 107) hX kX1 (k := 6) (Nat.le_of_ble_eq_true rfl) q342 (Or.inl rfl) dX1_word_107 hf (fun x31 hx_ hf => ?_)
          obtain ⟨x33, w32, hc_, hf⟩ := zB2_e hf
          obtain ⟨hi_, hc_⟩ := zV_e hc_
          refine j_callF (pc := 110) hX (ci := 18) mt_J2_size q413 q418 q416 (by decide +kernel) rfl hi_ ⟨_, rfl, rfl⟩ [] rfl rfl (Nat.le_of_ble_eq_true rfl) (by decide) dX1_word_110 (k_J2_size _ _ hc_) ?_
          exact j_ireturn (pc := 115) hX hQ (by cases hf; rfl) dX1_word_115
      have hf := hm_
      refine j_icmp_ge (pc := 73) hX 91 dX1_word_73 rfl hf (fun h_ hf => ?_) (fun h_ hf => ?_)
      · refine j_iconst (pc := 91) hX (0 : Int32) dX1_word_91 rfl ?_
        cases hf
        exact kj73
      · refine j_aload_n (pc := 76) hX dX1_word_76 rfl ?_
        obtain ⟨x22, w21, hc_, hf⟩ := zB2_e hf
        obtain ⟨hi_, hc_⟩ := zV_e hc_
        refine j_callV (pc := 77) hX (ci := 0) mt_X1_high q1282 q1284 qs16 hi_ ⟨_, rfl, rfl⟩ [] rfl rfl (Nat.le_of_ble_eq_true rfl) (by decide) dX1_word_77 (k_X1_high _ _ hc_) ?_
        refine j_aload_n (pc := 80) hX dX1_word_80 rfl ?_
        obtain ⟨x24, w23, hc_, hf⟩ := zB2_e hf
        refine j_callS (pc := 81) hX mt_X1_takes q1293 q1294 [vA x16] rfl rfl (Nat.le_of_ble_eq_true rfl) (by decide) dX1_word_81 (k_X1_takes _ _ hc_) ?_
        refine j_icmp_lt (pc := 84) hX 91 dX1_word_84 rfl hf (fun h_ hf => ?_) (fun h_ hf => ?_)
        · refine j_iconst (pc := 91) hX (0 : Int32) dX1_word_91 rfl ?_
          cases hf
          exact kj73
        · refine j_iconst (pc := 87) hX (1 : Int32) dX1_word_87 rfl ?_
          refine j_goto (pc := 88) hX 92 dX1_word_88 rfl ?_
          cases hf
          exact kj73
    have hf := hm_62
    refine j_icmp_ne (pc := 19) hX 39 dX1_word_19 rfl hf (fun h_ hf => ?_) (fun h_ hf => ?_)
    · refine j_iload_n (pc := 39) hX dX1_word_39 rfl ?_
      refine j_iconst (pc := 40) hX (3 : Int32) dX1_word_40 rfl ?_
      refine j_icmp_ne (pc := 41) hX 62 dX1_word_41 rfl hf (fun h_ hf => ?_) (fun h_ hf => ?_)
      · refine j_fg [1, 2] [some (vA a0), none, none, some (vA x3)] rfl ?_
        cases hf
        exact kj19 _ rfl
      · refine j_new (pc := 44) hX kX11 q1271 q1272 q106 df_X11 df_X11_ok dX1_word_44 hf (fun x6 w7 hf => ?_)
        refine j_dup (pc := 47) hX rfl dX1_word_47 ?_
        refine j_iload_n (pc := 48) hX dX1_word_48 rfl ?_
        refine j_ldcw (pc := 49) hX q1273 dX1_word_49 ?_
        refine j_ldcw (pc := 52) hX q542 dX1_word_52 ?_
        obtain ⟨⟨q_, w8⟩, hc_, hf⟩ := zob hf
        cases q_ with
        | inl E_ =>
          cases hf
          have hf := hq_62
          cases hf
          exact j_callSX (pc := 55) hX mt_X1_in q523 q524 [vI a2, vI (-1000000 : Int32), vI (1000000 : Int32)] rfl rfl (Nat.le_of_ble_eq_true rfl) (by decide) dX1_word_55 hN hQ (k_X1_in _ _ hc_)
        | inr x9 =>
          refine j_callS (pc := 55) hX mt_X1_in q523 q524 [vI a2, vI (-1000000 : Int32), vI (1000000 : Int32)] rfl rfl (Nat.le_of_ble_eq_true rfl) (by decide) dX1_word_55 (k_X1_in _ _ hc_) ?_
          obtain ⟨w10, hc_, hf⟩ := zob hf
          obtain ⟨hi_, hc_⟩ := zV_e hc_
          refine j_callIN (pc := 58) hX mt_X11_init q1274 q1275 rfl rfl [vI x9] rfl rfl (Nat.le_of_ble_eq_true rfl) (by decide) dX1_word_58 (of_decide_eq_true hi_) (k_X11_init () _ hc_) ?_
          refine j_astore_n (pc := 61) hX dX1_word_61 (by decide) [some (vA a0), some (vI a1), some (vI a2), some (vA x6)] rfl ?_
          refine j_fg [1, 2] [some (vA a0), none, none, some (vA x6)] rfl ?_
          cases hf
          exact kj19 _ rfl
    · refine j_new (pc := 22) hX kX10 q1261 q1262 q105 df_X10 df_X10_ok dX1_word_22 hf (fun x11 w12 hf => ?_)
      refine j_dup (pc := 25) hX rfl dX1_word_25 ?_
      refine j_iload_n (pc := 26) hX dX1_word_26 rfl ?_
      refine j_iconst (pc := 27) hX (0 : Int32) dX1_word_27 rfl ?_
      refine j_iconst (pc := 28) hX (5 : Int32) dX1_word_28 rfl ?_
      obtain ⟨⟨q_, w13⟩, hc_, hf⟩ := zob hf
      cases q_ with
      | inl E_ =>
        cases hf
        have hf := hq_62
        cases hf
        exact j_callSX (pc := 29) hX mt_X1_in q523 q524 [vI a2, vI (0 : Int32), vI (5 : Int32)] rfl rfl (Nat.le_of_ble_eq_true rfl) (by decide) dX1_word_29 hN hQ (k_X1_in _ _ hc_)
      | inr x14 =>
        refine j_callS (pc := 29) hX mt_X1_in q523 q524 [vI a2, vI (0 : Int32), vI (5 : Int32)] rfl rfl (Nat.le_of_ble_eq_true rfl) (by decide) dX1_word_29 (k_X1_in _ _ hc_) ?_
        obtain ⟨w15, hc_, hf⟩ := zob hf
        obtain ⟨hi_, hc_⟩ := zV_e hc_
        refine j_callIN (pc := 32) hX mt_X10_init q1263 q1264 rfl rfl [vI x14] rfl rfl (Nat.le_of_ble_eq_true rfl) (by decide) dX1_word_32 (of_decide_eq_true hi_) (k_X10_init () _ hc_) ?_
        refine j_astore_n (pc := 35) hX dX1_word_35 (by decide) [some (vA a0), some (vI a1), some (vI a2), some (vA x11)] rfl ?_
        refine j_goto (pc := 36) hX 62 dX1_word_36 rfl ?_
        refine j_fg [1, 2] [some (vA a0), none, none, some (vA x11)] rfl ?_
        cases hf
        exact kj19 _ rfl
def f_J2_toArray (n : Nat) (a0 : Option Nat) (w : zWd) : Option ((Option Nat) × zWd) :=
  (gA w 18 1 a0).bind fun x1 =>
  (gI w 18 2 a0).bind fun x2 =>
  zB2 (f_J8_copyOf n x1 x2 w) fun x4 w3 =>
  some (x4, w3)
theorem mt_J2_toArray : zMt yJ2_toArray cJ2_toArray 1 (some (.array (.object "java/lang/Object"))) 0 := ⟨q1326, q69, ⟨by decide, by decide⟩, by decide +kernel, by decide⟩
set_option maxHeartbeats 4000000 in
theorem k_J2_toArray {l : Launch} {n : Nat} {a0 : Option Nat} {w : zWd} (r : Option Nat) (w9 : zWd) (hf : f_J2_toArray n a0 w = some (r, w9)) : zCt l yJ2_toArray cJ2_toArray 1 (some (.array (.object "java/lang/Object"))) 4 [vA a0] w (.inr (some (vA r), w9)) := by
  refine zCt_of (lv := [some (vA a0)]) (by decide +kernel) 0 rfl rfl ?_
  intro X hX hI hN hQ
  have hX : zGd X RJ2 cJ2_toArray 1 (some (.array (.object "java/lang/Object"))) 4 := hX
  unfold f_J2_toArray at hf
  refine j_aload_n (pc := 0) hX dJ2_toArray_0 rfl ?_
  refine j_getA (pc := 1) hX kJ2 (k := 1) (Nat.le_of_ble_eq_true rfl) q140 (Or.inl rfl) dJ2_toArray_1 hf (fun x1 hx_ hf => ?_)
  refine j_aload_n (pc := 4) hX dJ2_toArray_4 rfl ?_
  refine j_getI (pc := 5) hX kJ2 (k := 2) (Nat.le_of_ble_eq_true rfl) q143 (Or.inl rfl) dJ2_toArray_5 hf (fun x2 hx_ hf => ?_)
  obtain ⟨x4, w3, hc_, hf⟩ := zB2_e hf
  refine j_callS (pc := 8) hX mt_J8_copyOf q257 q258 [vA x1, vI x2] rfl rfl (Nat.le_of_ble_eq_true rfl) (by decide) dJ2_toArray_8 (k_J8_copyOf _ _ hc_) ?_
  exact j_areturn (pc := 11) hX rfl hQ (by cases hf; rfl) dJ2_toArray_11
def f_J2_addAll (n : Nat) (a0 : Option Nat) (a1 : Option Nat) (w : zWd) : Option (Int32 × zWd) :=
  zB2 (zV (isC w 18 a1) (f_J2_toArray n a1 w)) fun x2 w1 =>
  (gI w1 18 0 a0).bind fun x3 =>
  (pI w1 18 0 a0 (x3 + (1 : Int32))).bind fun w4 =>
  (aN w4 x2).bind fun x5 =>
  if x5 = (0 : Int32) then
    zRz (0 : Int32) w4
  else
    (gA w4 18 1 a0).bind fun x6 =>
    (aN w4 x6).bind fun x7 =>
    (gI w4 18 2 a0).bind fun x8 =>
    zB2 (
      if x5 ≤ (x7 - x8) then
        some (x6, w4)
      else
        zB2 (zV (isC w4 18 a0) (f_J2_grow_2 n a0 (x8 + x5) w4)) fun x10 w9 =>
        some (x10, w9)
      ) fun x11 w12 =>
    (zCopy w12 x2 (0 : Int32) x11 x8 x5).bind fun w13 =>
    (pI w13 18 2 a0 (x8 + x5)).bind fun w14 =>
    zRz (1 : Int32) w14
theorem mt_J2_addAll : zMt yJ2_addAll cJ2_addAll 6 (some .boolean) 1 := ⟨q1316, q69, ⟨by decide, by decide⟩, by decide +kernel, by decide⟩
set_option maxHeartbeats 4000000 in
theorem k_J2_addAll {l : Launch} {n : Nat} {a0 : Option Nat} {a1 : Option Nat} {w : zWd} (r : Int32) (w9 : zWd) (hf : f_J2_addAll n a0 a1 w = some (r, w9)) : zCt l yJ2_addAll cJ2_addAll 6 (some .boolean) 5 [vA a0, vA a1] w (.inr (some (vI r), w9)) := by
  refine zCt_of (lv := [some (vA a0), some (vA a1), none, none, none, none]) (by decide +kernel) 4 rfl rfl ?_
  intro X hX hI hN hQ
  have hX : zGd X RJ2 cJ2_addAll 6 (some .boolean) 5 := hX
  unfold f_J2_addAll at hf
  refine j_aload_n (pc := 0) hX dJ2_addAll_0 rfl ?_
  obtain ⟨x2, w1, hc_, hf⟩ := zB2_e hf
  obtain ⟨hi_, hc_⟩ := zV_e hc_
  refine j_callF (pc := 1) hX (ci := 18) mt_J2_toArray q1318 q1324 q1322 (by decide +kernel) rfl hi_ ⟨_, rfl, rfl⟩ [] rfl rfl (Nat.le_of_ble_eq_true rfl) (by decide) dJ2_addAll_1 (k_J2_toArray _ _ hc_) ?_
  refine j_astore_n (pc := 6) hX dJ2_addAll_6 (by decide) [some (vA a0), some (vA a1), some (vA x2), none, none, none] rfl ?_
  refine j_aload_n (pc := 7) hX dJ2_addAll_7 rfl ?_
  refine j_dup (pc := 8) hX rfl dJ2_addAll_8 ?_
  refine j_getI (pc := 9) hX kJ2 (k := 0) (Nat.le_of_ble_eq_true rfl) q147 (Or.inr q146) dJ2_addAll_9 hf (fun x3 hx_ hf => ?_)
  refine j_iconst (pc := 12) hX (1 : Int32) dJ2_addAll_12 rfl ?_
  refine j_iadd (pc := 13) hX dJ2_addAll_13 ?_
  refine j_putI (pc := 14) hX kJ2 (k := 0) (Nat.le_of_ble_eq_true rfl) q147 (Or.inr q146) rfl rfl dJ2_addAll_14 hf (fun w4 hf => ?_)
  refine j_aload_n (pc := 17) hX dJ2_addAll_17 rfl ?_
  refine j_alen (pc := 18) hX dJ2_addAll_18 hf (fun x5 hx_ hf => ?_)
  refine j_istore_n (pc := 19) hX dJ2_addAll_19 (by decide) [some (vA a0), some (vA a1), some (vA x2), some (vI x5), none, none] rfl ?_
  refine j_iload_n (pc := 20) hX dJ2_addAll_20 rfl ?_
  refine j_if_ne (pc := 21) hX 26 dJ2_addAll_21 rfl hf (fun h_ hf => ?_) (fun h_ hf => ?_)
  · refine j_iload_n (pc := 26) hX dJ2_addAll_26 rfl ?_
    refine j_aload_n (pc := 27) hX dJ2_addAll_27 rfl ?_
    refine j_getA (pc := 28) hX kJ2 (k := 1) (Nat.le_of_ble_eq_true rfl) q140 (Or.inl rfl) dJ2_addAll_28 hf (fun x6 hx_ hf => ?_)
    refine j_dup (pc := 31) hX rfl dJ2_addAll_31 ?_
    refine j_astore (pc := 32) hX dJ2_addAll_32 (by decide) [some (vA a0), some (vA a1), some (vA x2), some (vI x5), some (vA x6), none] rfl ?_
    refine j_alen (pc := 34) hX dJ2_addAll_34 hf (fun x7 hx_ hf => ?_)
    refine j_aload_n (pc := 35) hX dJ2_addAll_35 rfl ?_
    refine j_getI (pc := 36) hX kJ2 (k := 2) (Nat.le_of_ble_eq_true rfl) q143 (Or.inl rfl) dJ2_addAll_36 hf (fun x8 hx_ hf => ?_)
    refine j_dup (pc := 39) hX rfl dJ2_addAll_39 ?_
    refine j_istore (pc := 40) hX dJ2_addAll_40 (by decide) [some (vA a0), some (vA a1), some (vA x2), some (vI x5), some (vA x6), some (vI x8)] rfl ?_
    refine j_isub (pc := 42) hX dJ2_addAll_42 ?_
    obtain ⟨x11, w12, hm_, hf⟩ := zB2_e hf
    have kj43 : zJ X 56 [some (vA a0), none, some (vA x2), some (vI x5), some (vA x11), some (vI x8)] [] w12 := by
      clear hm_
      refine j_aload_n (pc := 56) hX dJ2_addAll_56 rfl ?_
      refine j_iconst (pc := 57) hX (0 : Int32) dJ2_addAll_57 rfl ?_
      refine j_aload (pc := 58) hX dJ2_addAll_58 rfl ?_
      refine j_iload (pc := 60) hX dJ2_addAll_60 rfl ?_
      refine j_iload_n (pc := 62) hX dJ2_addAll_62 rfl ?_
      refine j_copy (pc := 63) hX q1334 q307 q306 q78 (by decide) (Nat.le_of_ble_eq_true rfl) dJ2_addAll_63 hf (fun w13 hf => ?_)
      refine j_aload_n (pc := 66) hX dJ2_addAll_66 rfl ?_
      refine j_iload (pc := 67) hX dJ2_addAll_67 rfl ?_
      refine j_iload_n (pc := 69) hX dJ2_addAll_69 rfl ?_
      refine j_iadd (pc := 70) hX dJ2_addAll_70 ?_
      refine j_putI (pc := 71) hX kJ2 (k := 2) (Nat.le_of_ble_eq_true rfl) q143 (Or.inl rfl) rfl rfl dJ2_addAll_71 hf (fun w14 hf => ?_)
      refine j_iconst (pc := 74) hX (1 : Int32) dJ2_addAll_74 rfl ?_
      obtain ⟨hz_, hf⟩ := zRz_e hf
      exact j_zreturn (pc := 75) hX hQ hz_ (by cases hf; rfl) dJ2_addAll_75
    have hf := hm_
    refine j_icmp_le (pc := 43) hX 56 dJ2_addAll_43 rfl hf (fun h_ hf => ?_) (fun h_ hf => ?_)
    · refine j_fg [1] [some (vA a0), none, some (vA x2), some (vI x5), some (vA x6), some (vI x8)] rfl ?_
      cases hf
      exact kj43
    · refine j_aload_n (pc := 46) hX dJ2_addAll_46 rfl ?_
      refine j_iload (pc := 47) hX dJ2_addAll_47 rfl ?_
      refine j_iload_n (pc := 49) hX dJ2_addAll_49 rfl ?_
      refine j_iadd (pc := 50) hX dJ2_addAll_50 ?_
      obtain ⟨x10, w9, hc_, hf⟩ := zB2_e hf
      obtain ⟨hi_, hc_⟩ := zV_e hc_
      refine j_callV (pc := 51) hX (ci := 18) mt_J2_grow_2 q243 q245 qs2 hi_ ⟨_, rfl, rfl⟩ [vI (x8 + x5)] rfl rfl (Nat.le_of_ble_eq_true rfl) (by decide) dJ2_addAll_51 (k_J2_grow_2 _ _ hc_) ?_
      refine j_astore (pc := 54) hX dJ2_addAll_54 (by decide) [some (vA a0), some (vA a1), some (vA x2), some (vI x5), some (vA x10), some (vI x8)] rfl ?_
      refine j_fg [1] [some (vA a0), none, some (vA x2), some (vI x5), some (vA x10), some (vI x8)] rfl ?_
      cases hf
      exact kj43
  · refine j_iconst (pc := 24) hX (0 : Int32) dJ2_addAll_24 rfl ?_
    obtain ⟨hz_, hf⟩ := zRz_e hf
    exact j_zreturn (pc := 25) hX hQ hz_ (by cases hf; rfl) dJ2_addAll_25
def f_X12_init (n : Nat) (a0 : Option Nat) (a1 : Option Nat) (a2 : Int32) (w : zWd) : Option zWd :=
  if a0 = none then none else
  (pA w 11 0 a0 a1).bind fun w1 =>
  (pI w1 11 1 a0 a2).bind fun w2 =>
  some w2
theorem mt_X12_init : zMt yX12_init cX12_init 3 none 2 := ⟨q1339, q107, ⟨by decide, by decide⟩, by decide +kernel, by decide⟩
set_option maxHeartbeats 4000000 in
theorem k_X12_init {l : Launch} {n : Nat} {a0 : Option Nat} {a1 : Option Nat} {a2 : Int32} {w : zWd} (r : Unit) (w9 : zWd) (hf : f_X12_init n a0 a1 a2 w = some w9) : zCt l yX12_init cX12_init 3 none 1 [vA a0, vA a1, vI a2] w (.inr (none, w9)) := by
  refine zCt_of (lv := [some (vA a0), some (vA a1), some (vI a2)]) (by decide +kernel) 0 rfl rfl ?_
  intro X hX hI hN hQ
  have hX : zGd X RX12 cX12_init 3 none 1 := hX
  unfold f_X12_init at hf
  refine j_aload_n (pc := 0) hX dX12_init_0 rfl ?_
  obtain ⟨hne_, hf⟩ := zGd_e hf
  refine j_objInit (pc := 1) hX (by decide) q1340 q124 q125 (by rw [zCs_eq]; exact Nat.le_of_ble_eq_true rfl) dX12_init_1 hne_ ?_
  refine j_aload_n (pc := 4) hX dX12_init_4 rfl ?_
  refine j_aload_n (pc := 5) hX dX12_init_5 rfl ?_
  refine j_putAF (pc := 6) hX hI kX12 (k := 0) (Nat.le_of_ble_eq_true rfl) q1341 rfl rfl rfl rfl dX12_init_6 hf (fun w1 hf => ?_)
  refine j_aload_n (pc := 9) hX dX12_init_9 rfl ?_
  refine j_iload_n (pc := 10) hX dX12_init_10 rfl ?_
  refine j_putIF (pc := 11) hX hI kX12 (k := 1) (Nat.le_of_ble_eq_true rfl) q1342 rfl rfl rfl rfl dX12_init_11 hf (fun w2 hf => ?_)
  exact j_return (pc := 14) hX hQ (by cases hf; rfl) dX12_init_14
def f_J2_set (n : Nat) (a0 : Option Nat) (a1 : Int32) (a2 : Option Nat) (w : zWd) : Option ((Option Nat) × zWd) :=
  (gI w 18 2 a0).bind fun x1 =>
  zB2 (f_J25_checkIndex n a1 x1 w) fun x3 w2 =>
  zB2 (zV (isC w2 18 a0) (f_J2_elementData n a0 a1 w2)) fun x5 w4 =>
  (gA w4 18 1 a0).bind fun x6 =>
  (sA w4 x6 a1 a2).bind fun w7 =>
  some (x5, w7)
theorem mt_J2_set : zMt yJ2_set cJ2_set 4 (some (.object "java/lang/Object")) 2 := ⟨q1356, q69, ⟨by decide, by decide⟩, by decide +kernel, by decide⟩
set_option maxHeartbeats 4000000 in
theorem k_J2_set {l : Launch} {n : Nat} {a0 : Option Nat} {a1 : Int32} {a2 : Option Nat} {w : zWd} (r : Option Nat) (w9 : zWd) (hf : f_J2_set n a0 a1 a2 w = some (r, w9)) : zCt l yJ2_set cJ2_set 4 (some (.object "java/lang/Object")) 3 [vA a0, vI a1, vA a2] w (.inr (some (vA r), w9)) := by
  refine zCt_of (lv := [some (vA a0), some (vI a1), some (vA a2), none]) (by decide +kernel) 1 rfl rfl ?_
  intro X hX hI hN hQ
  have hX : zGd X RJ2 cJ2_set 4 (some (.object "java/lang/Object")) 3 := hX
  unfold f_J2_set at hf
  refine j_iload_n (pc := 0) hX dJ2_set_0 rfl ?_
  refine j_aload_n (pc := 1) hX dJ2_set_1 rfl ?_
  refine j_getI (pc := 2) hX kJ2 (k := 2) (Nat.le_of_ble_eq_true rfl) q143 (Or.inl rfl) dJ2_set_2 hf (fun x1 hx_ hf => ?_)
  obtain ⟨x3, w2, hc_, hf⟩ := zB2_e hf
  refine j_callS (pc := 5) hX mt_J25_checkIndex q973 q974 [vI a1, vI x1] rfl rfl (Nat.le_of_ble_eq_true rfl) (by decide) dJ2_set_5 (k_J25_checkIndex _ _ hc_) ?_
  refine j_pop (pc := 8) hX rfl dJ2_set_8 ?_
  refine j_aload_n (pc := 9) hX dJ2_set_9 rfl ?_
  refine j_iload_n (pc := 10) hX dJ2_set_10 rfl ?_
  obtain ⟨x5, w4, hc_, hf⟩ := zB2_e hf
  obtain ⟨hi_, hc_⟩ := zV_e hc_
  refine j_callV (pc := 11) hX (ci := 18) mt_J2_elementData q979 q980 q981 hi_ ⟨_, rfl, rfl⟩ [vI a1] rfl rfl (Nat.le_of_ble_eq_true rfl) (by decide) dJ2_set_11 (k_J2_elementData _ _ hc_) ?_
  refine j_astore_n (pc := 14) hX dJ2_set_14 (by decide) [some (vA a0), some (vI a1), some (vA a2), some (vA x5)] rfl ?_
  refine j_aload_n (pc := 15) hX dJ2_set_15 rfl ?_
  refine j_getA (pc := 16) hX kJ2 (k := 1) (Nat.le_of_ble_eq_true rfl) q140 (Or.inl rfl) dJ2_set_16 hf (fun x6 hx_ hf => ?_)
  refine j_iload_n (pc := 19) hX dJ2_set_19 rfl ?_
  refine j_aload_n (pc := 20) hX dJ2_set_20 rfl ?_
  refine j_aastore (pc := 21) hX dJ2_set_21 hf (fun w7 hf => ?_)
  refine j_aload_n (pc := 22) hX dJ2_set_22 rfl ?_
  exact j_areturn (pc := 23) hX rfl hQ (by cases hf; rfl) dJ2_set_23
def f_J27_init (n : Nat) (a0 : Option Nat) (w : zWd) : Option zWd :=
  (zV (decide (a0 ≠ none)) (f_J0_init n a0 w)).bind fun w1 =>
  some w1
theorem mt_J27_init : zMt yJ27_init cJ27_init 1 none 0 := ⟨q1370, q108, ⟨by decide, by decide⟩, by decide +kernel, by decide⟩
set_option maxHeartbeats 4000000 in
theorem k_J27_init {l : Launch} {n : Nat} {a0 : Option Nat} {w : zWd} (r : Unit) (w9 : zWd) (hf : f_J27_init n a0 w = some w9) : zCt l yJ27_init cJ27_init 1 none 2 [vA a0] w (.inr (none, w9)) := by
  refine zCt_of (lv := [some (vA a0)]) (by decide +kernel) 0 rfl rfl ?_
  intro X hX hI hN hQ
  have hX : zGd X RJ27 cJ27_init 1 none 2 := hX
  unfold f_J27_init at hf
  refine j_aload_n (pc := 0) hX dJ27_init_0 rfl ?_
  obtain ⟨w1, hc_, hf⟩ := zob hf
  obtain ⟨hi_, hc_⟩ := zV_e hc_
  refine j_callI (pc := 1) hX mt_J0_init q1371 q135 rfl rfl [] rfl rfl (Nat.le_of_ble_eq_true rfl) (by decide) dJ27_init_1 (of_decide_eq_true hi_) (k_J0_init () _ hc_) ?_
  exact j_return (pc := 4) hX hQ (by cases hf; rfl) dJ27_init_4
def f_J28_init_2 (n : Nat) (a0 : Option Nat) (a1 : Int32) (a2 : Option Nat) (w : zWd) : Option zWd :=
  (zV (decide (a0 ≠ none)) (f_J27_init n a0 w)).bind fun w1 =>
  if (1 : Int32) ≤ a1 then
    zB2 (nA_ w1 a1) fun x2 w3 =>
    (pA w3 23 0 a0 x2).bind fun w4 =>
    (pA w4 23 2 a0 a2).bind fun w5 =>
    some w5
  else
    none
theorem mt_J28_init_2 : zMt yJ28_init_2 cJ28_init_2 3 none 2 := ⟨q1367, q109, ⟨by decide, by decide⟩, by decide +kernel, by decide⟩
set_option maxHeartbeats 4000000 in
theorem k_J28_init_2 {l : Launch} {n : Nat} {a0 : Option Nat} {a1 : Int32} {a2 : Option Nat} {w : zWd} (r : Unit) (w9 : zWd) (hf : f_J28_init_2 n a0 a1 a2 w = some w9) : zCt l yJ28_init_2 cJ28_init_2 3 none 3 [vA a0, vI a1, vA a2] w (.inr (none, w9)) := by
  refine zCt_of (lv := [some (vA a0), some (vI a1), some (vA a2)]) (by decide +kernel) 0 rfl rfl ?_
  intro X hX hI hN hQ
  have hX : zGd X RJ28 cJ28_init_2 3 none 3 := hX
  unfold f_J28_init_2 at hf
  refine j_aload_n (pc := 0) hX dJ28_init_2_0 rfl ?_
  obtain ⟨w1, hc_, hf⟩ := zob hf
  obtain ⟨hi_, hc_⟩ := zV_e hc_
  refine j_callI (pc := 1) hX mt_J27_init q1368 q1369 rfl rfl [] rfl rfl (Nat.le_of_ble_eq_true rfl) (by decide) dJ28_init_2_1 (of_decide_eq_true hi_) (k_J27_init () _ hc_) ?_
  refine j_iload_n (pc := 4) hX dJ28_init_2_4 rfl ?_
  refine j_iconst (pc := 5) hX (1 : Int32) dJ28_init_2_5 rfl ?_
  refine j_icmp_ge (pc := 6) hX 17 dJ28_init_2_6 rfl hf (fun h_ hf => ?_) (fun h_ hf => ?_)
  · refine j_aload_n (pc := 17) hX dJ28_init_2_17 rfl ?_
    refine j_iload_n (pc := 18) hX dJ28_init_2_18 rfl ?_
    refine j_anewarr (pc := 19) hX q1383 dJ28_init_2_19 hf (fun x2 w3 hf => ?_)
    refine j_putA (pc := 22) hX kJ28 (k := 0) (Nat.le_of_ble_eq_true rfl) q1384 (Or.inl rfl) rfl rfl dJ28_init_2_22 hf (fun w4 hf => ?_)
    refine j_aload_n (pc := 25) hX dJ28_init_2_25 rfl ?_
    refine j_aload_n (pc := 26) hX dJ28_init_2_26 rfl ?_
    refine j_putAF (pc := 27) hX hI kJ28 (k := 2) (Nat.le_of_ble_eq_true rfl) q1386 rfl rfl rfl rfl dJ28_init_2_27 hf (fun w5 hf => ?_)
    exact j_return (pc := 30) hX hQ (by cases hf; rfl) dJ28_init_2_30
  · cases hf
def f_J28_init (n : Nat) (a0 : Option Nat) (w : zWd) : Option zWd :=
  (zV (decide (a0 ≠ none)) (f_J28_init_2 n a0 (11 : Int32) none w)).bind fun w1 =>
  some w1
theorem mt_J28_init : zMt yJ28_init cJ28_init 1 none 0 := ⟨q1364, q109, ⟨by decide, by decide⟩, by decide +kernel, by decide⟩
set_option maxHeartbeats 4000000 in
theorem k_J28_init {l : Launch} {n : Nat} {a0 : Option Nat} {w : zWd} (r : Unit) (w9 : zWd) (hf : f_J28_init n a0 w = some w9) : zCt l yJ28_init cJ28_init 1 none 4 [vA a0] w (.inr (none, w9)) := by
  refine zCt_of (lv := [some (vA a0)]) (by decide +kernel) 0 rfl rfl ?_
  intro X hX hI hN hQ
  have hX : zGd X RJ28 cJ28_init 1 none 4 := hX
  unfold f_J28_init at hf
  refine j_aload_n (pc := 0) hX dJ28_init_0 rfl ?_
  refine j_bipush (pc := 1) hX (11 : Int32) dJ28_init_1 (by decide +kernel) ?_
  refine j_null (pc := 3) hX dJ28_init_3 ?_
  obtain ⟨w1, hc_, hf⟩ := zob hf
  obtain ⟨hi_, hc_⟩ := zV_e hc_
  refine j_callI (pc := 4) hX mt_J28_init_2 q1365 q1366 rfl rfl [vI (11 : Int32), vA none] rfl rfl (Nat.le_of_ble_eq_true rfl) (by decide) dJ28_init_4 (of_decide_eq_true hi_) (k_J28_init_2 () _ hc_) ?_
  exact j_return (pc := 7) hX hQ (by cases hf; rfl) dJ28_init_7
def f_X10_element (n : Nat) (a0 : Option Nat) (w : zWd) : Option (Int32 × zWd) :=
  (gI w 9 0 a0).bind fun x1 =>
  some (x1, w)
theorem mt_X10_element : zMt yX10_element cX10_element 1 (some .int) 0 := ⟨q1409, q105, ⟨by decide, by decide⟩, by decide +kernel, by decide⟩
set_option maxHeartbeats 4000000 in
theorem k_X10_element {l : Launch} {n : Nat} {a0 : Option Nat} {w : zWd} (r : Int32) (w9 : zWd) (hf : f_X10_element n a0 w = some (r, w9)) : zCt l yX10_element cX10_element 1 (some .int) 1 [vA a0] w (.inr (some (vI r), w9)) := by
  refine zCt_of (lv := [some (vA a0)]) (by decide +kernel) 0 rfl rfl ?_
  intro X hX hI hN hQ
  have hX : zGd X RX10 cX10_element 1 (some .int) 1 := hX
  unfold f_X10_element at hf
  refine j_aload_n (pc := 0) hX dX10_element_0 rfl ?_
  refine j_getI (pc := 1) hX kX10 (k := 0) (Nat.le_of_ble_eq_true rfl) q1267 (Or.inl rfl) dX10_element_1 hf (fun x1 hx_ hf => ?_)
  exact j_ireturn (pc := 4) hX hQ (by cases hf; rfl) dX10_element_4
def f_X12_needs_L4b (n : Nat) (c0 : Option Nat) (c1 : Int32) (rec : Int32 → Int32 → zWd → Option (Int32 × zWd)) (v2 : Int32) (v3 : Int32) (w : zWd) : Option (Int32 × zWd) :=
  (gA w 11 0 c0).bind fun x1 =>
  zB2 (zV (isC w 18 x1) (f_J2_size n x1 w)) fun x3 w2 =>
  if x3 ≤ v3 then
    some (v2, w2)
  else
    (gA w2 11 0 c0).bind fun x4 =>
    zB2 (zV (isC w2 18 x4) (f_J2_get n x4 v3 w2)) fun x6 w5 =>
    (iO w5 9 x6).bind fun x7 =>
    zB2 (
      if x7 = (0 : Int32) then
        some ((0 : Int32), w5)
      else
        (cK w5 [9] x6).bind fun _ =>
        zB2 (zV (isC w5 9 x6) (f_X10_element n x6 w5)) fun x9 w8 =>
        if x9 = c1 then
          some ((1 : Int32), w8)
        else
          some ((0 : Int32), w8)
      ) fun x10 w11 =>
    rec (v2 ||| x10) (v3 + (1)) w11
def f_X12_needs_L4 (n : Nat) (c0 : Option Nat) (c1 : Int32) : Nat → Int32 → Int32 → zWd → Option (Int32 × zWd)
  | 0, _, _, _ => none
  | k + 1, v2, v3, w => f_X12_needs_L4b n c0 c1 (f_X12_needs_L4 n c0 c1 k) v2 v3 w
def f_X12_needs (n : Nat) (a0 : Option Nat) (a1 : Int32) (w : zWd) : Option (Int32 × zWd) :=
  zB2 (f_X12_needs_L4 n a0 a1 n (0 : Int32) (0 : Int32) w) fun x12 w13 =>
  zRz x12 w13
theorem mt_X12_needs : zMt yX12_needs cX12_needs 6 (some .boolean) 1 := ⟨q1400, q107, ⟨by decide, by decide⟩, by decide +kernel, by decide⟩
set_option maxHeartbeats 4000000 in
theorem lp_X12_needs_L4 {X : zX} (hX : zGd X RX12 cX12_needs 6 (some .boolean) 4) (n : Nat) (c0 : Option Nat) (c1 : Int32) : ∀ (k : Nat) (v2 : Int32) (v3 : Int32) (w : zWd) (o2 : Int32) (w9 : zWd) , f_X12_needs_L4 n c0 c1 k v2 v3 w = some (o2, w9) → zJ X 67 [some (vA c0), some (vI c1), some (vI o2), none, none, none] [] w9 → zJ X 4 [some (vA c0), some (vI c1), some (vI v2), some (vI v3), none, none] [] w := by
  intro k
  induction k with
  | zero => intro v2 v3 w o2 w9 hf _; exact nomatch (show (none : Option (Int32 × zWd)) = _ from hf)
  | succ k ih =>
    intro v2 v3 w o2 w9 hf kx
    have hf : f_X12_needs_L4b n c0 c1 (f_X12_needs_L4 n c0 c1 k) v2 v3 w = _ := hf
    unfold f_X12_needs_L4b at hf
    refine j_iload_n (pc := 4) hX dX12_needs_4 rfl ?_
    refine j_aload_n (pc := 5) hX dX12_needs_5 rfl ?_
    refine j_getA (pc := 6) hX kX12 (k := 0) (Nat.le_of_ble_eq_true rfl) q1341 (Or.inl rfl) dX12_needs_6 hf (fun x1 hx_ hf => ?_)
    obtain ⟨x3, w2, hc_, hf⟩ := zB2_e hf
    obtain ⟨hi_, hc_⟩ := zV_e hc_
    refine j_callF (pc := 9) hX (ci := 18) mt_J2_size q1402 q418 q416 (by decide +kernel) rfl hi_ ⟨_, rfl, rfl⟩ [] rfl rfl (Nat.le_of_ble_eq_true rfl) (by decide) dX12_needs_9 (k_J2_size _ _ hc_) ?_
    refine j_icmp_ge (pc := 14) hX 67 dX12_needs_14 rfl hf (fun h_ hf => ?_) (fun h_ hf => ?_)
    · refine j_fg [3] [some (vA c0), some (vI c1), some (vI v2), none, none, none] rfl ?_
      cases hf
      exact kx
    · refine j_iload_n (pc := 17) hX dX12_needs_17 rfl ?_
      refine j_aload_n (pc := 18) hX dX12_needs_18 rfl ?_
      refine j_getA (pc := 19) hX kX12 (k := 0) (Nat.le_of_ble_eq_true rfl) q1341 (Or.inl rfl) dX12_needs_19 hf (fun x4 hx_ hf => ?_)
      refine j_iload_n (pc := 22) hX dX12_needs_22 rfl ?_
      obtain ⟨x6, w5, hc_, hf⟩ := zB2_e hf
      obtain ⟨hi_, hc_⟩ := zV_e hc_
      refine j_callF (pc := 23) hX (ci := 18) mt_J2_get q1404 q970 q968 (by decide +kernel) rfl hi_ ⟨_, rfl, rfl⟩ [vI v3] rfl rfl (Nat.le_of_ble_eq_true rfl) (by decide) dX12_needs_23 (k_J2_get _ _ hc_) ?_
      refine j_astore (pc := 28) hX dX12_needs_28 (by decide) [some (vA c0), some (vI c1), some (vI v2), some (vI v3), none, some (vA x6)] rfl ?_
      refine j_aload (pc := 30) hX dX12_needs_30 rfl ?_
      refine j_inst (pc := 32) hX q1405 9 ⟨_, rfl, rfl⟩ dX12_needs_32 hf (fun x7 hx_ hf => ?_)
      obtain ⟨x10, w11, hm_, hf⟩ := zB2_e hf
      have kj35 : zJ X 59 [some (vA c0), some (vI c1), none, some (vI v3), none, none] [vI x10, vI v2] w11 := by
        clear hm_
        refine j_ior (pc := 59) hX dX12_needs_59 ?_
        refine j_istore_n (pc := 60) hX dX12_needs_60 (by decide) [some (vA c0), some (vI c1), some (vI (v2 ||| x10)), some (vI v3), none, none] rfl ?_
        refine j_iinc (pc := 61) hX (1) dX12_needs_61 rfl rfl (by decide) [some (vA c0), some (vI c1), some (vI (v2 ||| x10)), some (vI (v3 + (1))), none, none] rfl ?_
        refine j_goto (pc := 64) hX 4 dX12_needs_64 rfl ?_
        exact ih _ _ _ _ _ hf kx
      have hf := hm_
      refine j_if_eq (pc := 35) hX 58 dX12_needs_35 rfl hf (fun h_ hf => ?_) (fun h_ hf => ?_)
      · refine j_iconst (pc := 58) hX (0 : Int32) dX12_needs_58 rfl ?_
        refine j_fg [2, 5] [some (vA c0), some (vI c1), none, some (vI v3), none, none] rfl ?_
        cases hf
        exact kj35
      · refine j_aload (pc := 38) hX dX12_needs_38 rfl ?_
        refine j_cast (pc := 40) hX q1405 [9] (zC1 ⟨_, rfl, Or.inl rfl⟩) dX12_needs_40 hf (fun hf => ?_)
        refine j_astore (pc := 43) hX dX12_needs_43 (by decide) [some (vA c0), some (vI c1), some (vI v2), some (vI v3), some (vA x6), some (vA x6)] rfl ?_
        refine j_aload (pc := 45) hX dX12_needs_45 rfl ?_
        obtain ⟨x9, w8, hc_, hf⟩ := zB2_e hf
        obtain ⟨hi_, hc_⟩ := zV_e hc_
        refine j_callV (pc := 47) hX (ci := 9) mt_X10_element q1406 q1407 q1408 hi_ ⟨_, rfl, rfl⟩ [] rfl rfl (Nat.le_of_ble_eq_true rfl) (by decide) dX12_needs_47 (k_X10_element _ _ hc_) ?_
        refine j_iload_n (pc := 50) hX dX12_needs_50 rfl ?_
        refine j_icmp_ne (pc := 51) hX 58 dX12_needs_51 rfl hf (fun h_ hf => ?_) (fun h_ hf => ?_)
        · refine j_iconst (pc := 58) hX (0 : Int32) dX12_needs_58 rfl ?_
          refine j_fg [2, 4, 5] [some (vA c0), some (vI c1), none, some (vI v3), none, none] rfl ?_
          cases hf
          exact kj35
        · refine j_iconst (pc := 54) hX (1 : Int32) dX12_needs_54 rfl ?_
          refine j_goto (pc := 55) hX 59 dX12_needs_55 rfl ?_
          refine j_fg [2, 4, 5] [some (vA c0), some (vI c1), none, some (vI v3), none, none] rfl ?_
          cases hf
          exact kj35
set_option maxHeartbeats 4000000 in
theorem k_X12_needs {l : Launch} {n : Nat} {a0 : Option Nat} {a1 : Int32} {w : zWd} (r : Int32) (w9 : zWd) (hf : f_X12_needs n a0 a1 w = some (r, w9)) : zCt l yX12_needs cX12_needs 6 (some .boolean) 4 [vA a0, vI a1] w (.inr (some (vI r), w9)) := by
  refine zCt_of (lv := [some (vA a0), some (vI a1), none, none, none, none]) (by decide +kernel) 4 rfl rfl ?_
  intro X hX hI hN hQ
  have hX : zGd X RX12 cX12_needs 6 (some .boolean) 4 := hX
  unfold f_X12_needs at hf
  refine j_iconst (pc := 0) hX (0 : Int32) dX12_needs_0 rfl ?_
  refine j_istore_n (pc := 1) hX dX12_needs_1 (by decide) [some (vA a0), some (vI a1), some (vI (0 : Int32)), none, none, none] rfl ?_
  refine j_iconst (pc := 2) hX (0 : Int32) dX12_needs_2 rfl ?_
  refine j_istore_n (pc := 3) hX dX12_needs_3 (by decide) [some (vA a0), some (vI a1), some (vI (0 : Int32)), some (vI (0 : Int32)), none, none] rfl ?_
  obtain ⟨x12, w13, hm_, hf⟩ := zB2_e hf
  refine lp_X12_needs_L4 hX n _ _ _ _ _ _ _ _ hm_ ?_
  refine j_iload_n (pc := 67) hX dX12_needs_67 rfl ?_
  obtain ⟨hz_, hf⟩ := zRz_e hf
  exact j_zreturn (pc := 68) hX hQ hz_ (by cases hf; rfl) dX12_needs_68
def f_J28_grow (n : Nat) (a0 : Option Nat) (a1 : Int32) (w : zWd) : Option zWd :=
  (gA w 23 0 a0).bind fun x1 =>
  (aN w x1).bind fun x2 =>
  (
    if (64 : Int32) ≤ x2 then
      some (x2 >>> ((1 : Int32) &&& 31))
    else
      some (x2 + (2 : Int32))
    ).bind fun x3 =>
  zB2 (f_J6_newLength n x2 (a1 - x2) x3 w) fun x5 w4 =>
  (gA w4 23 0 a0).bind fun x6 =>
  zB2 (f_J8_copyOf n x6 x5 w4) fun x8 w7 =>
  (pA w7 23 0 a0 x8).bind fun w9 =>
  some w9
theorem mt_J28_grow : zMt yJ28_grow cJ28_grow 4 none 1 := ⟨q1421, q109, ⟨by decide, by decide⟩, by decide +kernel, by decide⟩
set_option maxHeartbeats 4000000 in
theorem k_J28_grow {l : Launch} {n : Nat} {a0 : Option Nat} {a1 : Int32} {w : zWd} (r : Unit) (w9 : zWd) (hf : f_J28_grow n a0 a1 w = some w9) : zCt l yJ28_grow cJ28_grow 4 none 4 [vA a0, vI a1] w (.inr (none, w9)) := by
  refine zCt_of (lv := [some (vA a0), some (vI a1), none, none]) (by decide +kernel) 2 rfl rfl ?_
  intro X hX hI hN hQ
  have hX : zGd X RJ28 cJ28_grow 4 none 4 := hX
  unfold f_J28_grow at hf
  refine j_aload_n (pc := 0) hX dJ28_grow_0 rfl ?_
  refine j_getA (pc := 1) hX kJ28 (k := 0) (Nat.le_of_ble_eq_true rfl) q1384 (Or.inl rfl) dJ28_grow_1 hf (fun x1 hx_ hf => ?_)
  refine j_alen (pc := 4) hX dJ28_grow_4 hf (fun x2 hx_ hf => ?_)
  refine j_istore_n (pc := 5) hX dJ28_grow_5 (by decide) [some (vA a0), some (vI a1), some (vI x2), none] rfl ?_
  refine j_iload_n (pc := 6) hX dJ28_grow_6 rfl ?_
  refine j_iload_n (pc := 7) hX dJ28_grow_7 rfl ?_
  refine j_iload_n (pc := 8) hX dJ28_grow_8 rfl ?_
  refine j_isub (pc := 9) hX dJ28_grow_9 ?_
  refine j_iload_n (pc := 10) hX dJ28_grow_10 rfl ?_
  refine j_bipush (pc := 11) hX (64 : Int32) dJ28_grow_11 (by decide +kernel) ?_
  obtain ⟨x3, hm_, hf⟩ := zob hf
  have kj13 : zJ X 25 [some (vA a0), none, none, none] [vI x3, vI (a1 - x2), vI x2] w := by
    clear hm_
    obtain ⟨x5, w4, hc_, hf⟩ := zB2_e hf
    refine j_callS (pc := 25) hX mt_J6_newLength q1422 q248 [vI x2, vI (a1 - x2), vI x3] rfl rfl (Nat.le_of_ble_eq_true rfl) (by decide) dJ28_grow_25 (k_J6_newLength _ _ hc_) ?_
    refine j_istore_n (pc := 28) hX dJ28_grow_28 (by decide) [some (vA a0), none, none, some (vI x5)] rfl ?_
    refine j_aload_n (pc := 29) hX dJ28_grow_29 rfl ?_
    refine j_aload_n (pc := 30) hX dJ28_grow_30 rfl ?_
    refine j_getA (pc := 31) hX kJ28 (k := 0) (Nat.le_of_ble_eq_true rfl) q1384 (Or.inl rfl) dJ28_grow_31 hf (fun x6 hx_ hf => ?_)
    refine j_iload_n (pc := 34) hX dJ28_grow_34 rfl ?_
    obtain ⟨x8, w7, hc_, hf⟩ := zB2_e hf
    refine j_callS (pc := 35) hX mt_J8_copyOf q1333 q258 [vA x6, vI x5] rfl rfl (Nat.le_of_ble_eq_true rfl) (by decide) dJ28_grow_35 (k_J8_copyOf _ _ hc_) ?_
    refine j_putA (pc := 38) hX kJ28 (k := 0) (Nat.le_of_ble_eq_true rfl) q1384 (Or.inl rfl) rfl rfl dJ28_grow_38 hf (fun w9 hf => ?_)
    exact j_return (pc := 41) hX hQ (by cases hf; rfl) dJ28_grow_41
  have hf := hm_
  refine j_icmp_ge (pc := 13) hX 22 dJ28_grow_13 rfl hf (fun h_ hf => ?_) (fun h_ hf => ?_)
  · refine j_iload_n (pc := 22) hX dJ28_grow_22 rfl ?_
    refine j_iconst (pc := 23) hX (1 : Int32) dJ28_grow_23 rfl ?_
    refine j_ishr (pc := 24) hX dJ28_grow_24 ?_
    refine j_fg [1, 2] [some (vA a0), none, none, none] rfl ?_
    cases hf
    exact kj13
  · refine j_iload_n (pc := 16) hX dJ28_grow_16 rfl ?_
    refine j_iconst (pc := 17) hX (2 : Int32) dJ28_grow_17 rfl ?_
    refine j_iadd (pc := 18) hX dJ28_grow_18 ?_
    refine j_goto (pc := 19) hX 25 dJ28_grow_19 rfl ?_
    refine j_fg [1, 2] [some (vA a0), none, none, none] rfl ?_
    cases hf
    exact kj13
def f_J28_siftUpUsingComparator_L0b (n : Nat) (c1 : Option Nat) (c2 : Option Nat) (c3 : Option Nat) (rec : Int32 → zWd → Option (Int32 × zWd)) (v0 : Int32) (w : zWd) : Option (Int32 × zWd) :=
  if v0 ≤ (0 : Int32) then
    some (v0, w)
  else
    (aA w c2 (((v0 - (1 : Int32)).toUInt32 >>> ((1 : Int32).toUInt32 &&& Int32.toUInt32 31)).toInt32)).bind fun x1 =>
    zB2 (zV (isC w 15 c3) (f_X16_compare n c3 c1 x1 w)) fun x3 w2 =>
    if x3 < (0 : Int32) then
      (sA w2 c2 v0 x1).bind fun w4 =>
      rec (((v0 - (1 : Int32)).toUInt32 >>> ((1 : Int32).toUInt32 &&& Int32.toUInt32 31)).toInt32) w4
    else
      some (v0, w2)
def f_J28_siftUpUsingComparator_L0 (n : Nat) (c1 : Option Nat) (c2 : Option Nat) (c3 : Option Nat) : Nat → Int32 → zWd → Option (Int32 × zWd)
  | 0, _, _ => none
  | k + 1, v0, w => f_J28_siftUpUsingComparator_L0b n c1 c2 c3 (f_J28_siftUpUsingComparator_L0 n c1 c2 c3 k) v0 w
def f_J28_siftUpUsingComparator (n : Nat) (a0 : Int32) (a1 : Option Nat) (a2 : Option Nat) (a3 : Option Nat) (w : zWd) : Option zWd :=
  zB2 (f_J28_siftUpUsingComparator_L0 n a1 a2 a3 n a0 w) fun x5 w6 =>
  (sA w6 a2 x5 a1).bind fun w7 =>
  some w7
theorem mt_J28_siftUpUsingComparator : zMt yJ28_siftUpUsingComparator cJ28_siftUpUsingComparator 6 none 4 := ⟨q1429, q109, ⟨by decide, by decide⟩, by decide +kernel, by decide⟩
set_option maxHeartbeats 4000000 in
theorem lp_J28_siftUpUsingComparator_L0 {X : zX} (hX : zGd X RJ28 cJ28_siftUpUsingComparator 6 none 3) (n : Nat) (c1 : Option Nat) (c2 : Option Nat) (c3 : Option Nat) : ∀ (k : Nat) (v0 : Int32) (w : zWd) (o0 : Int32) (w9 : zWd) , f_J28_siftUpUsingComparator_L0 n c1 c2 c3 k v0 w = some (o0, w9) → zJ X 43 [some (vI o0), some (vA c1), some (vA c2), some (vA c3), none, none] [] w9 → zJ X 0 [some (vI v0), some (vA c1), some (vA c2), some (vA c3), none, none] [] w := by
  intro k
  induction k with
  | zero => intro v0 w o0 w9 hf _; exact nomatch (show (none : Option (Int32 × zWd)) = _ from hf)
  | succ k ih =>
    intro v0 w o0 w9 hf kx
    have hf : f_J28_siftUpUsingComparator_L0b n c1 c2 c3 (f_J28_siftUpUsingComparator_L0 n c1 c2 c3 k) v0 w = _ := hf
    unfold f_J28_siftUpUsingComparator_L0b at hf
    refine j_iload_n (pc := 0) hX dJ28_siftUpUsingComparator_0 rfl ?_
    refine j_if_le (pc := 1) hX 43 dJ28_siftUpUsingComparator_1 rfl hf (fun h_ hf => ?_) (fun h_ hf => ?_)
    · cases hf
      exact kx
    · refine j_iload_n (pc := 4) hX dJ28_siftUpUsingComparator_4 rfl ?_
      refine j_iconst (pc := 5) hX (1 : Int32) dJ28_siftUpUsingComparator_5 rfl ?_
      refine j_isub (pc := 6) hX dJ28_siftUpUsingComparator_6 ?_
      refine j_iconst (pc := 7) hX (1 : Int32) dJ28_siftUpUsingComparator_7 rfl ?_
      refine j_iushr (pc := 8) hX dJ28_siftUpUsingComparator_8 ?_
      refine j_istore (pc := 9) hX dJ28_siftUpUsingComparator_9 (by decide) [some (vI v0), some (vA c1), some (vA c2), some (vA c3), some (vI (((v0 - (1 : Int32)).toUInt32 >>> ((1 : Int32).toUInt32 &&& Int32.toUInt32 31)).toInt32)), none] rfl ?_
      refine j_aload_n (pc := 11) hX dJ28_siftUpUsingComparator_11 rfl ?_
      refine j_iload (pc := 12) hX dJ28_siftUpUsingComparator_12 rfl ?_
      refine j_aaload (pc := 14) hX dJ28_siftUpUsingComparator_14 hf (fun x1 hx_ hf => ?_)
      refine j_astore (pc := 15) hX dJ28_siftUpUsingComparator_15 (by decide) [some (vI v0), some (vA c1), some (vA c2), some (vA c3), some (vI (((v0 - (1 : Int32)).toUInt32 >>> ((1 : Int32).toUInt32 &&& Int32.toUInt32 31)).toInt32)), some (vA x1)] rfl ?_
      refine j_aload_n (pc := 17) hX dJ28_siftUpUsingComparator_17 rfl ?_
      refine j_aload_n (pc := 18) hX dJ28_siftUpUsingComparator_18 rfl ?_
      refine j_aload (pc := 19) hX dJ28_siftUpUsingComparator_19 rfl ?_
      obtain ⟨x3, w2, hc_, hf⟩ := zB2_e hf
      obtain ⟨hi_, hc_⟩ := zV_e hc_
      refine j_callF (pc := 21) hX (ci := 15) mt_X16_compare q1431 q828 q826 (by decide +kernel) rfl hi_ ⟨_, rfl, rfl⟩ [vA c1, vA x1] rfl rfl (Nat.le_of_ble_eq_true rfl) (by decide) dJ28_siftUpUsingComparator_21 (k_X16_compare _ _ hc_) ?_
      refine j_if_lt (pc := 26) hX 32 dJ28_siftUpUsingComparator_26 rfl hf (fun h_ hf => ?_) (fun h_ hf => ?_)
      · refine j_aload_n (pc := 32) hX dJ28_siftUpUsingComparator_32 rfl ?_
        refine j_iload_n (pc := 33) hX dJ28_siftUpUsingComparator_33 rfl ?_
        refine j_aload (pc := 34) hX dJ28_siftUpUsingComparator_34 rfl ?_
        refine j_aastore (pc := 36) hX dJ28_siftUpUsingComparator_36 hf (fun w4 hf => ?_)
        refine j_iload (pc := 37) hX dJ28_siftUpUsingComparator_37 rfl ?_
        refine j_istore_n (pc := 39) hX dJ28_siftUpUsingComparator_39 (by decide) [some (vI (((v0 - (1 : Int32)).toUInt32 >>> ((1 : Int32).toUInt32 &&& Int32.toUInt32 31)).toInt32)), some (vA c1), some (vA c2), some (vA c3), some (vI (((v0 - (1 : Int32)).toUInt32 >>> ((1 : Int32).toUInt32 &&& Int32.toUInt32 31)).toInt32)), some (vA x1)] rfl ?_
        refine j_goto (pc := 40) hX 0 dJ28_siftUpUsingComparator_40 rfl ?_
        refine j_fg [4, 5] [some (vI (((v0 - (1 : Int32)).toUInt32 >>> ((1 : Int32).toUInt32 &&& Int32.toUInt32 31)).toInt32)), some (vA c1), some (vA c2), some (vA c3), none, none] rfl ?_
        exact ih _ _ _ _ hf kx
      · refine j_goto (pc := 29) hX 43 dJ28_siftUpUsingComparator_29 rfl ?_
        refine j_fg [4, 5] [some (vI v0), some (vA c1), some (vA c2), some (vA c3), none, none] rfl ?_
        cases hf
        exact kx
set_option maxHeartbeats 4000000 in
theorem k_J28_siftUpUsingComparator {l : Launch} {n : Nat} {a0 : Int32} {a1 : Option Nat} {a2 : Option Nat} {a3 : Option Nat} {w : zWd} (r : Unit) (w9 : zWd) (hf : f_J28_siftUpUsingComparator n a0 a1 a2 a3 w = some w9) : zCt l yJ28_siftUpUsingComparator cJ28_siftUpUsingComparator 6 none 3 [vI a0, vA a1, vA a2, vA a3] w (.inr (none, w9)) := by
  refine zCt_of (lv := [some (vI a0), some (vA a1), some (vA a2), some (vA a3), none, none]) (by decide +kernel) 2 rfl rfl ?_
  intro X hX hI hN hQ
  have hX : zGd X RJ28 cJ28_siftUpUsingComparator 6 none 3 := hX
  unfold f_J28_siftUpUsingComparator at hf
  obtain ⟨x5, w6, hm_, hf⟩ := zB2_e hf
  refine lp_J28_siftUpUsingComparator_L0 hX n _ _ _ _ _ _ _ _ hm_ ?_
  refine j_aload_n (pc := 43) hX dJ28_siftUpUsingComparator_43 rfl ?_
  refine j_iload_n (pc := 44) hX dJ28_siftUpUsingComparator_44 rfl ?_
  refine j_aload_n (pc := 45) hX dJ28_siftUpUsingComparator_45 rfl ?_
  refine j_aastore (pc := 46) hX dJ28_siftUpUsingComparator_46 hf (fun w7 hf => ?_)
  exact j_return (pc := 47) hX hQ (by cases hf; rfl) dJ28_siftUpUsingComparator_47
def f_J28_siftUpComparable_L5b (n : Nat) (c2 : Option Nat) (c3 : Option Nat) (rec : Int32 → zWd → Option (Int32 × zWd)) (v0 : Int32) (w : zWd) : Option (Int32 × zWd) :=
  if v0 ≤ (0 : Int32) then
    some (v0, w)
  else
    (aA w c2 (((v0 - (1 : Int32)).toUInt32 >>> ((1 : Int32).toUInt32 &&& Int32.toUInt32 31)).toInt32)).bind fun x1 =>
    zB2 (zV (isC w 20 c3) (f_J10_compareTo n c3 x1 w)) fun x3 w2 =>
    if x3 < (0 : Int32) then
      (sA w2 c2 v0 x1).bind fun w4 =>
      rec (((v0 - (1 : Int32)).toUInt32 >>> ((1 : Int32).toUInt32 &&& Int32.toUInt32 31)).toInt32) w4
    else
      some (v0, w2)
def f_J28_siftUpComparable_L5 (n : Nat) (c2 : Option Nat) (c3 : Option Nat) : Nat → Int32 → zWd → Option (Int32 × zWd)
  | 0, _, _ => none
  | k + 1, v0, w => f_J28_siftUpComparable_L5b n c2 c3 (f_J28_siftUpComparable_L5 n c2 c3 k) v0 w
def f_J28_siftUpComparable (n : Nat) (a0 : Int32) (a1 : Option Nat) (a2 : Option Nat) (w : zWd) : Option zWd :=
  (cK w [20] a1).bind fun _ =>
  zB2 (f_J28_siftUpComparable_L5 n a2 a1 n a0 w) fun x5 w6 =>
  (sA w6 a2 x5 a1).bind fun w7 =>
  some w7
theorem mt_J28_siftUpComparable : zMt yJ28_siftUpComparable cJ28_siftUpComparable 6 none 3 := ⟨q1434, q109, ⟨by decide, by decide⟩, by decide +kernel, by decide⟩
set_option maxHeartbeats 4000000 in
theorem lp_J28_siftUpComparable_L5 {X : zX} (hX : zGd X RJ28 cJ28_siftUpComparable 6 none 4) (n : Nat) (c2 : Option Nat) (c3 : Option Nat) : ∀ (k : Nat) (v0 : Int32) (w : zWd) (o0 : Int32) (w9 : zWd) , f_J28_siftUpComparable_L5 n c2 c3 k v0 w = some (o0, w9) → zJ X 47 [some (vI o0), none, some (vA c2), some (vA c3), none, none] [] w9 → zJ X 5 [some (vI v0), none, some (vA c2), some (vA c3), none, none] [] w := by
  intro k
  induction k with
  | zero => intro v0 w o0 w9 hf _; exact nomatch (show (none : Option (Int32 × zWd)) = _ from hf)
  | succ k ih =>
    intro v0 w o0 w9 hf kx
    have hf : f_J28_siftUpComparable_L5b n c2 c3 (f_J28_siftUpComparable_L5 n c2 c3 k) v0 w = _ := hf
    unfold f_J28_siftUpComparable_L5b at hf
    refine j_iload_n (pc := 5) hX dJ28_siftUpComparable_5 rfl ?_
    refine j_if_le (pc := 6) hX 47 dJ28_siftUpComparable_6 rfl hf (fun h_ hf => ?_) (fun h_ hf => ?_)
    · cases hf
      exact kx
    · refine j_iload_n (pc := 9) hX dJ28_siftUpComparable_9 rfl ?_
      refine j_iconst (pc := 10) hX (1 : Int32) dJ28_siftUpComparable_10 rfl ?_
      refine j_isub (pc := 11) hX dJ28_siftUpComparable_11 ?_
      refine j_iconst (pc := 12) hX (1 : Int32) dJ28_siftUpComparable_12 rfl ?_
      refine j_iushr (pc := 13) hX dJ28_siftUpComparable_13 ?_
      refine j_istore (pc := 14) hX dJ28_siftUpComparable_14 (by decide) [some (vI v0), none, some (vA c2), some (vA c3), some (vI (((v0 - (1 : Int32)).toUInt32 >>> ((1 : Int32).toUInt32 &&& Int32.toUInt32 31)).toInt32)), none] rfl ?_
      refine j_aload_n (pc := 16) hX dJ28_siftUpComparable_16 rfl ?_
      refine j_iload (pc := 17) hX dJ28_siftUpComparable_17 rfl ?_
      refine j_aaload (pc := 19) hX dJ28_siftUpComparable_19 hf (fun x1 hx_ hf => ?_)
      refine j_astore (pc := 20) hX dJ28_siftUpComparable_20 (by decide) [some (vI v0), none, some (vA c2), some (vA c3), some (vI (((v0 - (1 : Int32)).toUInt32 >>> ((1 : Int32).toUInt32 &&& Int32.toUInt32 31)).toInt32)), some (vA x1)] rfl ?_
      refine j_aload_n (pc := 22) hX dJ28_siftUpComparable_22 rfl ?_
      refine j_aload (pc := 23) hX dJ28_siftUpComparable_23 rfl ?_
      obtain ⟨x3, w2, hc_, hf⟩ := zB2_e hf
      obtain ⟨hi_, hc_⟩ := zV_e hc_
      refine j_callF (pc := 25) hX (ci := 20) mt_J10_compareTo q1437 q602 q600 (by decide +kernel) rfl hi_ ⟨_, rfl, rfl⟩ [vA x1] rfl rfl (Nat.le_of_ble_eq_true rfl) (by decide) dJ28_siftUpComparable_25 (k_J10_compareTo _ _ hc_) ?_
      refine j_if_lt (pc := 30) hX 36 dJ28_siftUpComparable_30 rfl hf (fun h_ hf => ?_) (fun h_ hf => ?_)
      · refine j_aload_n (pc := 36) hX dJ28_siftUpComparable_36 rfl ?_
        refine j_iload_n (pc := 37) hX dJ28_siftUpComparable_37 rfl ?_
        refine j_aload (pc := 38) hX dJ28_siftUpComparable_38 rfl ?_
        refine j_aastore (pc := 40) hX dJ28_siftUpComparable_40 hf (fun w4 hf => ?_)
        refine j_iload (pc := 41) hX dJ28_siftUpComparable_41 rfl ?_
        refine j_istore_n (pc := 43) hX dJ28_siftUpComparable_43 (by decide) [some (vI (((v0 - (1 : Int32)).toUInt32 >>> ((1 : Int32).toUInt32 &&& Int32.toUInt32 31)).toInt32)), none, some (vA c2), some (vA c3), some (vI (((v0 - (1 : Int32)).toUInt32 >>> ((1 : Int32).toUInt32 &&& Int32.toUInt32 31)).toInt32)), some (vA x1)] rfl ?_
        refine j_goto (pc := 44) hX 5 dJ28_siftUpComparable_44 rfl ?_
        refine j_fg [4, 5] [some (vI (((v0 - (1 : Int32)).toUInt32 >>> ((1 : Int32).toUInt32 &&& Int32.toUInt32 31)).toInt32)), none, some (vA c2), some (vA c3), none, none] rfl ?_
        exact ih _ _ _ _ hf kx
      · refine j_goto (pc := 33) hX 47 dJ28_siftUpComparable_33 rfl ?_
        refine j_fg [4, 5] [some (vI v0), none, some (vA c2), some (vA c3), none, none] rfl ?_
        cases hf
        exact kx
set_option maxHeartbeats 4000000 in
theorem k_J28_siftUpComparable {l : Launch} {n : Nat} {a0 : Int32} {a1 : Option Nat} {a2 : Option Nat} {w : zWd} (r : Unit) (w9 : zWd) (hf : f_J28_siftUpComparable n a0 a1 a2 w = some w9) : zCt l yJ28_siftUpComparable cJ28_siftUpComparable 6 none 4 [vI a0, vA a1, vA a2] w (.inr (none, w9)) := by
  refine zCt_of (lv := [some (vI a0), some (vA a1), some (vA a2), none, none, none]) (by decide +kernel) 3 rfl rfl ?_
  intro X hX hI hN hQ
  have hX : zGd X RJ28 cJ28_siftUpComparable 6 none 4 := hX
  unfold f_J28_siftUpComparable at hf
  refine j_aload_n (pc := 0) hX dJ28_siftUpComparable_0 rfl ?_
  refine j_cast (pc := 1) hX q1435 [20] (zC1 ⟨_, rfl, Or.inr q599⟩) dJ28_siftUpComparable_1 hf (fun hf => ?_)
  refine j_astore_n (pc := 4) hX dJ28_siftUpComparable_4 (by decide) [some (vI a0), some (vA a1), some (vA a2), some (vA a1), none, none] rfl ?_
  obtain ⟨x5, w6, hm_, hf⟩ := zB2_e hf
  refine j_fg [1] [some (vI a0), none, some (vA a2), some (vA a1), none, none] rfl ?_
  refine lp_J28_siftUpComparable_L5 hX n _ _ _ _ _ _ _ hm_ ?_
  refine j_aload_n (pc := 47) hX dJ28_siftUpComparable_47 rfl ?_
  refine j_iload_n (pc := 48) hX dJ28_siftUpComparable_48 rfl ?_
  refine j_aload_n (pc := 49) hX dJ28_siftUpComparable_49 rfl ?_
  refine j_aastore (pc := 50) hX dJ28_siftUpComparable_50 hf (fun w7 hf => ?_)
  exact j_return (pc := 51) hX hQ (by cases hf; rfl) dJ28_siftUpComparable_51
def f_J28_siftUp (n : Nat) (a0 : Option Nat) (a1 : Int32) (a2 : Option Nat) (w : zWd) : Option zWd :=
  (gA w 23 2 a0).bind fun x1 =>
  (
    if x1 = none then
      (gA w 23 0 a0).bind fun x2 =>
      (f_J28_siftUpComparable n a1 a2 x2 w).bind fun w3 =>
      some w3
    else
      (gA w 23 0 a0).bind fun x4 =>
      (gA w 23 2 a0).bind fun x5 =>
      (f_J28_siftUpUsingComparator n a1 a2 x4 x5 w).bind fun w6 =>
      some w6
    ).bind fun w7 =>
  some w7
theorem mt_J28_siftUp : zMt yJ28_siftUp cJ28_siftUp 3 none 2 := ⟨q1426, q109, ⟨by decide, by decide⟩, by decide +kernel, by decide⟩
set_option maxHeartbeats 4000000 in
theorem k_J28_siftUp {l : Launch} {n : Nat} {a0 : Option Nat} {a1 : Int32} {a2 : Option Nat} {w : zWd} (r : Unit) (w9 : zWd) (hf : f_J28_siftUp n a0 a1 a2 w = some w9) : zCt l yJ28_siftUp cJ28_siftUp 3 none 5 [vA a0, vI a1, vA a2] w (.inr (none, w9)) := by
  refine zCt_of (lv := [some (vA a0), some (vI a1), some (vA a2)]) (by decide +kernel) 0 rfl rfl ?_
  intro X hX hI hN hQ
  have hX : zGd X RJ28 cJ28_siftUp 3 none 5 := hX
  unfold f_J28_siftUp at hf
  refine j_aload_n (pc := 0) hX dJ28_siftUp_0 rfl ?_
  refine j_getA (pc := 1) hX kJ28 (k := 2) (Nat.le_of_ble_eq_true rfl) q1386 (Or.inl rfl) dJ28_siftUp_1 hf (fun x1 hx_ hf => ?_)
  obtain ⟨w7, hm_, hf⟩ := zob hf
  have kj4 : zJ X 32 [none, none, none] [] w7 := by
    clear hm_
    exact j_return (pc := 32) hX hQ (by cases hf; rfl) dJ28_siftUp_32
  have hf := hm_
  refine j_ifnull (pc := 4) hX 23 dJ28_siftUp_4 rfl hf (fun h_ hf => ?_) (fun h_ hf => ?_)
  · refine j_iload_n (pc := 23) hX dJ28_siftUp_23 rfl ?_
    refine j_aload_n (pc := 24) hX dJ28_siftUp_24 rfl ?_
    refine j_aload_n (pc := 25) hX dJ28_siftUp_25 rfl ?_
    refine j_getA (pc := 26) hX kJ28 (k := 0) (Nat.le_of_ble_eq_true rfl) q1384 (Or.inl rfl) dJ28_siftUp_26 hf (fun x2 hx_ hf => ?_)
    obtain ⟨w3, hc_, hf⟩ := zob hf
    refine j_callS (pc := 29) hX mt_J28_siftUpComparable q1432 q1433 [vI a1, vA a2, vA x2] rfl rfl (Nat.le_of_ble_eq_true rfl) (by decide) dJ28_siftUp_29 (k_J28_siftUpComparable () _ hc_) ?_
    refine j_fg [0, 1, 2] [none, none, none] rfl ?_
    cases hf
    exact kj4
  · refine j_iload_n (pc := 7) hX dJ28_siftUp_7 rfl ?_
    refine j_aload_n (pc := 8) hX dJ28_siftUp_8 rfl ?_
    refine j_aload_n (pc := 9) hX dJ28_siftUp_9 rfl ?_
    refine j_getA (pc := 10) hX kJ28 (k := 0) (Nat.le_of_ble_eq_true rfl) q1384 (Or.inl rfl) dJ28_siftUp_10 hf (fun x4 hx_ hf => ?_)
    refine j_aload_n (pc := 13) hX dJ28_siftUp_13 rfl ?_
    refine j_getA (pc := 14) hX kJ28 (k := 2) (Nat.le_of_ble_eq_true rfl) q1386 (Or.inl rfl) dJ28_siftUp_14 hf (fun x5 hx_ hf => ?_)
    obtain ⟨w6, hc_, hf⟩ := zob hf
    refine j_callS (pc := 17) hX mt_J28_siftUpUsingComparator q1427 q1428 [vI a1, vA a2, vA x4, vA x5] rfl rfl (Nat.le_of_ble_eq_true rfl) (by decide) dJ28_siftUp_17 (k_J28_siftUpUsingComparator () _ hc_) ?_
    refine j_goto (pc := 20) hX 32 dJ28_siftUp_20 rfl ?_
    refine j_fg [0, 1, 2] [none, none, none] rfl ?_
    cases hf
    exact kj4
def f_J28_offer (n : Nat) (a0 : Option Nat) (a1 : Option Nat) (w : zWd) : Option (Int32 × zWd) :=
  if a1 = none then
    none
  else
    (gI w 23 3 a0).bind fun x1 =>
    (pI w 23 3 a0 (x1 + (1 : Int32))).bind fun w2 =>
    (gI w2 23 1 a0).bind fun x3 =>
    (gA w2 23 0 a0).bind fun x4 =>
    (aN w2 x4).bind fun x5 =>
    (
      if x3 < x5 then
        some w2
      else
        (zV (isC w2 23 a0) (f_J28_grow n a0 (x3 + (1 : Int32)) w2)).bind fun w6 =>
        some w6
      ).bind fun w7 =>
    (zV (isC w7 23 a0) (f_J28_siftUp n a0 x3 a1 w7)).bind fun w8 =>
    (pI w8 23 1 a0 (x3 + (1 : Int32))).bind fun w9 =>
    zRz (1 : Int32) w9
theorem mt_J28_offer : zMt yJ28_offer cJ28_offer 3 (some .boolean) 1 := ⟨q1417, q109, ⟨by decide, by decide⟩, by decide +kernel, by decide⟩
set_option maxHeartbeats 4000000 in
theorem k_J28_offer {l : Launch} {n : Nat} {a0 : Option Nat} {a1 : Option Nat} {w : zWd} (r : Int32) (w9 : zWd) (hf : f_J28_offer n a0 a1 w = some (r, w9)) : zCt l yJ28_offer cJ28_offer 3 (some .boolean) 6 [vA a0, vA a1] w (.inr (some (vI r), w9)) := by
  refine zCt_of (lv := [some (vA a0), some (vA a1), none]) (by decide +kernel) 1 rfl rfl ?_
  intro X hX hI hN hQ
  have hX : zGd X RJ28 cJ28_offer 3 (some .boolean) 6 := hX
  unfold f_J28_offer at hf
  refine j_aload_n (pc := 0) hX dJ28_offer_0 rfl ?_
  refine j_ifnonnull (pc := 1) hX 12 dJ28_offer_1 rfl hf (fun h_ hf => ?_) (fun h_ hf => ?_)
  · refine j_aload_n (pc := 12) hX dJ28_offer_12 rfl ?_
    refine j_dup (pc := 13) hX rfl dJ28_offer_13 ?_
    refine j_getI (pc := 14) hX kJ28 (k := 3) (Nat.le_of_ble_eq_true rfl) q1387 (Or.inl rfl) dJ28_offer_14 hf (fun x1 hx_ hf => ?_)
    refine j_iconst (pc := 17) hX (1 : Int32) dJ28_offer_17 rfl ?_
    refine j_iadd (pc := 18) hX dJ28_offer_18 ?_
    refine j_putI (pc := 19) hX kJ28 (k := 3) (Nat.le_of_ble_eq_true rfl) q1387 (Or.inl rfl) rfl rfl dJ28_offer_19 hf (fun w2 hf => ?_)
    refine j_aload_n (pc := 22) hX dJ28_offer_22 rfl ?_
    refine j_getI (pc := 23) hX kJ28 (k := 1) (Nat.le_of_ble_eq_true rfl) q1385 (Or.inl rfl) dJ28_offer_23 hf (fun x3 hx_ hf => ?_)
    refine j_istore_n (pc := 26) hX dJ28_offer_26 (by decide) [some (vA a0), some (vA a1), some (vI x3)] rfl ?_
    refine j_iload_n (pc := 27) hX dJ28_offer_27 rfl ?_
    refine j_aload_n (pc := 28) hX dJ28_offer_28 rfl ?_
    refine j_getA (pc := 29) hX kJ28 (k := 0) (Nat.le_of_ble_eq_true rfl) q1384 (Or.inl rfl) dJ28_offer_29 hf (fun x4 hx_ hf => ?_)
    refine j_alen (pc := 32) hX dJ28_offer_32 hf (fun x5 hx_ hf => ?_)
    obtain ⟨w7, hm_, hf⟩ := zob hf
    have kj33 : zJ X 43 [some (vA a0), some (vA a1), some (vI x3)] [] w7 := by
      clear hm_
      refine j_aload_n (pc := 43) hX dJ28_offer_43 rfl ?_
      refine j_iload_n (pc := 44) hX dJ28_offer_44 rfl ?_
      refine j_aload_n (pc := 45) hX dJ28_offer_45 rfl ?_
      obtain ⟨w8, hc_, hf⟩ := zob hf
      obtain ⟨hi_, hc_⟩ := zV_e hc_
      refine j_callV (pc := 46) hX (ci := 23) mt_J28_siftUp q1423 q1425 qs18 hi_ ⟨_, rfl, rfl⟩ [vI x3, vA a1] rfl rfl (Nat.le_of_ble_eq_true rfl) (by decide) dJ28_offer_46 (k_J28_siftUp () _ hc_) ?_
      refine j_aload_n (pc := 49) hX dJ28_offer_49 rfl ?_
      refine j_iload_n (pc := 50) hX dJ28_offer_50 rfl ?_
      refine j_iconst (pc := 51) hX (1 : Int32) dJ28_offer_51 rfl ?_
      refine j_iadd (pc := 52) hX dJ28_offer_52 ?_
      refine j_putI (pc := 53) hX kJ28 (k := 1) (Nat.le_of_ble_eq_true rfl) q1385 (Or.inl rfl) rfl rfl dJ28_offer_53 hf (fun w9 hf => ?_)
      refine j_iconst (pc := 56) hX (1 : Int32) dJ28_offer_56 rfl ?_
      obtain ⟨hz_, hf⟩ := zRz_e hf
      exact j_zreturn (pc := 57) hX hQ hz_ (by cases hf; rfl) dJ28_offer_57
    have hf := hm_
    refine j_icmp_lt (pc := 33) hX 43 dJ28_offer_33 rfl hf (fun h_ hf => ?_) (fun h_ hf => ?_)
    · cases hf
      exact kj33
    · refine j_aload_n (pc := 36) hX dJ28_offer_36 rfl ?_
      refine j_iload_n (pc := 37) hX dJ28_offer_37 rfl ?_
      refine j_iconst (pc := 38) hX (1 : Int32) dJ28_offer_38 rfl ?_
      refine j_iadd (pc := 39) hX dJ28_offer_39 ?_
      obtain ⟨w6, hc_, hf⟩ := zob hf
      obtain ⟨hi_, hc_⟩ := zV_e hc_
      refine j_callV (pc := 40) hX (ci := 23) mt_J28_grow q1418 q1420 qs17 hi_ ⟨_, rfl, rfl⟩ [vI (x3 + (1 : Int32))] rfl rfl (Nat.le_of_ble_eq_true rfl) (by decide) dJ28_offer_40 (k_J28_grow () _ hc_) ?_
      cases hf
      exact kj33
  · cases hf
def f_J28_add (n : Nat) (a0 : Option Nat) (a1 : Option Nat) (w : zWd) : Option (Int32 × zWd) :=
  zB2 (zV (isC w 23 a0) (f_J28_offer n a0 a1 w)) fun x2 w1 =>
  zRz x2 w1
theorem mt_J28_add : zMt yJ28_add cJ28_add 2 (some .boolean) 1 := ⟨q1413, q109, ⟨by decide, by decide⟩, by decide +kernel, by decide⟩
set_option maxHeartbeats 4000000 in
theorem k_J28_add {l : Launch} {n : Nat} {a0 : Option Nat} {a1 : Option Nat} {w : zWd} (r : Int32) (w9 : zWd) (hf : f_J28_add n a0 a1 w = some (r, w9)) : zCt l yJ28_add cJ28_add 2 (some .boolean) 7 [vA a0, vA a1] w (.inr (some (vI r), w9)) := by
  refine zCt_of (lv := [some (vA a0), some (vA a1)]) (by decide +kernel) 0 rfl rfl ?_
  intro X hX hI hN hQ
  have hX : zGd X RJ28 cJ28_add 2 (some .boolean) 7 := hX
  unfold f_J28_add at hf
  refine j_aload_n (pc := 0) hX dJ28_add_0 rfl ?_
  refine j_aload_n (pc := 1) hX dJ28_add_1 rfl ?_
  obtain ⟨x2, w1, hc_, hf⟩ := zB2_e hf
  obtain ⟨hi_, hc_⟩ := zV_e hc_
  refine j_callV (pc := 2) hX (ci := 23) mt_J28_offer q1414 q1415 q1416 hi_ ⟨_, rfl, rfl⟩ [vA a1] rfl rfl (Nat.le_of_ble_eq_true rfl) (by decide) dJ28_add_2 (k_J28_offer _ _ hc_) ?_
  obtain ⟨hz_, hf⟩ := zRz_e hf
  exact j_zreturn (pc := 5) hX hQ hz_ (by cases hf; rfl) dJ28_add_5
def f_J28_size (n : Nat) (a0 : Option Nat) (w : zWd) : Option (Int32 × zWd) :=
  (gI w 23 1 a0).bind fun x1 =>
  some (x1, w)
theorem mt_J28_size : zMt yJ28_size cJ28_size 1 (some .int) 0 := ⟨q1450, q109, ⟨by decide, by decide⟩, by decide +kernel, by decide⟩
set_option maxHeartbeats 4000000 in
theorem k_J28_size {l : Launch} {n : Nat} {a0 : Option Nat} {w : zWd} (r : Int32) (w9 : zWd) (hf : f_J28_size n a0 w = some (r, w9)) : zCt l yJ28_size cJ28_size 1 (some .int) 1 [vA a0] w (.inr (some (vI r), w9)) := by
  refine zCt_of (lv := [some (vA a0)]) (by decide +kernel) 0 rfl rfl ?_
  intro X hX hI hN hQ
  have hX : zGd X RJ28 cJ28_size 1 (some .int) 1 := hX
  unfold f_J28_size at hf
  refine j_aload_n (pc := 0) hX dJ28_size_0 rfl ?_
  refine j_getI (pc := 1) hX kJ28 (k := 1) (Nat.le_of_ble_eq_true rfl) q1385 (Or.inl rfl) dJ28_size_1 hf (fun x1 hx_ hf => ?_)
  exact j_ireturn (pc := 4) hX hQ (by cases hf; rfl) dJ28_size_4
def f_J0_isEmpty (n : Nat) (a0 : Option Nat) (w : zWd) : Option (Int32 × zWd) :=
  zB2 (zV (isC w 23 a0) (f_J28_size n a0 w)) fun x2 w1 =>
  (
    if x2 = (0 : Int32) then
      some (1 : Int32)
    else
      some (0 : Int32)
    ).bind fun x3 =>
  zRz x3 w1
theorem mt_J0_isEmpty : zMt yJ0_isEmpty cJ0_isEmpty 1 (some .boolean) 0 := ⟨q1443, q67, ⟨by decide, by decide⟩, by decide +kernel, by decide⟩
set_option maxHeartbeats 4000000 in
theorem k_J0_isEmpty {l : Launch} {n : Nat} {a0 : Option Nat} {w : zWd} (r : Int32) (w9 : zWd) (hf : f_J0_isEmpty n a0 w = some (r, w9)) : zCt l yJ0_isEmpty cJ0_isEmpty 1 (some .boolean) 2 [vA a0] w (.inr (some (vI r), w9)) := by
  refine zCt_of (lv := [some (vA a0)]) (by decide +kernel) 0 rfl rfl ?_
  intro X hX hI hN hQ
  have hX : zGd X RJ0 cJ0_isEmpty 1 (some .boolean) 2 := hX
  unfold f_J0_isEmpty at hf
  refine j_aload_n (pc := 0) hX dJ0_isEmpty_0 rfl ?_
  obtain ⟨x2, w1, hc_, hf⟩ := zB2_e hf
  obtain ⟨hi_, hc_⟩ := zV_e hc_
  refine j_callVU (pc := 1) hX (ci := 23) (owner := "java/util/AbstractCollection") mt_J28_size q1444 q1449 q1448 q1446 (Or.inr q1445) (by decide) rfl hi_ ⟨_, rfl, rfl⟩ [] rfl rfl (Nat.le_of_ble_eq_true rfl) (by decide) dJ0_isEmpty_1 (k_J28_size _ _ hc_) ?_
  obtain ⟨x3, hm_, hf⟩ := zob hf
  have kj4 : zJ X 12 [none] [vI x3] w1 := by
    clear hm_
    obtain ⟨hz_, hf⟩ := zRz_e hf
    exact j_zreturn (pc := 12) hX hQ hz_ (by cases hf; rfl) dJ0_isEmpty_12
  have hf := hm_
  refine j_if_ne (pc := 4) hX 11 dJ0_isEmpty_4 rfl hf (fun h_ hf => ?_) (fun h_ hf => ?_)
  · refine j_iconst (pc := 11) hX (0 : Int32) dJ0_isEmpty_11 rfl ?_
    refine j_fg [0] [none] rfl ?_
    cases hf
    exact kj4
  · refine j_iconst (pc := 7) hX (1 : Int32) dJ0_isEmpty_7 rfl ?_
    refine j_goto (pc := 8) hX 12 dJ0_isEmpty_8 rfl ?_
    refine j_fg [0] [none] rfl ?_
    cases hf
    exact kj4
def f_J28_siftDownComparable_L11b (n : Nat) (c2 : Option Nat) (c3 : Int32) (c4 : Option Nat) (c5 : Int32) (rec : Int32 → zWd → Option (Int32 × zWd)) (v0 : Int32) (w : zWd) : Option (Int32 × zWd) :=
  if c5 ≤ v0 then
    some (v0, w)
  else
    (aA w c2 ((v0 <<< ((1 : Int32) &&& 31)) + (1 : Int32))).bind fun x1 =>
    zB3 (
      if c3 ≤ (((v0 <<< ((1 : Int32) &&& 31)) + (1 : Int32)) + (1 : Int32)) then
        some (((v0 <<< ((1 : Int32) &&& 31)) + (1 : Int32)), x1, w)
      else
        (cK w [20] x1).bind fun _ =>
        (aA w c2 (((v0 <<< ((1 : Int32) &&& 31)) + (1 : Int32)) + (1 : Int32))).bind fun x2 =>
        zB2 (zV (isC w 20 x1) (f_J10_compareTo n x1 x2 w)) fun x4 w3 =>
        if x4 ≤ (0 : Int32) then
          some (((v0 <<< ((1 : Int32) &&& 31)) + (1 : Int32)), x1, w3)
        else
          (aA w3 c2 (((v0 <<< ((1 : Int32) &&& 31)) + (1 : Int32)) + (1 : Int32))).bind fun x5 =>
          some ((((v0 <<< ((1 : Int32) &&& 31)) + (1 : Int32)) + (1 : Int32)), x5, w3)
      ) fun x6 x7 w8 =>
    zB2 (zV (isC w8 20 c4) (f_J10_compareTo n c4 x7 w8)) fun x10 w9 =>
    if (0 : Int32) < x10 then
      (sA w9 c2 v0 x7).bind fun w11 =>
      rec x6 w11
    else
      some (v0, w9)
def f_J28_siftDownComparable_L11 (n : Nat) (c2 : Option Nat) (c3 : Int32) (c4 : Option Nat) (c5 : Int32) : Nat → Int32 → zWd → Option (Int32 × zWd)
  | 0, _, _ => none
  | k + 1, v0, w => f_J28_siftDownComparable_L11b n c2 c3 c4 c5 (f_J28_siftDownComparable_L11 n c2 c3 c4 c5 k) v0 w
def f_J28_siftDownComparable (n : Nat) (a0 : Int32) (a1 : Option Nat) (a2 : Option Nat) (a3 : Int32) (w : zWd) : Option zWd :=
  (cK w [20] a1).bind fun _ =>
  zB2 (f_J28_siftDownComparable_L11 n a2 a3 a1 ((a3.toUInt32 >>> ((1 : Int32).toUInt32 &&& Int32.toUInt32 31)).toInt32) n a0 w) fun x12 w13 =>
  (sA w13 a2 x12 a1).bind fun w14 =>
  some w14
theorem mt_J28_siftDownComparable : zMt yJ28_siftDownComparable cJ28_siftDownComparable 9 none 4 := ⟨q1457, q109, ⟨by decide, by decide⟩, by decide +kernel, by decide⟩
set_option maxHeartbeats 4000000 in
theorem lp_J28_siftDownComparable_L11 {X : zX} (hX : zGd X RJ28 cJ28_siftDownComparable 9 none 4) (n : Nat) (c2 : Option Nat) (c3 : Int32) (c4 : Option Nat) (c5 : Int32) : ∀ (k : Nat) (v0 : Int32) (w : zWd) (o0 : Int32) (w9 : zWd) , f_J28_siftDownComparable_L11 n c2 c3 c4 c5 k v0 w = some (o0, w9) → zJ X 94 [some (vI o0), none, some (vA c2), some (vI c3), some (vA c4), some (vI c5), none, none, none] [] w9 → zJ X 11 [some (vI v0), none, some (vA c2), some (vI c3), some (vA c4), some (vI c5), none, none, none] [] w := by
  intro k
  induction k with
  | zero => intro v0 w o0 w9 hf _; exact nomatch (show (none : Option (Int32 × zWd)) = _ from hf)
  | succ k ih =>
    intro v0 w o0 w9 hf kx
    have hf : f_J28_siftDownComparable_L11b n c2 c3 c4 c5 (f_J28_siftDownComparable_L11 n c2 c3 c4 c5 k) v0 w = _ := hf
    unfold f_J28_siftDownComparable_L11b at hf
    refine j_iload_n (pc := 11) hX dJ28_siftDownComparable_11 rfl ?_
    refine j_iload (pc := 12) hX dJ28_siftDownComparable_12 rfl ?_
    refine j_icmp_ge (pc := 14) hX 94 dJ28_siftDownComparable_14 rfl hf (fun h_ hf => ?_) (fun h_ hf => ?_)
    · cases hf
      exact kx
    · refine j_iload_n (pc := 17) hX dJ28_siftDownComparable_17 rfl ?_
      refine j_iconst (pc := 18) hX (1 : Int32) dJ28_siftDownComparable_18 rfl ?_
      refine j_ishl (pc := 19) hX dJ28_siftDownComparable_19 ?_
      refine j_iconst (pc := 20) hX (1 : Int32) dJ28_siftDownComparable_20 rfl ?_
      refine j_iadd (pc := 21) hX dJ28_siftDownComparable_21 ?_
      refine j_istore (pc := 22) hX dJ28_siftDownComparable_22 (by decide) [some (vI v0), none, some (vA c2), some (vI c3), some (vA c4), some (vI c5), some (vI ((v0 <<< ((1 : Int32) &&& 31)) + (1 : Int32))), none, none] rfl ?_
      refine j_aload_n (pc := 24) hX dJ28_siftDownComparable_24 rfl ?_
      refine j_iload (pc := 25) hX dJ28_siftDownComparable_25 rfl ?_
      refine j_aaload (pc := 27) hX dJ28_siftDownComparable_27 hf (fun x1 hx_ hf => ?_)
      refine j_astore (pc := 28) hX dJ28_siftDownComparable_28 (by decide) [some (vI v0), none, some (vA c2), some (vI c3), some (vA c4), some (vI c5), some (vI ((v0 <<< ((1 : Int32) &&& 31)) + (1 : Int32))), some (vA x1), none] rfl ?_
      refine j_iload (pc := 30) hX dJ28_siftDownComparable_30 rfl ?_
      refine j_iconst (pc := 32) hX (1 : Int32) dJ28_siftDownComparable_32 rfl ?_
      refine j_iadd (pc := 33) hX dJ28_siftDownComparable_33 ?_
      refine j_istore (pc := 34) hX dJ28_siftDownComparable_34 (by decide) [some (vI v0), none, some (vA c2), some (vI c3), some (vA c4), some (vI c5), some (vI ((v0 <<< ((1 : Int32) &&& 31)) + (1 : Int32))), some (vA x1), some (vI (((v0 <<< ((1 : Int32) &&& 31)) + (1 : Int32)) + (1 : Int32)))] rfl ?_
      refine j_iload (pc := 36) hX dJ28_siftDownComparable_36 rfl ?_
      refine j_iload_n (pc := 38) hX dJ28_siftDownComparable_38 rfl ?_
      obtain ⟨x6, x7, w8, hm_, hf⟩ := zB3_e hf
      have kj39 : zJ X 68 [some (vI v0), none, some (vA c2), some (vI c3), some (vA c4), some (vI c5), some (vI x6), some (vA x7), none] [] w8 := by
        clear hm_
        refine j_aload (pc := 68) hX dJ28_siftDownComparable_68 rfl ?_
        refine j_aload (pc := 70) hX dJ28_siftDownComparable_70 rfl ?_
        obtain ⟨x10, w9, hc_, hf⟩ := zB2_e hf
        obtain ⟨hi_, hc_⟩ := zV_e hc_
        refine j_callF (pc := 72) hX (ci := 20) mt_J10_compareTo q1437 q602 q600 (by decide +kernel) rfl hi_ ⟨_, rfl, rfl⟩ [vA x7] rfl rfl (Nat.le_of_ble_eq_true rfl) (by decide) dJ28_siftDownComparable_72 (k_J10_compareTo _ _ hc_) ?_
        refine j_if_gt (pc := 77) hX 83 dJ28_siftDownComparable_77 rfl hf (fun h_ hf => ?_) (fun h_ hf => ?_)
        · refine j_aload_n (pc := 83) hX dJ28_siftDownComparable_83 rfl ?_
          refine j_iload_n (pc := 84) hX dJ28_siftDownComparable_84 rfl ?_
          refine j_aload (pc := 85) hX dJ28_siftDownComparable_85 rfl ?_
          refine j_aastore (pc := 87) hX dJ28_siftDownComparable_87 hf (fun w11 hf => ?_)
          refine j_iload (pc := 88) hX dJ28_siftDownComparable_88 rfl ?_
          refine j_istore_n (pc := 90) hX dJ28_siftDownComparable_90 (by decide) [some (vI x6), none, some (vA c2), some (vI c3), some (vA c4), some (vI c5), some (vI x6), some (vA x7), none] rfl ?_
          refine j_goto (pc := 91) hX 11 dJ28_siftDownComparable_91 rfl ?_
          refine j_fg [6, 7] [some (vI x6), none, some (vA c2), some (vI c3), some (vA c4), some (vI c5), none, none, none] rfl ?_
          exact ih _ _ _ _ hf kx
        · refine j_goto (pc := 80) hX 94 dJ28_siftDownComparable_80 rfl ?_
          refine j_fg [6, 7] [some (vI v0), none, some (vA c2), some (vI c3), some (vA c4), some (vI c5), none, none, none] rfl ?_
          cases hf
          exact kx
      have hf := hm_
      refine j_icmp_ge (pc := 39) hX 68 dJ28_siftDownComparable_39 rfl hf (fun h_ hf => ?_) (fun h_ hf => ?_)
      · refine j_fg [8] [some (vI v0), none, some (vA c2), some (vI c3), some (vA c4), some (vI c5), some (vI ((v0 <<< ((1 : Int32) &&& 31)) + (1 : Int32))), some (vA x1), none] rfl ?_
        cases hf
        exact kj39
      · refine j_aload (pc := 42) hX dJ28_siftDownComparable_42 rfl ?_
        refine j_cast (pc := 44) hX q1435 [20] (zC1 ⟨_, rfl, Or.inr q599⟩) dJ28_siftDownComparable_44 hf (fun hf => ?_)
        refine j_aload_n (pc := 47) hX dJ28_siftDownComparable_47 rfl ?_
        refine j_iload (pc := 48) hX dJ28_siftDownComparable_48 rfl ?_
        refine j_aaload (pc := 50) hX dJ28_siftDownComparable_50 hf (fun x2 hx_ hf => ?_)
        obtain ⟨x4, w3, hc_, hf⟩ := zB2_e hf
        obtain ⟨hi_, hc_⟩ := zV_e hc_
        refine j_callF (pc := 51) hX (ci := 20) mt_J10_compareTo q1437 q602 q600 (by decide +kernel) rfl hi_ ⟨_, rfl, rfl⟩ [vA x2] rfl rfl (Nat.le_of_ble_eq_true rfl) (by decide) dJ28_siftDownComparable_51 (k_J10_compareTo _ _ hc_) ?_
        refine j_if_le (pc := 56) hX 68 dJ28_siftDownComparable_56 rfl hf (fun h_ hf => ?_) (fun h_ hf => ?_)
        · refine j_fg [8] [some (vI v0), none, some (vA c2), some (vI c3), some (vA c4), some (vI c5), some (vI ((v0 <<< ((1 : Int32) &&& 31)) + (1 : Int32))), some (vA x1), none] rfl ?_
          cases hf
          exact kj39
        · refine j_aload_n (pc := 59) hX dJ28_siftDownComparable_59 rfl ?_
          refine j_iload (pc := 60) hX dJ28_siftDownComparable_60 rfl ?_
          refine j_dup (pc := 62) hX rfl dJ28_siftDownComparable_62 ?_
          refine j_istore (pc := 63) hX dJ28_siftDownComparable_63 (by decide) [some (vI v0), none, some (vA c2), some (vI c3), some (vA c4), some (vI c5), some (vI (((v0 <<< ((1 : Int32) &&& 31)) + (1 : Int32)) + (1 : Int32))), some (vA x1), some (vI (((v0 <<< ((1 : Int32) &&& 31)) + (1 : Int32)) + (1 : Int32)))] rfl ?_
          refine j_aaload (pc := 65) hX dJ28_siftDownComparable_65 hf (fun x5 hx_ hf => ?_)
          refine j_astore (pc := 66) hX dJ28_siftDownComparable_66 (by decide) [some (vI v0), none, some (vA c2), some (vI c3), some (vA c4), some (vI c5), some (vI (((v0 <<< ((1 : Int32) &&& 31)) + (1 : Int32)) + (1 : Int32))), some (vA x5), some (vI (((v0 <<< ((1 : Int32) &&& 31)) + (1 : Int32)) + (1 : Int32)))] rfl ?_
          refine j_fg [8] [some (vI v0), none, some (vA c2), some (vI c3), some (vA c4), some (vI c5), some (vI (((v0 <<< ((1 : Int32) &&& 31)) + (1 : Int32)) + (1 : Int32))), some (vA x5), none] rfl ?_
          cases hf
          exact kj39
set_option maxHeartbeats 4000000 in
theorem k_J28_siftDownComparable {l : Launch} {n : Nat} {a0 : Int32} {a1 : Option Nat} {a2 : Option Nat} {a3 : Int32} {w : zWd} (r : Unit) (w9 : zWd) (hf : f_J28_siftDownComparable n a0 a1 a2 a3 w = some w9) : zCt l yJ28_siftDownComparable cJ28_siftDownComparable 9 none 4 [vI a0, vA a1, vA a2, vI a3] w (.inr (none, w9)) := by
  refine zCt_of (lv := [some (vI a0), some (vA a1), some (vA a2), some (vI a3), none, none, none, none, none]) (by decide +kernel) 5 rfl rfl ?_
  intro X hX hI hN hQ
  have hX : zGd X RJ28 cJ28_siftDownComparable 9 none 4 := hX
  unfold f_J28_siftDownComparable at hf
  refine j_aload_n (pc := 0) hX dJ28_siftDownComparable_0 rfl ?_
  refine j_cast (pc := 1) hX q1435 [20] (zC1 ⟨_, rfl, Or.inr q599⟩) dJ28_siftDownComparable_1 hf (fun hf => ?_)
  refine j_astore (pc := 4) hX dJ28_siftDownComparable_4 (by decide) [some (vI a0), some (vA a1), some (vA a2), some (vI a3), some (vA a1), none, none, none, none] rfl ?_
  refine j_iload_n (pc := 6) hX dJ28_siftDownComparable_6 rfl ?_
  refine j_iconst (pc := 7) hX (1 : Int32) dJ28_siftDownComparable_7 rfl ?_
  refine j_iushr (pc := 8) hX dJ28_siftDownComparable_8 ?_
  refine j_istore (pc := 9) hX dJ28_siftDownComparable_9 (by decide) [some (vI a0), some (vA a1), some (vA a2), some (vI a3), some (vA a1), some (vI ((a3.toUInt32 >>> ((1 : Int32).toUInt32 &&& Int32.toUInt32 31)).toInt32)), none, none, none] rfl ?_
  obtain ⟨x12, w13, hm_, hf⟩ := zB2_e hf
  refine j_fg [1] [some (vI a0), none, some (vA a2), some (vI a3), some (vA a1), some (vI ((a3.toUInt32 >>> ((1 : Int32).toUInt32 &&& Int32.toUInt32 31)).toInt32)), none, none, none] rfl ?_
  refine lp_J28_siftDownComparable_L11 hX n _ _ _ _ _ _ _ _ _ hm_ ?_
  refine j_aload_n (pc := 94) hX dJ28_siftDownComparable_94 rfl ?_
  refine j_iload_n (pc := 95) hX dJ28_siftDownComparable_95 rfl ?_
  refine j_aload (pc := 96) hX dJ28_siftDownComparable_96 rfl ?_
  refine j_aastore (pc := 98) hX dJ28_siftDownComparable_98 hf (fun w14 hf => ?_)
  exact j_return (pc := 99) hX hQ (by cases hf; rfl) dJ28_siftDownComparable_99
def f_J28_siftDownUsingComparator_L5b (n : Nat) (c1 : Option Nat) (c2 : Option Nat) (c3 : Int32) (c4 : Option Nat) (c5 : Int32) (rec : Int32 → zWd → Option (Int32 × zWd)) (v0 : Int32) (w : zWd) : Option (Int32 × zWd) :=
  if c5 ≤ v0 then
    some (v0, w)
  else
    (aA w c2 ((v0 <<< ((1 : Int32) &&& 31)) + (1 : Int32))).bind fun x1 =>
    zB3 (
      if c3 ≤ (((v0 <<< ((1 : Int32) &&& 31)) + (1 : Int32)) + (1 : Int32)) then
        some (((v0 <<< ((1 : Int32) &&& 31)) + (1 : Int32)), x1, w)
      else
        (aA w c2 (((v0 <<< ((1 : Int32) &&& 31)) + (1 : Int32)) + (1 : Int32))).bind fun x2 =>
        zB2 (zV (isC w 15 c4) (f_X16_compare n c4 x1 x2 w)) fun x4 w3 =>
        if x4 ≤ (0 : Int32) then
          some (((v0 <<< ((1 : Int32) &&& 31)) + (1 : Int32)), x1, w3)
        else
          (aA w3 c2 (((v0 <<< ((1 : Int32) &&& 31)) + (1 : Int32)) + (1 : Int32))).bind fun x5 =>
          some ((((v0 <<< ((1 : Int32) &&& 31)) + (1 : Int32)) + (1 : Int32)), x5, w3)
      ) fun x6 x7 w8 =>
    zB2 (zV (isC w8 15 c4) (f_X16_compare n c4 c1 x7 w8)) fun x10 w9 =>
    if (0 : Int32) < x10 then
      (sA w9 c2 v0 x7).bind fun w11 =>
      rec x6 w11
    else
      some (v0, w9)
def f_J28_siftDownUsingComparator_L5 (n : Nat) (c1 : Option Nat) (c2 : Option Nat) (c3 : Int32) (c4 : Option Nat) (c5 : Int32) : Nat → Int32 → zWd → Option (Int32 × zWd)
  | 0, _, _ => none
  | k + 1, v0, w => f_J28_siftDownUsingComparator_L5b n c1 c2 c3 c4 c5 (f_J28_siftDownUsingComparator_L5 n c1 c2 c3 c4 c5 k) v0 w
def f_J28_siftDownUsingComparator (n : Nat) (a0 : Int32) (a1 : Option Nat) (a2 : Option Nat) (a3 : Int32) (a4 : Option Nat) (w : zWd) : Option zWd :=
  zB2 (f_J28_siftDownUsingComparator_L5 n a1 a2 a3 a4 ((a3.toUInt32 >>> ((1 : Int32).toUInt32 &&& Int32.toUInt32 31)).toInt32) n a0 w) fun x12 w13 =>
  (sA w13 a2 x12 a1).bind fun w14 =>
  some w14
theorem mt_J28_siftDownUsingComparator : zMt yJ28_siftDownUsingComparator cJ28_siftDownUsingComparator 9 none 5 := ⟨q1460, q109, ⟨by decide, by decide⟩, by decide +kernel, by decide⟩
set_option maxHeartbeats 4000000 in
theorem lp_J28_siftDownUsingComparator_L5 {X : zX} (hX : zGd X RJ28 cJ28_siftDownUsingComparator 9 none 3) (n : Nat) (c1 : Option Nat) (c2 : Option Nat) (c3 : Int32) (c4 : Option Nat) (c5 : Int32) : ∀ (k : Nat) (v0 : Int32) (w : zWd) (o0 : Int32) (w9 : zWd) , f_J28_siftDownUsingComparator_L5 n c1 c2 c3 c4 c5 k v0 w = some (o0, w9) → zJ X 88 [some (vI o0), some (vA c1), some (vA c2), some (vI c3), some (vA c4), some (vI c5), none, none, none] [] w9 → zJ X 5 [some (vI v0), some (vA c1), some (vA c2), some (vI c3), some (vA c4), some (vI c5), none, none, none] [] w := by
  intro k
  induction k with
  | zero => intro v0 w o0 w9 hf _; exact nomatch (show (none : Option (Int32 × zWd)) = _ from hf)
  | succ k ih =>
    intro v0 w o0 w9 hf kx
    have hf : f_J28_siftDownUsingComparator_L5b n c1 c2 c3 c4 c5 (f_J28_siftDownUsingComparator_L5 n c1 c2 c3 c4 c5 k) v0 w = _ := hf
    unfold f_J28_siftDownUsingComparator_L5b at hf
    refine j_iload_n (pc := 5) hX dJ28_siftDownUsingComparator_5 rfl ?_
    refine j_iload (pc := 6) hX dJ28_siftDownUsingComparator_6 rfl ?_
    refine j_icmp_ge (pc := 8) hX 88 dJ28_siftDownUsingComparator_8 rfl hf (fun h_ hf => ?_) (fun h_ hf => ?_)
    · cases hf
      exact kx
    · refine j_iload_n (pc := 11) hX dJ28_siftDownUsingComparator_11 rfl ?_
      refine j_iconst (pc := 12) hX (1 : Int32) dJ28_siftDownUsingComparator_12 rfl ?_
      refine j_ishl (pc := 13) hX dJ28_siftDownUsingComparator_13 ?_
      refine j_iconst (pc := 14) hX (1 : Int32) dJ28_siftDownUsingComparator_14 rfl ?_
      refine j_iadd (pc := 15) hX dJ28_siftDownUsingComparator_15 ?_
      refine j_istore (pc := 16) hX dJ28_siftDownUsingComparator_16 (by decide) [some (vI v0), some (vA c1), some (vA c2), some (vI c3), some (vA c4), some (vI c5), some (vI ((v0 <<< ((1 : Int32) &&& 31)) + (1 : Int32))), none, none] rfl ?_
      refine j_aload_n (pc := 18) hX dJ28_siftDownUsingComparator_18 rfl ?_
      refine j_iload (pc := 19) hX dJ28_siftDownUsingComparator_19 rfl ?_
      refine j_aaload (pc := 21) hX dJ28_siftDownUsingComparator_21 hf (fun x1 hx_ hf => ?_)
      refine j_astore (pc := 22) hX dJ28_siftDownUsingComparator_22 (by decide) [some (vI v0), some (vA c1), some (vA c2), some (vI c3), some (vA c4), some (vI c5), some (vI ((v0 <<< ((1 : Int32) &&& 31)) + (1 : Int32))), some (vA x1), none] rfl ?_
      refine j_iload (pc := 24) hX dJ28_siftDownUsingComparator_24 rfl ?_
      refine j_iconst (pc := 26) hX (1 : Int32) dJ28_siftDownUsingComparator_26 rfl ?_
      refine j_iadd (pc := 27) hX dJ28_siftDownUsingComparator_27 ?_
      refine j_istore (pc := 28) hX dJ28_siftDownUsingComparator_28 (by decide) [some (vI v0), some (vA c1), some (vA c2), some (vI c3), some (vA c4), some (vI c5), some (vI ((v0 <<< ((1 : Int32) &&& 31)) + (1 : Int32))), some (vA x1), some (vI (((v0 <<< ((1 : Int32) &&& 31)) + (1 : Int32)) + (1 : Int32)))] rfl ?_
      refine j_iload (pc := 30) hX dJ28_siftDownUsingComparator_30 rfl ?_
      refine j_iload_n (pc := 32) hX dJ28_siftDownUsingComparator_32 rfl ?_
      obtain ⟨x6, x7, w8, hm_, hf⟩ := zB3_e hf
      have kj33 : zJ X 61 [some (vI v0), some (vA c1), some (vA c2), some (vI c3), some (vA c4), some (vI c5), some (vI x6), some (vA x7), none] [] w8 := by
        clear hm_
        refine j_aload (pc := 61) hX dJ28_siftDownUsingComparator_61 rfl ?_
        refine j_aload_n (pc := 63) hX dJ28_siftDownUsingComparator_63 rfl ?_
        refine j_aload (pc := 64) hX dJ28_siftDownUsingComparator_64 rfl ?_
        obtain ⟨x10, w9, hc_, hf⟩ := zB2_e hf
        obtain ⟨hi_, hc_⟩ := zV_e hc_
        refine j_callF (pc := 66) hX (ci := 15) mt_X16_compare q1431 q828 q826 (by decide +kernel) rfl hi_ ⟨_, rfl, rfl⟩ [vA c1, vA x7] rfl rfl (Nat.le_of_ble_eq_true rfl) (by decide) dJ28_siftDownUsingComparator_66 (k_X16_compare _ _ hc_) ?_
        refine j_if_gt (pc := 71) hX 77 dJ28_siftDownUsingComparator_71 rfl hf (fun h_ hf => ?_) (fun h_ hf => ?_)
        · refine j_aload_n (pc := 77) hX dJ28_siftDownUsingComparator_77 rfl ?_
          refine j_iload_n (pc := 78) hX dJ28_siftDownUsingComparator_78 rfl ?_
          refine j_aload (pc := 79) hX dJ28_siftDownUsingComparator_79 rfl ?_
          refine j_aastore (pc := 81) hX dJ28_siftDownUsingComparator_81 hf (fun w11 hf => ?_)
          refine j_iload (pc := 82) hX dJ28_siftDownUsingComparator_82 rfl ?_
          refine j_istore_n (pc := 84) hX dJ28_siftDownUsingComparator_84 (by decide) [some (vI x6), some (vA c1), some (vA c2), some (vI c3), some (vA c4), some (vI c5), some (vI x6), some (vA x7), none] rfl ?_
          refine j_goto (pc := 85) hX 5 dJ28_siftDownUsingComparator_85 rfl ?_
          refine j_fg [6, 7] [some (vI x6), some (vA c1), some (vA c2), some (vI c3), some (vA c4), some (vI c5), none, none, none] rfl ?_
          exact ih _ _ _ _ hf kx
        · refine j_goto (pc := 74) hX 88 dJ28_siftDownUsingComparator_74 rfl ?_
          refine j_fg [6, 7] [some (vI v0), some (vA c1), some (vA c2), some (vI c3), some (vA c4), some (vI c5), none, none, none] rfl ?_
          cases hf
          exact kx
      have hf := hm_
      refine j_icmp_ge (pc := 33) hX 61 dJ28_siftDownUsingComparator_33 rfl hf (fun h_ hf => ?_) (fun h_ hf => ?_)
      · refine j_fg [8] [some (vI v0), some (vA c1), some (vA c2), some (vI c3), some (vA c4), some (vI c5), some (vI ((v0 <<< ((1 : Int32) &&& 31)) + (1 : Int32))), some (vA x1), none] rfl ?_
        cases hf
        exact kj33
      · refine j_aload (pc := 36) hX dJ28_siftDownUsingComparator_36 rfl ?_
        refine j_aload (pc := 38) hX dJ28_siftDownUsingComparator_38 rfl ?_
        refine j_aload_n (pc := 40) hX dJ28_siftDownUsingComparator_40 rfl ?_
        refine j_iload (pc := 41) hX dJ28_siftDownUsingComparator_41 rfl ?_
        refine j_aaload (pc := 43) hX dJ28_siftDownUsingComparator_43 hf (fun x2 hx_ hf => ?_)
        obtain ⟨x4, w3, hc_, hf⟩ := zB2_e hf
        obtain ⟨hi_, hc_⟩ := zV_e hc_
        refine j_callF (pc := 44) hX (ci := 15) mt_X16_compare q1431 q828 q826 (by decide +kernel) rfl hi_ ⟨_, rfl, rfl⟩ [vA x1, vA x2] rfl rfl (Nat.le_of_ble_eq_true rfl) (by decide) dJ28_siftDownUsingComparator_44 (k_X16_compare _ _ hc_) ?_
        refine j_if_le (pc := 49) hX 61 dJ28_siftDownUsingComparator_49 rfl hf (fun h_ hf => ?_) (fun h_ hf => ?_)
        · refine j_fg [8] [some (vI v0), some (vA c1), some (vA c2), some (vI c3), some (vA c4), some (vI c5), some (vI ((v0 <<< ((1 : Int32) &&& 31)) + (1 : Int32))), some (vA x1), none] rfl ?_
          cases hf
          exact kj33
        · refine j_aload_n (pc := 52) hX dJ28_siftDownUsingComparator_52 rfl ?_
          refine j_iload (pc := 53) hX dJ28_siftDownUsingComparator_53 rfl ?_
          refine j_dup (pc := 55) hX rfl dJ28_siftDownUsingComparator_55 ?_
          refine j_istore (pc := 56) hX dJ28_siftDownUsingComparator_56 (by decide) [some (vI v0), some (vA c1), some (vA c2), some (vI c3), some (vA c4), some (vI c5), some (vI (((v0 <<< ((1 : Int32) &&& 31)) + (1 : Int32)) + (1 : Int32))), some (vA x1), some (vI (((v0 <<< ((1 : Int32) &&& 31)) + (1 : Int32)) + (1 : Int32)))] rfl ?_
          refine j_aaload (pc := 58) hX dJ28_siftDownUsingComparator_58 hf (fun x5 hx_ hf => ?_)
          refine j_astore (pc := 59) hX dJ28_siftDownUsingComparator_59 (by decide) [some (vI v0), some (vA c1), some (vA c2), some (vI c3), some (vA c4), some (vI c5), some (vI (((v0 <<< ((1 : Int32) &&& 31)) + (1 : Int32)) + (1 : Int32))), some (vA x5), some (vI (((v0 <<< ((1 : Int32) &&& 31)) + (1 : Int32)) + (1 : Int32)))] rfl ?_
          refine j_fg [8] [some (vI v0), some (vA c1), some (vA c2), some (vI c3), some (vA c4), some (vI c5), some (vI (((v0 <<< ((1 : Int32) &&& 31)) + (1 : Int32)) + (1 : Int32))), some (vA x5), none] rfl ?_
          cases hf
          exact kj33
set_option maxHeartbeats 4000000 in
theorem k_J28_siftDownUsingComparator {l : Launch} {n : Nat} {a0 : Int32} {a1 : Option Nat} {a2 : Option Nat} {a3 : Int32} {a4 : Option Nat} {w : zWd} (r : Unit) (w9 : zWd) (hf : f_J28_siftDownUsingComparator n a0 a1 a2 a3 a4 w = some w9) : zCt l yJ28_siftDownUsingComparator cJ28_siftDownUsingComparator 9 none 3 [vI a0, vA a1, vA a2, vI a3, vA a4] w (.inr (none, w9)) := by
  refine zCt_of (lv := [some (vI a0), some (vA a1), some (vA a2), some (vI a3), some (vA a4), none, none, none, none]) (by decide +kernel) 4 rfl rfl ?_
  intro X hX hI hN hQ
  have hX : zGd X RJ28 cJ28_siftDownUsingComparator 9 none 3 := hX
  unfold f_J28_siftDownUsingComparator at hf
  refine j_iload_n (pc := 0) hX dJ28_siftDownUsingComparator_0 rfl ?_
  refine j_iconst (pc := 1) hX (1 : Int32) dJ28_siftDownUsingComparator_1 rfl ?_
  refine j_iushr (pc := 2) hX dJ28_siftDownUsingComparator_2 ?_
  refine j_istore (pc := 3) hX dJ28_siftDownUsingComparator_3 (by decide) [some (vI a0), some (vA a1), some (vA a2), some (vI a3), some (vA a4), some (vI ((a3.toUInt32 >>> ((1 : Int32).toUInt32 &&& Int32.toUInt32 31)).toInt32)), none, none, none] rfl ?_
  obtain ⟨x12, w13, hm_, hf⟩ := zB2_e hf
  refine lp_J28_siftDownUsingComparator_L5 hX n _ _ _ _ _ _ _ _ _ _ hm_ ?_
  refine j_aload_n (pc := 88) hX dJ28_siftDownUsingComparator_88 rfl ?_
  refine j_iload_n (pc := 89) hX dJ28_siftDownUsingComparator_89 rfl ?_
  refine j_aload_n (pc := 90) hX dJ28_siftDownUsingComparator_90 rfl ?_
  refine j_aastore (pc := 91) hX dJ28_siftDownUsingComparator_91 hf (fun w14 hf => ?_)
  exact j_return (pc := 92) hX hQ (by cases hf; rfl) dJ28_siftDownUsingComparator_92
def f_J28_poll (n : Nat) (a0 : Option Nat) (w : zWd) : Option ((Option Nat) × zWd) :=
  (gA w 23 0 a0).bind fun x1 =>
  (aA w x1 (0 : Int32)).bind fun x2 =>
  (
    if x2 = none then
      some w
    else
      (gI w 23 3 a0).bind fun x3 =>
      (pI w 23 3 a0 (x3 + (1 : Int32))).bind fun w4 =>
      (gI w4 23 1 a0).bind fun x5 =>
      (pI w4 23 1 a0 (x5 - (1 : Int32))).bind fun w6 =>
      (aA w6 x1 (x5 - (1 : Int32))).bind fun x7 =>
      (sA w6 x1 (x5 - (1 : Int32)) none).bind fun w8 =>
      if (x5 - (1 : Int32)) ≤ (0 : Int32) then
        some w8
      else
        (gA w8 23 2 a0).bind fun x9 =>
        if x9 = none then
          (f_J28_siftDownComparable n (0 : Int32) x7 x1 (x5 - (1 : Int32)) w8).bind fun w11 =>
          some w11
        else
          (f_J28_siftDownUsingComparator n (0 : Int32) x7 x1 (x5 - (1 : Int32)) x9 w8).bind fun w10 =>
          some w10
    ).bind fun w12 =>
  some (x2, w12)
theorem mt_J28_poll : zMt yJ28_poll cJ28_poll 6 (some (.object "java/lang/Object")) 0 := ⟨q1454, q109, ⟨by decide, by decide⟩, by decide +kernel, by decide⟩
set_option maxHeartbeats 4000000 in
theorem k_J28_poll {l : Launch} {n : Nat} {a0 : Option Nat} {w : zWd} (r : Option Nat) (w9 : zWd) (hf : f_J28_poll n a0 w = some (r, w9)) : zCt l yJ28_poll cJ28_poll 6 (some (.object "java/lang/Object")) 5 [vA a0] w (.inr (some (vA r), w9)) := by
  refine zCt_of (lv := [some (vA a0), none, none, none, none, none]) (by decide +kernel) 5 rfl rfl ?_
  intro X hX hI hN hQ
  have hX : zGd X RJ28 cJ28_poll 6 (some (.object "java/lang/Object")) 5 := hX
  unfold f_J28_poll at hf
  refine j_aload_n (pc := 0) hX dJ28_poll_0 rfl ?_
  refine j_getA (pc := 1) hX kJ28 (k := 0) (Nat.le_of_ble_eq_true rfl) q1384 (Or.inl rfl) dJ28_poll_1 hf (fun x1 hx_ hf => ?_)
  refine j_dup (pc := 4) hX rfl dJ28_poll_4 ?_
  refine j_astore_n (pc := 5) hX dJ28_poll_5 (by decide) [some (vA a0), some (vA x1), none, none, none, none] rfl ?_
  refine j_iconst (pc := 6) hX (0 : Int32) dJ28_poll_6 rfl ?_
  refine j_aaload (pc := 7) hX dJ28_poll_7 hf (fun x2 hx_ hf => ?_)
  refine j_dup (pc := 8) hX rfl dJ28_poll_8 ?_
  refine j_astore_n (pc := 9) hX dJ28_poll_9 (by decide) [some (vA a0), some (vA x1), some (vA x2), none, none, none] rfl ?_
  obtain ⟨w12, hm_, hf⟩ := zob hf
  have kj10 : zJ X 79 [none, none, some (vA x2), none, none, none] [] w12 := by
    clear hm_
    refine j_aload_n (pc := 79) hX dJ28_poll_79 rfl ?_
    exact j_areturn (pc := 80) hX rfl hQ (by cases hf; rfl) dJ28_poll_80
  have hf := hm_
  refine j_ifnull (pc := 10) hX 79 dJ28_poll_10 rfl hf (fun h_ hf => ?_) (fun h_ hf => ?_)
  · refine j_fg [0, 1] [none, none, some (vA x2), none, none, none] rfl ?_
    cases hf
    exact kj10
  · refine j_aload_n (pc := 13) hX dJ28_poll_13 rfl ?_
    refine j_dup (pc := 14) hX rfl dJ28_poll_14 ?_
    refine j_getI (pc := 15) hX kJ28 (k := 3) (Nat.le_of_ble_eq_true rfl) q1387 (Or.inl rfl) dJ28_poll_15 hf (fun x3 hx_ hf => ?_)
    refine j_iconst (pc := 18) hX (1 : Int32) dJ28_poll_18 rfl ?_
    refine j_iadd (pc := 19) hX dJ28_poll_19 ?_
    refine j_putI (pc := 20) hX kJ28 (k := 3) (Nat.le_of_ble_eq_true rfl) q1387 (Or.inl rfl) rfl rfl dJ28_poll_20 hf (fun w4 hf => ?_)
    refine j_aload_n (pc := 23) hX dJ28_poll_23 rfl ?_
    refine j_aload_n (pc := 24) hX dJ28_poll_24 rfl ?_
    refine j_dup (pc := 25) hX rfl dJ28_poll_25 ?_
    refine j_getI (pc := 26) hX kJ28 (k := 1) (Nat.le_of_ble_eq_true rfl) q1385 (Or.inl rfl) dJ28_poll_26 hf (fun x5 hx_ hf => ?_)
    refine j_iconst (pc := 29) hX (1 : Int32) dJ28_poll_29 rfl ?_
    refine j_isub (pc := 30) hX dJ28_poll_30 ?_
    refine j_dup_x1 (pc := 31) hX rfl rfl dJ28_poll_31 ?_
    refine j_putI (pc := 32) hX kJ28 (k := 1) (Nat.le_of_ble_eq_true rfl) q1385 (Or.inl rfl) rfl rfl dJ28_poll_32 hf (fun w6 hf => ?_)
    refine j_dup (pc := 35) hX rfl dJ28_poll_35 ?_
    refine j_istore_n (pc := 36) hX dJ28_poll_36 (by decide) [some (vA a0), some (vA x1), some (vA x2), some (vI (x5 - (1 : Int32))), none, none] rfl ?_
    refine j_aaload (pc := 37) hX dJ28_poll_37 hf (fun x7 hx_ hf => ?_)
    refine j_astore (pc := 38) hX dJ28_poll_38 (by decide) [some (vA a0), some (vA x1), some (vA x2), some (vI (x5 - (1 : Int32))), some (vA x7), none] rfl ?_
    refine j_aload_n (pc := 40) hX dJ28_poll_40 rfl ?_
    refine j_iload_n (pc := 41) hX dJ28_poll_41 rfl ?_
    refine j_null (pc := 42) hX dJ28_poll_42 ?_
    refine j_aastore (pc := 43) hX dJ28_poll_43 hf (fun w8 hf => ?_)
    refine j_iload_n (pc := 44) hX dJ28_poll_44 rfl ?_
    refine j_if_le (pc := 45) hX 79 dJ28_poll_45 rfl hf (fun h_ hf => ?_) (fun h_ hf => ?_)
    · refine j_fg [0, 1, 3, 4] [none, none, some (vA x2), none, none, none] rfl ?_
      cases hf
      exact kj10
    · refine j_aload_n (pc := 48) hX dJ28_poll_48 rfl ?_
      refine j_getA (pc := 49) hX kJ28 (k := 2) (Nat.le_of_ble_eq_true rfl) q1386 (Or.inl rfl) dJ28_poll_49 hf (fun x9 hx_ hf => ?_)
      refine j_dup (pc := 52) hX rfl dJ28_poll_52 ?_
      refine j_astore (pc := 53) hX dJ28_poll_53 (by decide) [some (vA a0), some (vA x1), some (vA x2), some (vI (x5 - (1 : Int32))), some (vA x7), some (vA x9)] rfl ?_
      refine j_ifnonnull (pc := 55) hX 69 dJ28_poll_55 rfl hf (fun h_ hf => ?_) (fun h_ hf => ?_)
      · refine j_iconst (pc := 69) hX (0 : Int32) dJ28_poll_69 rfl ?_
        refine j_aload (pc := 70) hX dJ28_poll_70 rfl ?_
        refine j_aload_n (pc := 72) hX dJ28_poll_72 rfl ?_
        refine j_iload_n (pc := 73) hX dJ28_poll_73 rfl ?_
        refine j_aload (pc := 74) hX dJ28_poll_74 rfl ?_
        obtain ⟨w10, hc_, hf⟩ := zob hf
        refine j_callS (pc := 76) hX mt_J28_siftDownUsingComparator q1458 q1459 [vI (0 : Int32), vA x7, vA x1, vI (x5 - (1 : Int32)), vA x9] rfl rfl (Nat.le_of_ble_eq_true rfl) (by decide) dJ28_poll_76 (k_J28_siftDownUsingComparator () _ hc_) ?_
        refine j_fg [0, 1, 3, 4, 5] [none, none, some (vA x2), none, none, none] rfl ?_
        cases hf
        exact kj10
      · refine j_iconst (pc := 58) hX (0 : Int32) dJ28_poll_58 rfl ?_
        refine j_aload (pc := 59) hX dJ28_poll_59 rfl ?_
        refine j_aload_n (pc := 61) hX dJ28_poll_61 rfl ?_
        refine j_iload_n (pc := 62) hX dJ28_poll_62 rfl ?_
        obtain ⟨w11, hc_, hf⟩ := zob hf
        refine j_callS (pc := 63) hX mt_J28_siftDownComparable q1455 q1456 [vI (0 : Int32), vA x7, vA x1, vI (x5 - (1 : Int32))] rfl rfl (Nat.le_of_ble_eq_true rfl) (by decide) dJ28_poll_63 (k_J28_siftDownComparable () _ hc_) ?_
        refine j_goto (pc := 66) hX 79 dJ28_poll_66 rfl ?_
        refine j_fg [0, 1, 3, 4, 5] [none, none, some (vA x2), none, none, none] rfl ?_
        cases hf
        exact kj10
def f_X1_orderOf_L38b (n : Nat) (c0 : Option Nat) (c1 : Option Nat) (c2 : Option Nat) (c3 : Option Nat) (c4 : Int32) (rec : Int32 → zWd → Option (zWd)) (v5 : Int32) (w : zWd) : Option (zWd) :=
  (aN w c3).bind fun x12 =>
  if x12 ≤ v5 then
    some w
  else
    (aI w c3 c4).bind fun x13 =>
    zB2 (zV (isC w 18 c0) (f_J2_get n c0 c4 w)) fun x15 w14 =>
    (cK w14 [11] x15).bind fun _ =>
    zB2 (zV (isC w14 11 x15) (f_X12_needs n x15 v5 w14)) fun x17 w16 =>
    (
      if x17 = (0 : Int32) then
        some (0 : Int32)
      else
        some (1 : Int32)
      ).bind fun x18 =>
    (sI w16 c3 c4 (x13 + x18)).bind fun w19 =>
    rec (v5 + (1)) w19
def f_X1_orderOf_L38 (n : Nat) (c0 : Option Nat) (c1 : Option Nat) (c2 : Option Nat) (c3 : Option Nat) (c4 : Int32) : Nat → Int32 → zWd → Option (zWd)
  | 0, _, _ => none
  | k + 1, v5, w => f_X1_orderOf_L38b n c0 c1 c2 c3 c4 (f_X1_orderOf_L38 n c0 c1 c2 c3 c4 k) v5 w
def f_X1_orderOf_L28b (n : Nat) (c0 : Option Nat) (c1 : Option Nat) (c2 : Option Nat) (c3 : Option Nat) (rec : Int32 → zWd → Option (zWd)) (v4 : Int32) (w : zWd) : Option (zWd) :=
  (aN w c3).bind fun x11 =>
  if x11 ≤ v4 then
    some w
  else
    (f_X1_orderOf_L38 n c0 c1 c2 c3 v4 n (0 : Int32) w).bind fun w20 =>
    (aI w20 c3 v4).bind fun x21 =>
    (
      if x21 = (0 : Int32) then
        zB2 (f_J10_valueOf n v4 w20) fun x23 w22 =>
        zB2 (zV (isC w22 23 c2) (f_J28_add n c2 x23 w22)) fun x25 w24 =>
        some w24
      else
        some w20
      ).bind fun w26 =>
    rec (v4 + (1)) w26
def f_X1_orderOf_L28 (n : Nat) (c0 : Option Nat) (c1 : Option Nat) (c2 : Option Nat) (c3 : Option Nat) : Nat → Int32 → zWd → Option (zWd)
  | 0, _, _ => none
  | k + 1, v4, w => f_X1_orderOf_L28b n c0 c1 c2 c3 (f_X1_orderOf_L28 n c0 c1 c2 c3 k) v4 w
def f_X1_orderOf_L139b (n : Nat) (c0 : Option Nat) (c1 : Option Nat) (c2 : Option Nat) (c3 : Option Nat) (c4 : Int32) (rec : Int32 → zWd → Option (zWd)) (v5 : Int32) (w : zWd) : Option (zWd) :=
  (aN w c3).bind fun x38 =>
  if x38 ≤ v5 then
    some w
  else
    zB2 (zV (isC w 18 c0) (f_J2_get n c0 v5 w)) fun x40 w39 =>
    (cK w39 [11] x40).bind fun _ =>
    zB2 (zV (isC w39 11 x40) (f_X12_needs n x40 c4 w39)) fun x42 w41 =>
    (
      if x42 = (0 : Int32) then
        some w41
      else
        (aI w41 c3 v5).bind fun x43 =>
        (sI w41 c3 v5 (x43 - (1 : Int32))).bind fun w44 =>
        (aI w44 c3 v5).bind fun x45 =>
        if x45 = (0 : Int32) then
          zB2 (f_J10_valueOf n v5 w44) fun x47 w46 =>
          zB2 (zV (isC w46 23 c2) (f_J28_add n c2 x47 w46)) fun x49 w48 =>
          some w48
        else
          some w44
      ).bind fun w50 =>
    rec (v5 + (1)) w50
def f_X1_orderOf_L139 (n : Nat) (c0 : Option Nat) (c1 : Option Nat) (c2 : Option Nat) (c3 : Option Nat) (c4 : Int32) : Nat → Int32 → zWd → Option (zWd)
  | 0, _, _ => none
  | k + 1, v5, w => f_X1_orderOf_L139b n c0 c1 c2 c3 c4 (f_X1_orderOf_L139 n c0 c1 c2 c3 c4 k) v5 w
def f_X1_orderOf_L105b (n : Nat) (c0 : Option Nat) (c1 : Option Nat) (c2 : Option Nat) (c3 : Option Nat) (rec : zWd → Option (zWd)) (w : zWd) : Option (zWd) :=
  zB2 (zV (isC w 23 c2) (f_J0_isEmpty n c2 w)) fun x29 w28 =>
  if x29 = (0 : Int32) then
    zB2 (zV (isC w28 23 c2) (f_J28_poll n c2 w28)) fun x31 w30 =>
    (cK w30 [20] x31).bind fun _ =>
    zB2 (zV (isC w30 20 x31) (f_J10_intValue n x31 w30)) fun x33 w32 =>
    zB2 (f_J10_valueOf n x33 w32) fun x35 w34 =>
    zB2 (zV (isC w34 18 c1) (f_J2_add n c1 x35 w34)) fun x37 w36 =>
    (f_X1_orderOf_L139 n c0 c1 c2 c3 x33 n (0 : Int32) w36).bind fun w51 =>
    rec  w51
  else
    some w28
def f_X1_orderOf_L105 (n : Nat) (c0 : Option Nat) (c1 : Option Nat) (c2 : Option Nat) (c3 : Option Nat) : Nat → zWd → Option (zWd)
  | 0, _ => none
  | k + 1, w => f_X1_orderOf_L105b n c0 c1 c2 c3 (f_X1_orderOf_L105 n c0 c1 c2 c3 k) w
def f_X1_orderOf (n : Nat) (a0 : Option Nat) (w : zWd) : Option ((Option Nat) × zWd) :=
  zB2 (zNew w 3 (.inr (18, df_J2))) fun x1 w2 =>
  (zV (decide (x1 ≠ none)) (f_J2_init n x1 w2)).bind fun w3 =>
  zB2 (zNew w3 4 (.inr (23, df_J28))) fun x4 w5 =>
  (zV (decide (x4 ≠ none)) (f_J28_init n x4 w5)).bind fun w6 =>
  zB2 (zV (isC w6 18 a0) (f_J2_size n a0 w6)) fun x8 w7 =>
  zB2 (nI_ w7 x8) fun x9 w10 =>
  (f_X1_orderOf_L28 n a0 x1 x4 x9 n (0 : Int32) w10).bind fun w27 =>
  (f_X1_orderOf_L105 n a0 x1 x4 x9 n w27).bind fun w52 =>
  some (x1, w52)
theorem mt_X1_orderOf : zMt yX1_orderOf cX1_orderOf 6 (some (.object "java/util/List")) 1 := ⟨q1359, q66, ⟨by decide, by decide⟩, by decide +kernel, by decide⟩
set_option maxHeartbeats 4000000 in
theorem lp_X1_orderOf_L38 {X : zX} (hX : zGd X RX1 cX1_orderOf 6 (some (.object "java/util/List")) 8) (n : Nat) (c0 : Option Nat) (c1 : Option Nat) (c2 : Option Nat) (c3 : Option Nat) (c4 : Int32) : ∀ (k : Nat) (v5 : Int32) (w : zWd) (w9 : zWd) , f_X1_orderOf_L38 n c0 c1 c2 c3 c4 k v5 w = some w9 → zJ X 82 [some (vA c0), some (vA c1), some (vA c2), some (vA c3), some (vI c4), none] [] w9 → zJ X 38 [some (vA c0), some (vA c1), some (vA c2), some (vA c3), some (vI c4), some (vI v5)] [] w := by
  intro k
  induction k with
  | zero => intro v5 w w9 hf _; exact nomatch (show (none : Option (zWd)) = _ from hf)
  | succ k ih =>
    intro v5 w w9 hf kx
    have hf : f_X1_orderOf_L38b n c0 c1 c2 c3 c4 (f_X1_orderOf_L38 n c0 c1 c2 c3 c4 k) v5 w = _ := hf
    unfold f_X1_orderOf_L38b at hf
    refine j_iload (pc := 38) hX dX1_orderOf_38 rfl ?_
    refine j_aload_n (pc := 40) hX dX1_orderOf_40 rfl ?_
    refine j_alen (pc := 41) hX dX1_orderOf_41 hf (fun x12 hx_ hf => ?_)
    refine j_icmp_ge (pc := 42) hX 82 dX1_orderOf_42 rfl hf (fun h_ hf => ?_) (fun h_ hf => ?_)
    · refine j_fg [5] [some (vA c0), some (vA c1), some (vA c2), some (vA c3), some (vI c4), none] rfl ?_
      cases hf
      exact kx
    · refine j_aload_n (pc := 45) hX dX1_orderOf_45 rfl ?_
      refine j_iload (pc := 46) hX dX1_orderOf_46 rfl ?_
      refine j_dup2 (pc := 48) hX rfl rfl dX1_orderOf_48 ?_
      refine j_iaload (pc := 49) hX dX1_orderOf_49 hf (fun x13 hx_ hf => ?_)
      refine j_aload_n (pc := 50) hX dX1_orderOf_50 rfl ?_
      refine j_iload (pc := 51) hX dX1_orderOf_51 rfl ?_
      obtain ⟨x15, w14, hc_, hf⟩ := zB2_e hf
      obtain ⟨hi_, hc_⟩ := zV_e hc_
      refine j_callF (pc := 53) hX (ci := 18) mt_J2_get q965 q970 q968 (by decide +kernel) rfl hi_ ⟨_, rfl, rfl⟩ [vI c4] rfl rfl (Nat.le_of_ble_eq_true rfl) (by decide) dX1_orderOf_53 (k_J2_get _ _ hc_) ?_
      refine j_cast (pc := 58) hX q1335 [11] (zC1 ⟨_, rfl, Or.inl rfl⟩) dX1_orderOf_58 hf (fun hf => ?_)
      refine j_iload (pc := 61) hX dX1_orderOf_61 rfl ?_
      obtain ⟨x17, w16, hc_, hf⟩ := zB2_e hf
      obtain ⟨hi_, hc_⟩ := zV_e hc_
      refine j_callV (pc := 63) hX (ci := 11) mt_X12_needs q1397 q1398 q1399 hi_ ⟨_, rfl, rfl⟩ [vI v5] rfl rfl (Nat.le_of_ble_eq_true rfl) (by decide) dX1_orderOf_63 (k_X12_needs _ _ hc_) ?_
      obtain ⟨x18, hm_, hf⟩ := zob hf
      have kj66 : zJ X 74 [some (vA c0), some (vA c1), some (vA c2), some (vA c3), some (vI c4), some (vI v5)] [vI x18, vI x13, vI c4, vA c3] w16 := by
        clear hm_
        refine j_iadd (pc := 74) hX dX1_orderOf_74 ?_
        refine j_iastore (pc := 75) hX dX1_orderOf_75 hf (fun w19 hf => ?_)
        refine j_iinc (pc := 76) hX (1) dX1_orderOf_76 rfl rfl (by decide) [some (vA c0), some (vA c1), some (vA c2), some (vA c3), some (vI c4), some (vI (v5 + (1)))] rfl ?_
        refine j_goto (pc := 79) hX 38 dX1_orderOf_79 rfl ?_
        exact ih _ _ _ hf kx
      have hf := hm_
      refine j_if_eq (pc := 66) hX 73 dX1_orderOf_66 rfl hf (fun h_ hf => ?_) (fun h_ hf => ?_)
      · refine j_iconst (pc := 73) hX (0 : Int32) dX1_orderOf_73 rfl ?_
        cases hf
        exact kj66
      · refine j_iconst (pc := 69) hX (1 : Int32) dX1_orderOf_69 rfl ?_
        refine j_goto (pc := 70) hX 74 dX1_orderOf_70 rfl ?_
        cases hf
        exact kj66
set_option maxHeartbeats 4000000 in
theorem lp_X1_orderOf_L28 {X : zX} (hX : zGd X RX1 cX1_orderOf 6 (some (.object "java/util/List")) 8) (n : Nat) (c0 : Option Nat) (c1 : Option Nat) (c2 : Option Nat) (c3 : Option Nat) : ∀ (k : Nat) (v4 : Int32) (w : zWd) (w9 : zWd) , f_X1_orderOf_L28 n c0 c1 c2 c3 k v4 w = some w9 → zJ X 105 [some (vA c0), some (vA c1), some (vA c2), some (vA c3), none, none] [] w9 → zJ X 28 [some (vA c0), some (vA c1), some (vA c2), some (vA c3), some (vI v4), none] [] w := by
  intro k
  induction k with
  | zero => intro v4 w w9 hf _; exact nomatch (show (none : Option (zWd)) = _ from hf)
  | succ k ih =>
    intro v4 w w9 hf kx
    have hf : f_X1_orderOf_L28b n c0 c1 c2 c3 (f_X1_orderOf_L28 n c0 c1 c2 c3 k) v4 w = _ := hf
    unfold f_X1_orderOf_L28b at hf
    refine j_iload (pc := 28) hX dX1_orderOf_28 rfl ?_
    refine j_aload_n (pc := 30) hX dX1_orderOf_30 rfl ?_
    refine j_alen (pc := 31) hX dX1_orderOf_31 hf (fun x11 hx_ hf => ?_)
    refine j_icmp_ge (pc := 32) hX 105 dX1_orderOf_32 rfl hf (fun h_ hf => ?_) (fun h_ hf => ?_)
    · refine j_fg [4] [some (vA c0), some (vA c1), some (vA c2), some (vA c3), none, none] rfl ?_
      cases hf
      exact kx
    · refine j_iconst (pc := 35) hX (0 : Int32) dX1_orderOf_35 rfl ?_
      refine j_istore (pc := 36) hX dX1_orderOf_36 (by decide) [some (vA c0), some (vA c1), some (vA c2), some (vA c3), some (vI v4), some (vI (0 : Int32))] rfl ?_
      obtain ⟨w20, hm_, hf⟩ := zob hf
      refine lp_X1_orderOf_L38 hX n _ _ _ _ _ _ _ _ _ hm_ ?_
      refine j_aload_n (pc := 82) hX dX1_orderOf_82 rfl ?_
      refine j_iload (pc := 83) hX dX1_orderOf_83 rfl ?_
      refine j_iaload (pc := 85) hX dX1_orderOf_85 hf (fun x21 hx_ hf => ?_)
      obtain ⟨w26, hm_, hf⟩ := zob hf
      have kj86 : zJ X 99 [some (vA c0), some (vA c1), some (vA c2), some (vA c3), some (vI v4), none] [] w26 := by
        clear hm_
        refine j_iinc (pc := 99) hX (1) dX1_orderOf_99 rfl rfl (by decide) [some (vA c0), some (vA c1), some (vA c2), some (vA c3), some (vI (v4 + (1))), none] rfl ?_
        refine j_goto (pc := 102) hX 28 dX1_orderOf_102 rfl ?_
        exact ih _ _ _ hf kx
      have hf := hm_
      refine j_if_ne (pc := 86) hX 99 dX1_orderOf_86 rfl hf (fun h_ hf => ?_) (fun h_ hf => ?_)
      · cases hf
        exact kj86
      · refine j_aload_n (pc := 89) hX dX1_orderOf_89 rfl ?_
        refine j_iload (pc := 90) hX dX1_orderOf_90 rfl ?_
        obtain ⟨x23, w22, hc_, hf⟩ := zB2_e hf
        refine j_callS (pc := 92) hX mt_J10_valueOf q310 q311 [vI v4] rfl rfl (Nat.le_of_ble_eq_true rfl) (by decide) dX1_orderOf_92 (k_J10_valueOf _ _ hc_) ?_
        obtain ⟨x25, w24, hc_, hf⟩ := zB2_e hf
        obtain ⟨hi_, hc_⟩ := zV_e hc_
        refine j_callV (pc := 95) hX (ci := 23) mt_J28_add q1410 q1411 q1412 hi_ ⟨_, rfl, rfl⟩ [vA x23] rfl rfl (Nat.le_of_ble_eq_true rfl) (by decide) dX1_orderOf_95 (k_J28_add _ _ hc_) ?_
        refine j_pop (pc := 98) hX rfl dX1_orderOf_98 ?_
        cases hf
        exact kj86
set_option maxHeartbeats 4000000 in
theorem lp_X1_orderOf_L139 {X : zX} (hX : zGd X RX1 cX1_orderOf 6 (some (.object "java/util/List")) 8) (n : Nat) (c0 : Option Nat) (c1 : Option Nat) (c2 : Option Nat) (c3 : Option Nat) (c4 : Int32) : ∀ (k : Nat) (v5 : Int32) (w : zWd) (w9 : zWd) , f_X1_orderOf_L139 n c0 c1 c2 c3 c4 k v5 w = some w9 → zJ X 105 [some (vA c0), some (vA c1), some (vA c2), some (vA c3), some (vI c4), none] [] w9 → zJ X 139 [some (vA c0), some (vA c1), some (vA c2), some (vA c3), some (vI c4), some (vI v5)] [] w := by
  intro k
  induction k with
  | zero => intro v5 w w9 hf _; exact nomatch (show (none : Option (zWd)) = _ from hf)
  | succ k ih =>
    intro v5 w w9 hf kx
    have hf : f_X1_orderOf_L139b n c0 c1 c2 c3 c4 (f_X1_orderOf_L139 n c0 c1 c2 c3 c4 k) v5 w = _ := hf
    unfold f_X1_orderOf_L139b at hf
    refine j_iload (pc := 139) hX dX1_orderOf_139 rfl ?_
    refine j_aload_n (pc := 141) hX dX1_orderOf_141 rfl ?_
    refine j_alen (pc := 142) hX dX1_orderOf_142 hf (fun x38 hx_ hf => ?_)
    refine j_icmp_ge (pc := 143) hX 196 dX1_orderOf_143 rfl hf (fun h_ hf => ?_) (fun h_ hf => ?_)
    · refine j_goto (pc := 196) hX 105 dX1_orderOf_196 rfl ?_
      refine j_fg [5] [some (vA c0), some (vA c1), some (vA c2), some (vA c3), some (vI c4), none] rfl ?_
      cases hf
      exact kx
    · refine j_aload_n (pc := 146) hX dX1_orderOf_146 rfl ?_
      refine j_iload (pc := 147) hX dX1_orderOf_147 rfl ?_
      obtain ⟨x40, w39, hc_, hf⟩ := zB2_e hf
      obtain ⟨hi_, hc_⟩ := zV_e hc_
      refine j_callF (pc := 149) hX (ci := 18) mt_J2_get q965 q970 q968 (by decide +kernel) rfl hi_ ⟨_, rfl, rfl⟩ [vI v5] rfl rfl (Nat.le_of_ble_eq_true rfl) (by decide) dX1_orderOf_149 (k_J2_get _ _ hc_) ?_
      refine j_cast (pc := 154) hX q1335 [11] (zC1 ⟨_, rfl, Or.inl rfl⟩) dX1_orderOf_154 hf (fun hf => ?_)
      refine j_iload (pc := 157) hX dX1_orderOf_157 rfl ?_
      obtain ⟨x42, w41, hc_, hf⟩ := zB2_e hf
      obtain ⟨hi_, hc_⟩ := zV_e hc_
      refine j_callV (pc := 159) hX (ci := 11) mt_X12_needs q1397 q1398 q1399 hi_ ⟨_, rfl, rfl⟩ [vI c4] rfl rfl (Nat.le_of_ble_eq_true rfl) (by decide) dX1_orderOf_159 (k_X12_needs _ _ hc_) ?_
      obtain ⟨w50, hm_, hf⟩ := zob hf
      have kj162 : zJ X 190 [some (vA c0), some (vA c1), some (vA c2), some (vA c3), some (vI c4), some (vI v5)] [] w50 := by
        clear hm_
        refine j_iinc (pc := 190) hX (1) dX1_orderOf_190 rfl rfl (by decide) [some (vA c0), some (vA c1), some (vA c2), some (vA c3), some (vI c4), some (vI (v5 + (1)))] rfl ?_
        refine j_goto (pc := 193) hX 139 dX1_orderOf_193 rfl ?_
        exact ih _ _ _ hf kx
      have hf := hm_
      refine j_if_eq (pc := 162) hX 190 dX1_orderOf_162 rfl hf (fun h_ hf => ?_) (fun h_ hf => ?_)
      · cases hf
        exact kj162
      · refine j_aload_n (pc := 165) hX dX1_orderOf_165 rfl ?_
        refine j_iload (pc := 166) hX dX1_orderOf_166 rfl ?_
        refine j_dup2 (pc := 168) hX rfl rfl dX1_orderOf_168 ?_
        refine j_iaload (pc := 169) hX dX1_orderOf_169 hf (fun x43 hx_ hf => ?_)
        refine j_iconst (pc := 170) hX (1 : Int32) dX1_orderOf_170 rfl ?_
        refine j_isub (pc := 171) hX dX1_orderOf_171 ?_
        refine j_iastore (pc := 172) hX dX1_orderOf_172 hf (fun w44 hf => ?_)
        refine j_aload_n (pc := 173) hX dX1_orderOf_173 rfl ?_
        refine j_iload (pc := 174) hX dX1_orderOf_174 rfl ?_
        refine j_iaload (pc := 176) hX dX1_orderOf_176 hf (fun x45 hx_ hf => ?_)
        refine j_if_ne (pc := 177) hX 190 dX1_orderOf_177 rfl hf (fun h_ hf => ?_) (fun h_ hf => ?_)
        · cases hf
          exact kj162
        · refine j_aload_n (pc := 180) hX dX1_orderOf_180 rfl ?_
          refine j_iload (pc := 181) hX dX1_orderOf_181 rfl ?_
          obtain ⟨x47, w46, hc_, hf⟩ := zB2_e hf
          refine j_callS (pc := 183) hX mt_J10_valueOf q310 q311 [vI v5] rfl rfl (Nat.le_of_ble_eq_true rfl) (by decide) dX1_orderOf_183 (k_J10_valueOf _ _ hc_) ?_
          obtain ⟨x49, w48, hc_, hf⟩ := zB2_e hf
          obtain ⟨hi_, hc_⟩ := zV_e hc_
          refine j_callV (pc := 186) hX (ci := 23) mt_J28_add q1410 q1411 q1412 hi_ ⟨_, rfl, rfl⟩ [vA x47] rfl rfl (Nat.le_of_ble_eq_true rfl) (by decide) dX1_orderOf_186 (k_J28_add _ _ hc_) ?_
          refine j_pop (pc := 189) hX rfl dX1_orderOf_189 ?_
          cases hf
          exact kj162
set_option maxHeartbeats 4000000 in
theorem lp_X1_orderOf_L105 {X : zX} (hX : zGd X RX1 cX1_orderOf 6 (some (.object "java/util/List")) 8) (n : Nat) (c0 : Option Nat) (c1 : Option Nat) (c2 : Option Nat) (c3 : Option Nat) : ∀ (k : Nat) (w : zWd) (w9 : zWd) , f_X1_orderOf_L105 n c0 c1 c2 c3 k w = some w9 → zJ X 199 [some (vA c0), some (vA c1), some (vA c2), some (vA c3), none, none] [] w9 → zJ X 105 [some (vA c0), some (vA c1), some (vA c2), some (vA c3), none, none] [] w := by
  intro k
  induction k with
  | zero => intro w w9 hf _; exact nomatch (show (none : Option (zWd)) = _ from hf)
  | succ k ih =>
    intro w w9 hf kx
    have hf : f_X1_orderOf_L105b n c0 c1 c2 c3 (f_X1_orderOf_L105 n c0 c1 c2 c3 k) w = _ := hf
    unfold f_X1_orderOf_L105b at hf
    refine j_aload_n (pc := 105) hX dX1_orderOf_105 rfl ?_
    obtain ⟨x29, w28, hc_, hf⟩ := zB2_e hf
    obtain ⟨hi_, hc_⟩ := zV_e hc_
    refine j_callVU (pc := 106) hX (ci := 23) (owner := "java/util/AbstractCollection") mt_J0_isEmpty q1438 q1442 q1441 q1439 (Or.inr q1440) (by decide) rfl hi_ ⟨_, rfl, rfl⟩ [] rfl rfl (Nat.le_of_ble_eq_true rfl) (by decide) dX1_orderOf_106 (k_J0_isEmpty _ _ hc_) ?_
    refine j_if_ne (pc := 109) hX 199 dX1_orderOf_109 rfl hf (fun h_ hf => ?_) (fun h_ hf => ?_)
    · cases hf
      exact kx
    · refine j_aload_n (pc := 112) hX dX1_orderOf_112 rfl ?_
      obtain ⟨x31, w30, hc_, hf⟩ := zB2_e hf
      obtain ⟨hi_, hc_⟩ := zV_e hc_
      refine j_callV (pc := 113) hX (ci := 23) mt_J28_poll q1451 q1452 q1453 hi_ ⟨_, rfl, rfl⟩ [] rfl rfl (Nat.le_of_ble_eq_true rfl) (by decide) dX1_orderOf_113 (k_J28_poll _ _ hc_) ?_
      refine j_cast (pc := 116) hX q1461 [20] (zC1 ⟨_, rfl, Or.inl rfl⟩) dX1_orderOf_116 hf (fun hf => ?_)
      obtain ⟨x33, w32, hc_, hf⟩ := zB2_e hf
      obtain ⟨hi_, hc_⟩ := zV_e hc_
      refine j_callV (pc := 119) hX (ci := 20) mt_J10_intValue q1462 q913 q914 hi_ ⟨_, rfl, rfl⟩ [] rfl rfl (Nat.le_of_ble_eq_true rfl) (by decide) dX1_orderOf_119 (k_J10_intValue _ _ hc_) ?_
      refine j_istore (pc := 122) hX dX1_orderOf_122 (by decide) [some (vA c0), some (vA c1), some (vA c2), some (vA c3), some (vI x33), none] rfl ?_
      refine j_aload_n (pc := 124) hX dX1_orderOf_124 rfl ?_
      refine j_iload (pc := 125) hX dX1_orderOf_125 rfl ?_
      obtain ⟨x35, w34, hc_, hf⟩ := zB2_e hf
      refine j_callS (pc := 127) hX mt_J10_valueOf q310 q311 [vI x33] rfl rfl (Nat.le_of_ble_eq_true rfl) (by decide) dX1_orderOf_127 (k_J10_valueOf _ _ hc_) ?_
      obtain ⟨x37, w36, hc_, hf⟩ := zB2_e hf
      obtain ⟨hi_, hc_⟩ := zV_e hc_
      refine j_callF (pc := 130) hX (ci := 18) mt_J2_add q226 q232 q230 (by decide +kernel) rfl hi_ ⟨_, rfl, rfl⟩ [vA x35] rfl rfl (Nat.le_of_ble_eq_true rfl) (by decide) dX1_orderOf_130 (k_J2_add _ _ hc_) ?_
      refine j_pop (pc := 135) hX rfl dX1_orderOf_135 ?_
      refine j_iconst (pc := 136) hX (0 : Int32) dX1_orderOf_136 rfl ?_
      refine j_istore (pc := 137) hX dX1_orderOf_137 (by decide) [some (vA c0), some (vA c1), some (vA c2), some (vA c3), some (vI x33), some (vI (0 : Int32))] rfl ?_
      obtain ⟨w51, hm_, hf⟩ := zob hf
      refine lp_X1_orderOf_L139 hX n _ _ _ _ _ _ _ _ _ hm_ ?_
      refine j_fg [4] [some (vA c0), some (vA c1), some (vA c2), some (vA c3), none, none] rfl ?_
      exact ih _ _ hf kx
set_option maxHeartbeats 4000000 in
theorem k_X1_orderOf {l : Launch} {n : Nat} {a0 : Option Nat} {w : zWd} (r : Option Nat) (w9 : zWd) (hf : f_X1_orderOf n a0 w = some (r, w9)) : zCt l yX1_orderOf cX1_orderOf 6 (some (.object "java/util/List")) 8 [vA a0] w (.inr (some (vA r), w9)) := by
  refine zCt_of (lv := [some (vA a0), none, none, none, none, none]) (by decide +kernel) 5 rfl rfl ?_
  intro X hX hI hN hQ
  have hX : zGd X RX1 cX1_orderOf 6 (some (.object "java/util/List")) 8 := hX
  unfold f_X1_orderOf at hf
  refine j_new (pc := 0) hX kJ2 q126 q127 q69 df_J2 df_J2_ok dX1_orderOf_0 hf (fun x1 w2 hf => ?_)
  refine j_dup (pc := 3) hX rfl dX1_orderOf_3 ?_
  obtain ⟨w3, hc_, hf⟩ := zob hf
  obtain ⟨hi_, hc_⟩ := zV_e hc_
  refine j_callI (pc := 4) hX mt_J2_init q128 q129 rfl rfl [] rfl rfl (Nat.le_of_ble_eq_true rfl) (by decide) dX1_orderOf_4 (of_decide_eq_true hi_) (k_J2_init () _ hc_) ?_
  refine j_astore_n (pc := 7) hX dX1_orderOf_7 (by decide) [some (vA a0), some (vA x1), none, none, none, none] rfl ?_
  refine j_new (pc := 8) hX kJ28 q1360 q1361 q109 df_J28 df_J28_ok dX1_orderOf_8 hf (fun x4 w5 hf => ?_)
  refine j_dup (pc := 11) hX rfl dX1_orderOf_11 ?_
  obtain ⟨w6, hc_, hf⟩ := zob hf
  obtain ⟨hi_, hc_⟩ := zV_e hc_
  refine j_callI (pc := 12) hX mt_J28_init q1362 q1363 rfl rfl [] rfl rfl (Nat.le_of_ble_eq_true rfl) (by decide) dX1_orderOf_12 (of_decide_eq_true hi_) (k_J28_init () _ hc_) ?_
  refine j_astore_n (pc := 15) hX dX1_orderOf_15 (by decide) [some (vA a0), some (vA x1), some (vA x4), none, none, none] rfl ?_
  refine j_aload_n (pc := 16) hX dX1_orderOf_16 rfl ?_
  obtain ⟨x8, w7, hc_, hf⟩ := zB2_e hf
  obtain ⟨hi_, hc_⟩ := zV_e hc_
  refine j_callF (pc := 17) hX (ci := 18) mt_J2_size q413 q418 q416 (by decide +kernel) rfl hi_ ⟨_, rfl, rfl⟩ [] rfl rfl (Nat.le_of_ble_eq_true rfl) (by decide) dX1_orderOf_17 (k_J2_size _ _ hc_) ?_
  refine j_newarrI (pc := 22) hX q180 dX1_orderOf_22 hf (fun x9 w10 hf => ?_)
  refine j_astore_n (pc := 24) hX dX1_orderOf_24 (by decide) [some (vA a0), some (vA x1), some (vA x4), some (vA x9), none, none] rfl ?_
  refine j_iconst (pc := 25) hX (0 : Int32) dX1_orderOf_25 rfl ?_
  refine j_istore (pc := 26) hX dX1_orderOf_26 (by decide) [some (vA a0), some (vA x1), some (vA x4), some (vA x9), some (vI (0 : Int32)), none] rfl ?_
  obtain ⟨w27, hm_, hf⟩ := zob hf
  refine lp_X1_orderOf_L28 hX n _ _ _ _ _ _ _ _ hm_ ?_
  obtain ⟨w52, hm_, hf⟩ := zob hf
  refine lp_X1_orderOf_L105 hX n _ _ _ _ _ _ _ hm_ ?_
  refine j_aload_n (pc := 199) hX dX1_orderOf_199 rfl ?_
  exact j_areturn (pc := 200) hX rfl hQ (by cases hf; rfl) dX1_orderOf_200
def f_X1_element (n : Nat) (a0 : Option Nat) (a1 : Int32) (a2 : Int32) (w : zWd) : Option ((String ⊕ Int32) × zWd) :=
  (gA w 0 7 a0).bind fun x1 =>
  zB2 (zV (isC w 18 x1) (f_J2_size n x1 w)) fun x3 w2 =>
  zB2 (f_J7_min n (6 : Int32) (x3 + (1 : Int32)) w2) fun x5 w4 =>
  zBX (f_X1_at n a1 x5 w4) fun x7 w6 =>
  zBX (f_X1_in n a2 (0 : Int32) (63 : Int32) w6) fun x9 w8 =>
  zB2 (zV (isC w8 0 a0) (f_X1_high n a0 w8)) fun x11 w10 =>
  (
    if x11 = (1 : Int32) then
      some (1 : Int32)
    else
      some (0 : Int32)
    ).bind fun x12 =>
  zBX (f_X1_must n x12 w10) fun _u w13 =>
  zB2 (zNew w13 3 (.inr (18, df_J2))) fun x14 w15 =>
  (zV (decide (x14 ≠ none)) (f_J2_init n x14 w15)).bind fun w16 =>
  (gA w16 0 7 a0).bind fun x17 =>
  zB2 (zV (isC w16 18 x14) (f_J2_addAll n x14 x17 w16)) fun x19 w18 =>
  zB2 (zNew w18 2 (.inr (11, df_X12))) fun x20 w21 =>
  (gA w21 0 6 a0).bind fun x22 =>
  (zV (decide (x20 ≠ none)) (f_X12_init n x20 x22 a2 w21)).bind fun w23 =>
  zB2 (zV (isC w23 18 x14) (f_J2_size n x14 w23)) fun x25 w24 =>
  (
    if a1 = x25 then
      zB2 (zV (isC w24 18 x14) (f_J2_add n x14 x20 w24)) fun x29 w28 =>
      some w28
    else
      zB2 (zV (isC w24 18 x14) (f_J2_set n x14 a1 x20 w24)) fun x27 w26 =>
      (cK w26 [11] x27).bind fun _ =>
      some w26
    ).bind fun w30 =>
  zB2 (f_X1_orderOf n x14 w30) fun x32 w31 =>
  zB2 (zV (isC w31 18 x32) (f_J2_size n x32 w31)) fun x34 w33 =>
  zB2 (zV (isC w33 18 x14) (f_J2_size n x14 w33)) fun x36 w35 =>
  (
    if x34 = x36 then
      some (1 : Int32)
    else
      some (0 : Int32)
    ).bind fun x37 =>
  zBX (f_X1_must n x37 w35) fun _u w38 =>
  (pA w38 0 7 a0 x14).bind fun w39 =>
  zB2 (zNew w39 3 (.inr (18, df_J2))) fun x40 w41 =>
  (zV (decide (x40 ≠ none)) (f_J2_init n x40 w41)).bind fun w42 =>
  (pA w42 0 6 a0 x40).bind fun w43 =>
  (gA w43 0 7 a0).bind fun x44 =>
  zB2 (zV (isC w43 18 x44) (f_J2_size n x44 w43)) fun x46 w45 =>
  some (.inr x46, w45)
theorem mt_X1_element : zMt yX1_element cX1_element 6 (some .int) 2 := ⟨q1306, q66, ⟨by decide, by decide⟩, by decide +kernel, by decide⟩
set_option maxHeartbeats 4000000 in
theorem k_X1_element {l : Launch} {n : Nat} {a0 : Option Nat} {a1 : Int32} {a2 : Int32} {w : zWd} (r : String ⊕ Int32) (w9 : zWd) (hf : f_X1_element n a0 a1 a2 w = some (r, w9)) : zCt l yX1_element cX1_element 6 (some .int) 9 [vA a0, vI a1, vI a2] w (zXI r w9) := by
  refine zCt_of (lv := [some (vA a0), some (vI a1), some (vI a2), none, none, none]) (by decide +kernel) 3 rfl rfl ?_
  intro X hX hI hN hQ
  have hX : zGd X RX1 cX1_element 6 (some .int) 9 := hX
  unfold f_X1_element at hf
  refine j_iload_n (pc := 0) hX dX1_element_0 rfl ?_
  refine j_bipush (pc := 1) hX (6 : Int32) dX1_element_1 (by decide +kernel) ?_
  refine j_aload_n (pc := 3) hX dX1_element_3 rfl ?_
  refine j_getA (pc := 4) hX kX1 (k := 7) (Nat.le_of_ble_eq_true rfl) q344 (Or.inl rfl) dX1_element_4 hf (fun x1 hx_ hf => ?_)
  obtain ⟨x3, w2, hc_, hf⟩ := zB2_e hf
  obtain ⟨hi_, hc_⟩ := zV_e hc_
  refine j_callF (pc := 7) hX (ci := 18) mt_J2_size q413 q418 q416 (by decide +kernel) rfl hi_ ⟨_, rfl, rfl⟩ [] rfl rfl (Nat.le_of_ble_eq_true rfl) (by decide) dX1_element_7 (k_J2_size _ _ hc_) ?_
  refine j_iconst (pc := 12) hX (1 : Int32) dX1_element_12 rfl ?_
  refine j_iadd (pc := 13) hX dX1_element_13 ?_
  obtain ⟨x5, w4, hc_, hf⟩ := zB2_e hf
  refine j_callS (pc := 14) hX mt_J7_min q1307 q303 [vI (6 : Int32), vI (x3 + (1 : Int32))] rfl rfl (Nat.le_of_ble_eq_true rfl) (by decide) dX1_element_14 (k_J7_min _ _ hc_) ?_
  obtain ⟨⟨q_, w6⟩, hc_, hf⟩ := zob hf
  cases q_ with
  | inl E_ =>
    cases hf
    exact j_callSX (pc := 17) hX mt_X1_at q507 q508 [vI a1, vI x5] rfl rfl (Nat.le_of_ble_eq_true rfl) (by decide) dX1_element_17 hN hQ (k_X1_at _ _ hc_)
  | inr x7 =>
    refine j_callS (pc := 17) hX mt_X1_at q507 q508 [vI a1, vI x5] rfl rfl (Nat.le_of_ble_eq_true rfl) (by decide) dX1_element_17 (k_X1_at _ _ hc_) ?_
    refine j_pop (pc := 20) hX rfl dX1_element_20 ?_
    refine j_iload_n (pc := 21) hX dX1_element_21 rfl ?_
    refine j_iconst (pc := 22) hX (0 : Int32) dX1_element_22 rfl ?_
    refine j_bipush (pc := 23) hX (63 : Int32) dX1_element_23 (by decide +kernel) ?_
    obtain ⟨⟨q_, w8⟩, hc_, hf⟩ := zob hf
    cases q_ with
    | inl E_ =>
      cases hf
      exact j_callSX (pc := 25) hX mt_X1_in q523 q524 [vI a2, vI (0 : Int32), vI (63 : Int32)] rfl rfl (Nat.le_of_ble_eq_true rfl) (by decide) dX1_element_25 hN hQ (k_X1_in _ _ hc_)
    | inr x9 =>
      refine j_callS (pc := 25) hX mt_X1_in q523 q524 [vI a2, vI (0 : Int32), vI (63 : Int32)] rfl rfl (Nat.le_of_ble_eq_true rfl) (by decide) dX1_element_25 (k_X1_in _ _ hc_) ?_
      refine j_pop (pc := 28) hX rfl dX1_element_28 ?_
      refine j_aload_n (pc := 29) hX dX1_element_29 rfl ?_
      obtain ⟨x11, w10, hc_, hf⟩ := zB2_e hf
      obtain ⟨hi_, hc_⟩ := zV_e hc_
      refine j_callV (pc := 30) hX (ci := 0) mt_X1_high q1282 q1284 qs16 hi_ ⟨_, rfl, rfl⟩ [] rfl rfl (Nat.le_of_ble_eq_true rfl) (by decide) dX1_element_30 (k_X1_high _ _ hc_) ?_
      refine j_iconst (pc := 33) hX (1 : Int32) dX1_element_33 rfl ?_
      obtain ⟨x12, hm_, hf⟩ := zob hf
      have kj34 : zJ X 42 [some (vA a0), some (vI a1), some (vI a2), none, none, none] [vI x12] w10 := by
        clear hm_
        obtain ⟨⟨q_, w13⟩, hc_, hf⟩ := zob hf
        cases q_ with
        | inl E_ =>
          cases hf
          exact j_callSX (pc := 42) hX mt_X1_must q543 q544 [vI x12] rfl rfl (Nat.le_of_ble_eq_true rfl) (by decide) dX1_element_42 hN hQ (k_X1_must _ _ hc_)
        | inr u_ =>
          refine j_callS (pc := 42) hX mt_X1_must q543 q544 [vI x12] rfl rfl (Nat.le_of_ble_eq_true rfl) (by decide) dX1_element_42 (k_X1_must _ _ hc_) ?_
          refine j_new (pc := 45) hX kJ2 q126 q127 q69 df_J2 df_J2_ok dX1_element_45 hf (fun x14 w15 hf => ?_)
          refine j_dup (pc := 48) hX rfl dX1_element_48 ?_
          obtain ⟨w16, hc_, hf⟩ := zob hf
          obtain ⟨hi_, hc_⟩ := zV_e hc_
          refine j_callI (pc := 49) hX mt_J2_init q128 q129 rfl rfl [] rfl rfl (Nat.le_of_ble_eq_true rfl) (by decide) dX1_element_49 (of_decide_eq_true hi_) (k_J2_init () _ hc_) ?_
          refine j_astore_n (pc := 52) hX dX1_element_52 (by decide) [some (vA a0), some (vI a1), some (vI a2), some (vA x14), none, none] rfl ?_
          refine j_aload_n (pc := 53) hX dX1_element_53 rfl ?_
          refine j_aload_n (pc := 54) hX dX1_element_54 rfl ?_
          refine j_getA (pc := 55) hX kX1 (k := 7) (Nat.le_of_ble_eq_true rfl) q344 (Or.inl rfl) dX1_element_55 hf (fun x17 hx_ hf => ?_)
          obtain ⟨x19, w18, hc_, hf⟩ := zB2_e hf
          obtain ⟨hi_, hc_⟩ := zV_e hc_
          refine j_callF (pc := 58) hX (ci := 18) mt_J2_addAll q1309 q1314 q1312 (by decide +kernel) rfl hi_ ⟨_, rfl, rfl⟩ [vA x17] rfl rfl (Nat.le_of_ble_eq_true rfl) (by decide) dX1_element_58 (k_J2_addAll _ _ hc_) ?_
          refine j_pop (pc := 63) hX rfl dX1_element_63 ?_
          refine j_new (pc := 64) hX kX12 q1335 q1336 q107 df_X12 df_X12_ok dX1_element_64 hf (fun x20 w21 hf => ?_)
          refine j_dup (pc := 67) hX rfl dX1_element_67 ?_
          refine j_aload_n (pc := 68) hX dX1_element_68 rfl ?_
          refine j_getA (pc := 69) hX kX1 (k := 6) (Nat.le_of_ble_eq_true rfl) q342 (Or.inl rfl) dX1_element_69 hf (fun x22 hx_ hf => ?_)
          refine j_iload_n (pc := 72) hX dX1_element_72 rfl ?_
          obtain ⟨w23, hc_, hf⟩ := zob hf
          obtain ⟨hi_, hc_⟩ := zV_e hc_
          refine j_callI (pc := 73) hX mt_X12_init q1337 q1338 rfl rfl [vA x22, vI a2] rfl rfl (Nat.le_of_ble_eq_true rfl) (by decide) dX1_element_73 (of_decide_eq_true hi_) (k_X12_init () _ hc_) ?_
          refine j_astore (pc := 76) hX dX1_element_76 (by decide) [some (vA a0), some (vI a1), some (vI a2), some (vA x14), some (vA x20), none] rfl ?_
          refine j_iload_n (pc := 78) hX dX1_element_78 rfl ?_
          refine j_aload_n (pc := 79) hX dX1_element_79 rfl ?_
          obtain ⟨x25, w24, hc_, hf⟩ := zB2_e hf
          obtain ⟨hi_, hc_⟩ := zV_e hc_
          refine j_callF (pc := 80) hX (ci := 18) mt_J2_size q413 q418 q416 (by decide +kernel) rfl hi_ ⟨_, rfl, rfl⟩ [] rfl rfl (Nat.le_of_ble_eq_true rfl) (by decide) dX1_element_80 (k_J2_size _ _ hc_) ?_
          obtain ⟨w30, hm_, hf⟩ := zob hf
          have kj85 : zJ X 114 [some (vA a0), none, none, some (vA x14), none, none] [] w30 := by
            clear hm_
            refine j_aload_n (pc := 114) hX dX1_element_114 rfl ?_
            obtain ⟨x32, w31, hc_, hf⟩ := zB2_e hf
            refine j_callS (pc := 115) hX mt_X1_orderOf q1357 q1358 [vA x14] rfl rfl (Nat.le_of_ble_eq_true rfl) (by decide) dX1_element_115 (k_X1_orderOf _ _ hc_) ?_
            obtain ⟨x34, w33, hc_, hf⟩ := zB2_e hf
            obtain ⟨hi_, hc_⟩ := zV_e hc_
            refine j_callF (pc := 118) hX (ci := 18) mt_J2_size q413 q418 q416 (by decide +kernel) rfl hi_ ⟨_, rfl, rfl⟩ [] rfl rfl (Nat.le_of_ble_eq_true rfl) (by decide) dX1_element_118 (k_J2_size _ _ hc_) ?_
            refine j_aload_n (pc := 123) hX dX1_element_123 rfl ?_
            obtain ⟨x36, w35, hc_, hf⟩ := zB2_e hf
            obtain ⟨hi_, hc_⟩ := zV_e hc_
            refine j_callF (pc := 124) hX (ci := 18) mt_J2_size q413 q418 q416 (by decide +kernel) rfl hi_ ⟨_, rfl, rfl⟩ [] rfl rfl (Nat.le_of_ble_eq_true rfl) (by decide) dX1_element_124 (k_J2_size _ _ hc_) ?_
            obtain ⟨x37, hm_, hf⟩ := zob hf
            have kj129 : zJ X 137 [some (vA a0), none, none, some (vA x14), none, none] [vI x37] w35 := by
              clear hm_
              obtain ⟨⟨q_, w38⟩, hc_, hf⟩ := zob hf
              cases q_ with
              | inl E_ =>
                cases hf
                exact j_callSX (pc := 137) hX mt_X1_must q543 q544 [vI x37] rfl rfl (Nat.le_of_ble_eq_true rfl) (by decide) dX1_element_137 hN hQ (k_X1_must _ _ hc_)
              | inr u_ =>
                refine j_callS (pc := 137) hX mt_X1_must q543 q544 [vI x37] rfl rfl (Nat.le_of_ble_eq_true rfl) (by decide) dX1_element_137 (k_X1_must _ _ hc_) ?_
                refine j_aload_n (pc := 140) hX dX1_element_140 rfl ?_
                refine j_aload_n (pc := 141) hX dX1_element_141 rfl ?_
                refine j_putA (pc := 142) hX kX1 (k := 7) (Nat.le_of_ble_eq_true rfl) q344 (Or.inl rfl) rfl rfl dX1_element_142 hf (fun w39 hf => ?_)
                refine j_aload_n (pc := 145) hX dX1_element_145 rfl ?_
                refine j_new (pc := 146) hX kJ2 q126 q127 q69 df_J2 df_J2_ok dX1_element_146 hf (fun x40 w41 hf => ?_)
                refine j_dup (pc := 149) hX rfl dX1_element_149 ?_
                obtain ⟨w42, hc_, hf⟩ := zob hf
                obtain ⟨hi_, hc_⟩ := zV_e hc_
                refine j_callI (pc := 150) hX mt_J2_init q128 q129 rfl rfl [] rfl rfl (Nat.le_of_ble_eq_true rfl) (by decide) dX1_element_150 (of_decide_eq_true hi_) (k_J2_init () _ hc_) ?_
                refine j_putA (pc := 153) hX kX1 (k := 6) (Nat.le_of_ble_eq_true rfl) q342 (Or.inl rfl) rfl rfl dX1_element_153 hf (fun w43 hf => ?_)
                refine j_aload_n (pc := 156) hX dX1_element_156 rfl ?_
                refine j_getA (pc := 157) hX kX1 (k := 7) (Nat.le_of_ble_eq_true rfl) q344 (Or.inl rfl) dX1_element_157 hf (fun x44 hx_ hf => ?_)
                obtain ⟨x46, w45, hc_, hf⟩ := zB2_e hf
                obtain ⟨hi_, hc_⟩ := zV_e hc_
                refine j_callF (pc := 160) hX (ci := 18) mt_J2_size q413 q418 q416 (by decide +kernel) rfl hi_ ⟨_, rfl, rfl⟩ [] rfl rfl (Nat.le_of_ble_eq_true rfl) (by decide) dX1_element_160 (k_J2_size _ _ hc_) ?_
                exact j_ireturn (pc := 165) hX hQ (by cases hf; rfl) dX1_element_165
            have hf := hm_
            refine j_icmp_ne (pc := 129) hX 136 dX1_element_129 rfl hf (fun h_ hf => ?_) (fun h_ hf => ?_)
            · refine j_iconst (pc := 136) hX (0 : Int32) dX1_element_136 rfl ?_
              cases hf
              exact kj129
            · refine j_iconst (pc := 132) hX (1 : Int32) dX1_element_132 rfl ?_
              refine j_goto (pc := 133) hX 137 dX1_element_133 rfl ?_
              cases hf
              exact kj129
          have hf := hm_
          refine j_icmp_ne (pc := 85) hX 100 dX1_element_85 rfl hf (fun h_ hf => ?_) (fun h_ hf => ?_)
          · refine j_aload_n (pc := 100) hX dX1_element_100 rfl ?_
            refine j_iload_n (pc := 101) hX dX1_element_101 rfl ?_
            refine j_aload (pc := 102) hX dX1_element_102 rfl ?_
            obtain ⟨x27, w26, hc_, hf⟩ := zB2_e hf
            obtain ⟨hi_, hc_⟩ := zV_e hc_
            refine j_callF (pc := 104) hX (ci := 18) mt_J2_set q1349 q1354 q1352 (by decide +kernel) rfl hi_ ⟨_, rfl, rfl⟩ [vI a1, vA x20] rfl rfl (Nat.le_of_ble_eq_true rfl) (by decide) dX1_element_104 (k_J2_set _ _ hc_) ?_
            refine j_cast (pc := 109) hX q1335 [11] (zC1 ⟨_, rfl, Or.inl rfl⟩) dX1_element_109 hf (fun hf => ?_)
            refine j_astore (pc := 112) hX dX1_element_112 (by decide) [some (vA a0), some (vI a1), some (vI a2), some (vA x14), some (vA x20), some (vA x27)] rfl ?_
            refine j_fg [1, 2, 4, 5] [some (vA a0), none, none, some (vA x14), none, none] rfl ?_
            cases hf
            exact kj85
          · refine j_aload_n (pc := 88) hX dX1_element_88 rfl ?_
            refine j_aload (pc := 89) hX dX1_element_89 rfl ?_
            obtain ⟨x29, w28, hc_, hf⟩ := zB2_e hf
            obtain ⟨hi_, hc_⟩ := zV_e hc_
            refine j_callF (pc := 91) hX (ci := 18) mt_J2_add q226 q232 q230 (by decide +kernel) rfl hi_ ⟨_, rfl, rfl⟩ [vA x20] rfl rfl (Nat.le_of_ble_eq_true rfl) (by decide) dX1_element_91 (k_J2_add _ _ hc_) ?_
            refine j_pop (pc := 96) hX rfl dX1_element_96 ?_
            refine j_goto (pc := 97) hX 114 dX1_element_97 rfl ?_
            refine j_fg [1, 2, 4] [some (vA a0), none, none, some (vA x14), none, none] rfl ?_
            cases hf
            exact kj85
      have hf := hm_
      refine j_icmp_ne (pc := 34) hX 41 dX1_element_34 rfl hf (fun h_ hf => ?_) (fun h_ hf => ?_)
      · refine j_iconst (pc := 41) hX (0 : Int32) dX1_element_41 rfl ?_
        cases hf
        exact kj34
      · refine j_iconst (pc := 37) hX (1 : Int32) dX1_element_37 rfl ?_
        refine j_goto (pc := 38) hX 42 dX1_element_38 rfl ?_
        cases hf
        exact kj34
def f_X1_order (n : Nat) (a0 : Option Nat) (a1 : Int32) (w : zWd) : Option ((String ⊕ Int32) × zWd) :=
  (gA w 0 7 a0).bind fun x1 =>
  zB2 (f_X1_orderOf n x1 w) fun x3 w2 =>
  zB2 (zV (isC w2 18 x3) (f_J2_size n x3 w2)) fun x5 w4 =>
  zBX (f_X1_at n a1 x5 w4) fun x7 w6 =>
  zB2 (zV (isC w6 18 x3) (f_J2_get n x3 x7 w6)) fun x9 w8 =>
  (cK w8 [20] x9).bind fun _ =>
  zB2 (zV (isC w8 20 x9) (f_J10_intValue n x9 w8)) fun x11 w10 =>
  some (.inr x11, w10)
theorem mt_X1_order : zMt yX1_order cX1_order 3 (some .int) 1 := ⟨q1469, q66, ⟨by decide, by decide⟩, by decide +kernel, by decide⟩
set_option maxHeartbeats 4000000 in
theorem k_X1_order {l : Launch} {n : Nat} {a0 : Option Nat} {a1 : Int32} {w : zWd} (r : String ⊕ Int32) (w9 : zWd) (hf : f_X1_order n a0 a1 w = some (r, w9)) : zCt l yX1_order cX1_order 3 (some .int) 9 [vA a0, vI a1] w (zXI r w9) := by
  refine zCt_of (lv := [some (vA a0), some (vI a1), none]) (by decide +kernel) 1 rfl rfl ?_
  intro X hX hI hN hQ
  have hX : zGd X RX1 cX1_order 3 (some .int) 9 := hX
  unfold f_X1_order at hf
  refine j_aload_n (pc := 0) hX dX1_order_0 rfl ?_
  refine j_getA (pc := 1) hX kX1 (k := 7) (Nat.le_of_ble_eq_true rfl) q344 (Or.inl rfl) dX1_order_1 hf (fun x1 hx_ hf => ?_)
  obtain ⟨x3, w2, hc_, hf⟩ := zB2_e hf
  refine j_callS (pc := 4) hX mt_X1_orderOf q1357 q1358 [vA x1] rfl rfl (Nat.le_of_ble_eq_true rfl) (by decide) dX1_order_4 (k_X1_orderOf _ _ hc_) ?_
  refine j_astore_n (pc := 7) hX dX1_order_7 (by decide) [some (vA a0), some (vI a1), some (vA x3)] rfl ?_
  refine j_aload_n (pc := 8) hX dX1_order_8 rfl ?_
  refine j_iload_n (pc := 9) hX dX1_order_9 rfl ?_
  refine j_aload_n (pc := 10) hX dX1_order_10 rfl ?_
  obtain ⟨x5, w4, hc_, hf⟩ := zB2_e hf
  obtain ⟨hi_, hc_⟩ := zV_e hc_
  refine j_callF (pc := 11) hX (ci := 18) mt_J2_size q413 q418 q416 (by decide +kernel) rfl hi_ ⟨_, rfl, rfl⟩ [] rfl rfl (Nat.le_of_ble_eq_true rfl) (by decide) dX1_order_11 (k_J2_size _ _ hc_) ?_
  obtain ⟨⟨q_, w6⟩, hc_, hf⟩ := zob hf
  cases q_ with
  | inl E_ =>
    cases hf
    exact j_callSX (pc := 16) hX mt_X1_at q507 q508 [vI a1, vI x5] rfl rfl (Nat.le_of_ble_eq_true rfl) (by decide) dX1_order_16 hN hQ (k_X1_at _ _ hc_)
  | inr x7 =>
    refine j_callS (pc := 16) hX mt_X1_at q507 q508 [vI a1, vI x5] rfl rfl (Nat.le_of_ble_eq_true rfl) (by decide) dX1_order_16 (k_X1_at _ _ hc_) ?_
    obtain ⟨x9, w8, hc_, hf⟩ := zB2_e hf
    obtain ⟨hi_, hc_⟩ := zV_e hc_
    refine j_callF (pc := 19) hX (ci := 18) mt_J2_get q965 q970 q968 (by decide +kernel) rfl hi_ ⟨_, rfl, rfl⟩ [vI x7] rfl rfl (Nat.le_of_ble_eq_true rfl) (by decide) dX1_order_19 (k_J2_get _ _ hc_) ?_
    refine j_cast (pc := 24) hX q1461 [20] (zC1 ⟨_, rfl, Or.inl rfl⟩) dX1_order_24 hf (fun hf => ?_)
    obtain ⟨x11, w10, hc_, hf⟩ := zB2_e hf
    obtain ⟨hi_, hc_⟩ := zV_e hc_
    refine j_callV (pc := 27) hX (ci := 20) mt_J10_intValue q1462 q913 q914 hi_ ⟨_, rfl, rfl⟩ [] rfl rfl (Nat.le_of_ble_eq_true rfl) (by decide) dX1_order_27 (k_J10_intValue _ _ hc_) ?_
    exact j_ireturn (pc := 30) hX hQ (by cases hf; rfl) dX1_order_30
def f_X1_bonus (n : Nat) (a0 : Option Nat) (a1 : Int32) (a2 : Int32) (a3 : Int32) (a4 : Int32) (w : zWd) : Option ((String ⊕ Int32) × zWd) :=
  zBX (f_X1_at n a1 (6 : Int32) w) fun x2 w1 =>
  zBX (f_X1_at n a2 (24 : Int32) w1) fun x4 w3 =>
  (gA w3 0 8 a0).bind fun x5 =>
  (aA w3 x5 a1).bind fun x6 =>
  (aA w3 x6 a2).bind fun x7 =>
  zBX (f_X1_at n a3 (3 : Int32) w3) fun x9 w8 =>
  (aI w8 x7 x9).bind fun x10 =>
  (gA w8 0 8 a0).bind fun x11 =>
  (aA w8 x11 a1).bind fun x12 =>
  (aA w8 x12 a2).bind fun x13 =>
  zBX (f_X1_in n a4 (-10000000 : Int32) (10000000 : Int32) w8) fun x15 w14 =>
  (sI w14 x13 a3 x15).bind fun w16 =>
  some (.inr x10, w16)
theorem mt_X1_bonus : zMt yX1_bonus cX1_bonus 6 (some .int) 4 := ⟨q1476, q66, ⟨by decide, by decide⟩, by decide +kernel, by decide⟩
set_option maxHeartbeats 4000000 in
theorem k_X1_bonus {l : Launch} {n : Nat} {a0 : Option Nat} {a1 : Int32} {a2 : Int32} {a3 : Int32} {a4 : Int32} {w : zWd} (r : String ⊕ Int32) (w9 : zWd) (hf : f_X1_bonus n a0 a1 a2 a3 a4 w = some (r, w9)) : zCt l yX1_bonus cX1_bonus 6 (some .int) 7 [vA a0, vI a1, vI a2, vI a3, vI a4] w (zXI r w9) := by
  refine zCt_of (lv := [some (vA a0), some (vI a1), some (vI a2), some (vI a3), some (vI a4), none]) (by decide +kernel) 1 rfl rfl ?_
  intro X hX hI hN hQ
  have hX : zGd X RX1 cX1_bonus 6 (some .int) 7 := hX
  unfold f_X1_bonus at hf
  refine j_iload_n (pc := 0) hX dX1_bonus_0 rfl ?_
  refine j_bipush (pc := 1) hX (6 : Int32) dX1_bonus_1 (by decide +kernel) ?_
  obtain ⟨⟨q_, w1⟩, hc_, hf⟩ := zob hf
  cases q_ with
  | inl E_ =>
    cases hf
    exact j_callSX (pc := 3) hX mt_X1_at q507 q508 [vI a1, vI (6 : Int32)] rfl rfl (Nat.le_of_ble_eq_true rfl) (by decide) dX1_bonus_3 hN hQ (k_X1_at _ _ hc_)
  | inr x2 =>
    refine j_callS (pc := 3) hX mt_X1_at q507 q508 [vI a1, vI (6 : Int32)] rfl rfl (Nat.le_of_ble_eq_true rfl) (by decide) dX1_bonus_3 (k_X1_at _ _ hc_) ?_
    refine j_pop (pc := 6) hX rfl dX1_bonus_6 ?_
    refine j_iload_n (pc := 7) hX dX1_bonus_7 rfl ?_
    refine j_bipush (pc := 8) hX (24 : Int32) dX1_bonus_8 (by decide +kernel) ?_
    obtain ⟨⟨q_, w3⟩, hc_, hf⟩ := zob hf
    cases q_ with
    | inl E_ =>
      cases hf
      exact j_callSX (pc := 10) hX mt_X1_at q507 q508 [vI a2, vI (24 : Int32)] rfl rfl (Nat.le_of_ble_eq_true rfl) (by decide) dX1_bonus_10 hN hQ (k_X1_at _ _ hc_)
    | inr x4 =>
      refine j_callS (pc := 10) hX mt_X1_at q507 q508 [vI a2, vI (24 : Int32)] rfl rfl (Nat.le_of_ble_eq_true rfl) (by decide) dX1_bonus_10 (k_X1_at _ _ hc_) ?_
      refine j_pop (pc := 13) hX rfl dX1_bonus_13 ?_
      refine j_aload_n (pc := 14) hX dX1_bonus_14 rfl ?_
      refine j_getA (pc := 15) hX kX1 (k := 8) (Nat.le_of_ble_eq_true rfl) q346 (Or.inl rfl) dX1_bonus_15 hf (fun x5 hx_ hf => ?_)
      refine j_iload_n (pc := 18) hX dX1_bonus_18 rfl ?_
      refine j_aaload (pc := 19) hX dX1_bonus_19 hf (fun x6 hx_ hf => ?_)
      refine j_iload_n (pc := 20) hX dX1_bonus_20 rfl ?_
      refine j_aaload (pc := 21) hX dX1_bonus_21 hf (fun x7 hx_ hf => ?_)
      refine j_iload_n (pc := 22) hX dX1_bonus_22 rfl ?_
      refine j_iconst (pc := 23) hX (3 : Int32) dX1_bonus_23 rfl ?_
      obtain ⟨⟨q_, w8⟩, hc_, hf⟩ := zob hf
      cases q_ with
      | inl E_ =>
        cases hf
        exact j_callSX (pc := 24) hX mt_X1_at q507 q508 [vI a3, vI (3 : Int32)] rfl rfl (Nat.le_of_ble_eq_true rfl) (by decide) dX1_bonus_24 hN hQ (k_X1_at _ _ hc_)
      | inr x9 =>
        refine j_callS (pc := 24) hX mt_X1_at q507 q508 [vI a3, vI (3 : Int32)] rfl rfl (Nat.le_of_ble_eq_true rfl) (by decide) dX1_bonus_24 (k_X1_at _ _ hc_) ?_
        refine j_iaload (pc := 27) hX dX1_bonus_27 hf (fun x10 hx_ hf => ?_)
        refine j_istore (pc := 28) hX dX1_bonus_28 (by decide) [some (vA a0), some (vI a1), some (vI a2), some (vI a3), some (vI a4), some (vI x10)] rfl ?_
        refine j_aload_n (pc := 30) hX dX1_bonus_30 rfl ?_
        refine j_getA (pc := 31) hX kX1 (k := 8) (Nat.le_of_ble_eq_true rfl) q346 (Or.inl rfl) dX1_bonus_31 hf (fun x11 hx_ hf => ?_)
        refine j_iload_n (pc := 34) hX dX1_bonus_34 rfl ?_
        refine j_aaload (pc := 35) hX dX1_bonus_35 hf (fun x12 hx_ hf => ?_)
        refine j_iload_n (pc := 36) hX dX1_bonus_36 rfl ?_
        refine j_aaload (pc := 37) hX dX1_bonus_37 hf (fun x13 hx_ hf => ?_)
        refine j_iload_n (pc := 38) hX dX1_bonus_38 rfl ?_
        refine j_iload (pc := 39) hX dX1_bonus_39 rfl ?_
        refine j_ldcw (pc := 41) hX q1477 dX1_bonus_41 ?_
        refine j_ldcw (pc := 44) hX q1478 dX1_bonus_44 ?_
        obtain ⟨⟨q_, w14⟩, hc_, hf⟩ := zob hf
        cases q_ with
        | inl E_ =>
          cases hf
          exact j_callSX (pc := 47) hX mt_X1_in q523 q524 [vI a4, vI (-10000000 : Int32), vI (10000000 : Int32)] rfl rfl (Nat.le_of_ble_eq_true rfl) (by decide) dX1_bonus_47 hN hQ (k_X1_in _ _ hc_)
        | inr x15 =>
          refine j_callS (pc := 47) hX mt_X1_in q523 q524 [vI a4, vI (-10000000 : Int32), vI (10000000 : Int32)] rfl rfl (Nat.le_of_ble_eq_true rfl) (by decide) dX1_bonus_47 (k_X1_in _ _ hc_) ?_
          refine j_iastore (pc := 50) hX dX1_bonus_50 hf (fun w16 hf => ?_)
          refine j_iload (pc := 51) hX dX1_bonus_51 rfl ?_
          exact j_ireturn (pc := 53) hX hQ (by cases hf; rfl) dX1_bonus_53
