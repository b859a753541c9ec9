set_option maxRecDepth 100000
def f_X4_sumOf_L5b (n : Nat) (c1 : Int32) (c2 : Int32) (w : zM) (rec : Int64 → Int32 → Option (Int64)) (v3 : Int64) (v5 : Int32) : Option (Int64) :=
  if (3 : Int32) ≤ v5 then
    some v3
  else
    (
      if c1 = (0 : Int32) then
        (rLM w 55 72 (((3 : Int32) * c2) + v5)).bind fun x3 =>
        some x3
      else
        if c1 = (1 : Int32) then
          (rLM w 57 72 (((3 : Int32) * c2) + v5)).bind fun x2 =>
          some x2
        else
          (rLM w 59 72 (((3 : Int32) * c2) + v5)).bind fun x1 =>
          some x1
      ).bind fun x4 =>
    rec (v3 + x4) (v5 + (1))
def f_X4_sumOf_L5 (n : Nat) (c1 : Int32) (c2 : Int32) (w : zM) : Nat → Int64 → Int32 → Option (Int64)
  | 0, _, _ => none
  | k + 1, v3, v5 => f_X4_sumOf_L5b n c1 c2 w (f_X4_sumOf_L5 n c1 c2 w k) v3 v5
def f_X4_sumOf (n : Nat) (a1 : Int32) (a2 : Int32) (w : zM) : Option (Int64 × zM) :=
  (f_X4_sumOf_L5 n a1 a2 w n (0 : Int64) (0 : Int32)).bind fun x5 =>
  some (x5, w)
theorem mt_X4_sumOf : zMt yX4_sumOf cX4_sumOf 6 (some .long) 2 := ⟨q2704, q82, ⟨by decide, by decide⟩, by decide +kernel, by decide⟩
set_option maxHeartbeats 4000000 in
theorem lp_X4_sumOf_L5 {X : zX} {b : Nat} {u : zWd} (hX : zGd X RX4 cX4_sumOf 6 (some .long) 1) (n : Nat) (c1 : Int32) (c2 : Int32) (w : zM) : ∀ (k : Nat) (v3 : Int64) (v5 : Int32) (o3 : Int64) , f_X4_sumOf_L5 n c1 c2 w k v3 v5 = some o3 → zJ X 68 [some (vA (some b)), some (vI c1), some (vI c2), some (vL o3), none, none] [] (zIj b u w) → zJ X 5 [some (vA (some b)), some (vI c1), some (vI c2), some (vL v3), none, some (vI v5)] [] (zIj b u w) := by
  intro k
  induction k with
  | zero => intro v3 v5 o3 hf _; exact nomatch (show (none : Option (Int64)) = _ from hf)
  | succ k ih =>
    intro v3 v5 o3 hf kx
    have hf : f_X4_sumOf_L5b n c1 c2 w (f_X4_sumOf_L5 n c1 c2 w k) v3 v5 = _ := hf
    unfold f_X4_sumOf_L5b at hf
    refine j_iload (pc := 5) hX dX4_sumOf_5 rfl ?_
    refine j_iconst (pc := 7) hX (3 : Int32) dX4_sumOf_7 rfl ?_
    refine j_icmp_ge (pc := 8) hX 68 dX4_sumOf_8 rfl hf (fun h_ hf => ?_) (fun h_ hf => ?_)
    · refine j_fg [5] [some (vA (some b)), some (vI c1), some (vI c2), some (vL v3), none, none] rfl ?_
      cases hf
      exact kx
    · refine j_lload_n (pc := 11) hX dX4_sumOf_11 rfl ?_
      refine j_iload_n (pc := 12) hX dX4_sumOf_12 rfl ?_
      obtain ⟨x4, hm_, hf⟩ := zob hf
      have kj13 : zJ X 60 [some (vA (some b)), some (vI c1), some (vI c2), none, none, some (vI v5)] [vL x4, vL v3] (zIj b u w) := by
        clear hm_
        refine j_ladd (pc := 60) hX dX4_sumOf_60 ?_
        refine j_lstore_n (pc := 61) hX dX4_sumOf_61 (by decide) [some (vA (some b)), some (vI c1), some (vI c2), some (vL (v3 + x4)), none, some (vI v5)] rfl ?_
        refine j_iinc (pc := 62) hX (1) dX4_sumOf_62 rfl rfl (by decide) [some (vA (some b)), some (vI c1), some (vI c2), some (vL (v3 + x4)), none, some (vI (v5 + (1)))] rfl ?_
        refine j_goto (pc := 65) hX 5 dX4_sumOf_65 rfl ?_
        exact ih _ _ _ hf kx
      have hf := hm_
      refine j_if_ne (pc := 13) hX 30 dX4_sumOf_13 rfl hf (fun h_ hf => ?_) (fun h_ hf => ?_)
      · refine j_iload_n (pc := 30) hX dX4_sumOf_30 rfl ?_
        refine j_iconst (pc := 31) hX (1 : Int32) dX4_sumOf_31 rfl ?_
        refine j_icmp_ne (pc := 32) hX 49 dX4_sumOf_32 rfl hf (fun h_ hf => ?_) (fun h_ hf => ?_)
        · refine j_aload_n (pc := 49) hX dX4_sumOf_49 rfl ?_
          refine mg_A (pc := 50) hX 59 (by decide) 49 2 rfl rfl (by decide) q2304 dX4_sumOf_50 ?_
          refine j_iconst (pc := 53) hX (3 : Int32) dX4_sumOf_53 rfl ?_
          refine j_iload_n (pc := 54) hX dX4_sumOf_54 rfl ?_
          refine j_imul (pc := 55) hX dX4_sumOf_55 ?_
          refine j_iload (pc := 56) hX dX4_sumOf_56 rfl ?_
          refine j_iadd (pc := 58) hX dX4_sumOf_58 ?_
          refine mr_L (pc := 59) hX 59 72 49 (by decide) rfl rfl rfl dX4_sumOf_59 hf (fun x1 hx_ hf => ?_)
          refine j_fg [3] [some (vA (some b)), some (vI c1), some (vI c2), none, none, some (vI v5)] rfl ?_
          cases hf
          exact kj13
        · refine j_aload_n (pc := 35) hX dX4_sumOf_35 rfl ?_
          refine mg_A (pc := 36) hX 57 (by decide) 47 2 rfl rfl (by decide) q2302 dX4_sumOf_36 ?_
          refine j_iconst (pc := 39) hX (3 : Int32) dX4_sumOf_39 rfl ?_
          refine j_iload_n (pc := 40) hX dX4_sumOf_40 rfl ?_
          refine j_imul (pc := 41) hX dX4_sumOf_41 ?_
          refine j_iload (pc := 42) hX dX4_sumOf_42 rfl ?_
          refine j_iadd (pc := 44) hX dX4_sumOf_44 ?_
          refine mr_L (pc := 45) hX 57 72 47 (by decide) rfl rfl rfl dX4_sumOf_45 hf (fun x2 hx_ hf => ?_)
          refine j_goto (pc := 46) hX 60 dX4_sumOf_46 rfl ?_
          refine j_fg [3] [some (vA (some b)), some (vI c1), some (vI c2), none, none, some (vI v5)] rfl ?_
          cases hf
          exact kj13
      · refine j_aload_n (pc := 16) hX dX4_sumOf_16 rfl ?_
        refine mg_A (pc := 17) hX 55 (by decide) 45 2 rfl rfl (by decide) q2300 dX4_sumOf_17 ?_
        refine j_iconst (pc := 20) hX (3 : Int32) dX4_sumOf_20 rfl ?_
        refine j_iload_n (pc := 21) hX dX4_sumOf_21 rfl ?_
        refine j_imul (pc := 22) hX dX4_sumOf_22 ?_
        refine j_iload (pc := 23) hX dX4_sumOf_23 rfl ?_
        refine j_iadd (pc := 25) hX dX4_sumOf_25 ?_
        refine mr_L (pc := 26) hX 55 72 45 (by decide) rfl rfl rfl dX4_sumOf_26 hf (fun x3 hx_ hf => ?_)
        refine j_goto (pc := 27) hX 60 dX4_sumOf_27 rfl ?_
        refine j_fg [3] [some (vA (some b)), some (vI c1), some (vI c2), none, none, some (vI v5)] rfl ?_
        cases hf
        exact kj13
set_option maxHeartbeats 4000000 in
theorem k_X4_sumOf {l : Launch} {n : Nat} {a1 : Int32} {a2 : Int32} {b : Nat} {u : zWd} {w : zM} (r : Int64) (w9 : zM) (hf : f_X4_sumOf n a1 a2 w = some (r, w9)) : zCt l yX4_sumOf cX4_sumOf 6 (some .long) 1 [vA (some b), vI a1, vI a2] (zIj b u w) (.inr (some (vL r), (zIj b u w9))) := by
  refine zCt_of (lv := [some (vA (some b)), some (vI a1), some (vI a2), none, none, none]) (by decide +kernel) 3 rfl rfl ?_
  intro X hX hI hN hQ
  have hX : zGd X RX4 cX4_sumOf 6 (some .long) 1 := hX
  unfold f_X4_sumOf at hf
  refine j_lconst (pc := 0) hX (0 : Int64) dX4_sumOf_0 rfl ?_
  refine j_lstore_n (pc := 1) hX dX4_sumOf_1 (by decide) [some (vA (some b)), some (vI a1), some (vI a2), some (vL (0 : Int64)), none, none] rfl ?_
  refine j_iconst (pc := 2) hX (0 : Int32) dX4_sumOf_2 rfl ?_
  refine j_istore (pc := 3) hX dX4_sumOf_3 (by decide) [some (vA (some b)), some (vI a1), some (vI a2), some (vL (0 : Int64)), none, some (vI (0 : Int32))] rfl ?_
  obtain ⟨x5, hm_, hf⟩ := zob hf
  refine lp_X4_sumOf_L5 hX n _ _ _ _ _ _ _ hm_ ?_
  refine j_lload_n (pc := 68) hX dX4_sumOf_68 rfl ?_
  exact j_lreturn (pc := 69) hX hQ (by cases hf; rfl) dX4_sumOf_69
def f_X4_slip (n : Nat) (a1 : Int32) (a2 : Int32) (a3 : Int32) (w : zM) : Option (Int64 × zM) :=
  zB2 (f_X4_isPerson n a1 w) fun x2 w1 =>
  zB2 (
    if x2 = (0 : Int32) then
      some ((1 : Int32), w1)
    else
      zB2 (f_X4_isMonth n a2 w1) fun x4 w3 =>
      if x4 = (0 : Int32) then
        some ((1 : Int32), w3)
      else
        zB2 (f_X4_in n (Int32.toInt64 a3) (0 : Int64) (7 : Int64) w3) fun x6 w5 =>
        if x6 = (0 : Int32) then
          some ((2 : Int32), w5)
        else
          some ((0 : Int32), w5)
    ) fun x7 w8 =>
  zB2 (f_X4_holds n x7 w8) fun x10 w9 =>
  if x10 = (0 : Int32) then
    (f_X4_slips n a1 w9).bind fun w11 =>
    zB2 (
      if a3 < (2 : Int32) then
        zB2 (f_X4_sumOf n a3 a2 w11) fun x13 w12 =>
        some (x13, w12)
      else
        if a3 = (3 : Int32) then
          zB2 (f_X4_sumOf n a3 a2 w11) fun x20 w19 =>
          some (x20, w19)
        else
          if a3 = (2 : Int32) then
            (rLM w11 60 24 a2).bind fun x18 =>
            some (x18, w11)
          else
            if a3 = (4 : Int32) then
              (rLM w11 62 24 a2).bind fun x17 =>
              some (x17, w11)
            else
              if a3 = (5 : Int32) then
                (rLM w11 63 24 a2).bind fun x16 =>
                some (x16, w11)
              else
                if a3 = (6 : Int32) then
                  (rLM w11 64 24 a2).bind fun x15 =>
                  some (x15, w11)
                else
                  (rLM w11 61 24 a2).bind fun x14 =>
                  some (x14, w11)
      ) fun x21 w22 =>
    some (x21, w22)
  else
    some ((-1 : Int64), w9)
theorem mt_X4_slip : zMt yX4_slip cX4_slip 4 (some .long) 3 := ⟨q2658, q82, ⟨by decide, by decide⟩, by decide +kernel, by decide⟩
set_option maxHeartbeats 4000000 in
theorem k_X4_slip {l : Launch} {n : Nat} {a1 : Int32} {a2 : Int32} {a3 : Int32} {b : Nat} {u : zWd} {w : zM} (r : Int64) (w9 : zM) (hf : f_X4_slip n a1 a2 a3 w = some (r, w9)) : zCt l yX4_slip cX4_slip 4 (some .long) 7 [vA (some b), vI a1, vI a2, vI a3] (zIj b u w) (.inr (some (vL r), (zIj b u w9))) := by
  refine zCt_of (lv := [some (vA (some b)), some (vI a1), some (vI a2), some (vI a3)]) (by decide +kernel) 0 rfl rfl ?_
  intro X hX hI hN hQ
  have hX : zGd X RX4 cX4_slip 4 (some .long) 7 := hX
  unfold f_X4_slip at hf
  refine j_aload_n (pc := 0) hX dX4_slip_0 rfl ?_
  refine j_aload_n (pc := 1) hX dX4_slip_1 rfl ?_
  refine j_iload_n (pc := 2) hX dX4_slip_2 rfl ?_
  obtain ⟨x2, w1, hc_, hf⟩ := zB2_e hf
  refine j_callV (pc := 3) hX (ci := 3) mt_X4_isPerson q2464 q2466 qs28 (zIj_isC b u _) ⟨_, rfl, rfl⟩ [vI a1] rfl rfl (Nat.le_of_ble_eq_true rfl) (by decide) dX4_slip_3 (k_X4_isPerson _ _ hc_) ?_
  obtain ⟨x7, w8, hm_, hf⟩ := zB2_e hf
  have kj6 : zJ X 39 [some (vA (some b)), some (vI a1), some (vI a2), some (vI a3)] [vI x7, vA (some b)] (zIj b u w8) := by
    clear hm_
    obtain ⟨x10, w9, hc_, hf⟩ := zB2_e hf
    refine j_callV (pc := 39) hX (ci := 3) mt_X4_holds q2486 q2488 qs32 (zIj_isC b u _) ⟨_, rfl, rfl⟩ [vI x7] rfl rfl (Nat.le_of_ble_eq_true rfl) (by decide) dX4_slip_39 (k_X4_holds _ _ hc_) ?_
    refine j_if_eq (pc := 42) hX 49 dX4_slip_42 rfl hf (fun h_ hf => ?_) (fun h_ hf => ?_)
    · refine j_aload_n (pc := 49) hX dX4_slip_49 rfl ?_
      refine j_iload_n (pc := 50) hX dX4_slip_50 rfl ?_
      obtain ⟨w11, hc_, hf⟩ := zob hf
      refine j_callV (pc := 51) hX (ci := 3) mt_X4_slips q2660 q2662 qs52 (zIj_isC b u _) ⟨_, rfl, rfl⟩ [vI a1] rfl rfl (Nat.le_of_ble_eq_true rfl) (by decide) dX4_slip_51 (k_X4_slips () _ hc_) ?_
      refine j_iload_n (pc := 54) hX dX4_slip_54 rfl ?_
      refine j_iconst (pc := 55) hX (2 : Int32) dX4_slip_55 rfl ?_
      obtain ⟨x21, w22, hm_, hf⟩ := zB2_e hf
      have kj56 : zJ X 136 [none, none, none, none] [vL x21] (zIj b u w22) := by
        clear hm_
        exact j_lreturn (pc := 136) hX hQ (by cases hf; rfl) dX4_slip_136
      have hf := hm_
      refine j_icmp_lt (pc := 56) hX 64 dX4_slip_56 rfl hf (fun h_ hf => ?_) (fun h_ hf => ?_)
      · refine j_aload_n (pc := 64) hX dX4_slip_64 rfl ?_
        refine j_iload_n (pc := 65) hX dX4_slip_65 rfl ?_
        refine j_iload_n (pc := 66) hX dX4_slip_66 rfl ?_
        obtain ⟨x13, w12, hc_, hf⟩ := zB2_e hf
        refine j_callV (pc := 67) hX (ci := 3) mt_X4_sumOf q2701 q2703 qs62 (zIj_isC b u _) ⟨_, rfl, rfl⟩ [vI a3, vI a2] rfl rfl (Nat.le_of_ble_eq_true rfl) (by decide) dX4_slip_67 (k_X4_sumOf _ _ hc_) ?_
        refine j_goto (pc := 70) hX 136 dX4_slip_70 rfl ?_
        refine j_fg [0, 1, 2, 3] [none, none, none, none] rfl ?_
        cases hf
        exact kj56
      · refine j_iload_n (pc := 59) hX dX4_slip_59 rfl ?_
        refine j_iconst (pc := 60) hX (3 : Int32) dX4_slip_60 rfl ?_
        refine j_icmp_ne (pc := 61) hX 73 dX4_slip_61 rfl hf (fun h_ hf => ?_) (fun h_ hf => ?_)
        · refine j_iload_n (pc := 73) hX dX4_slip_73 rfl ?_
          refine j_iconst (pc := 74) hX (2 : Int32) dX4_slip_74 rfl ?_
          refine j_icmp_ne (pc := 75) hX 87 dX4_slip_75 rfl hf (fun h_ hf => ?_) (fun h_ hf => ?_)
          · refine j_iload_n (pc := 87) hX dX4_slip_87 rfl ?_
            refine j_iconst (pc := 88) hX (4 : Int32) dX4_slip_88 rfl ?_
            refine j_icmp_ne (pc := 89) hX 101 dX4_slip_89 rfl hf (fun h_ hf => ?_) (fun h_ hf => ?_)
            · refine j_iload_n (pc := 101) hX dX4_slip_101 rfl ?_
              refine j_iconst (pc := 102) hX (5 : Int32) dX4_slip_102 rfl ?_
              refine j_icmp_ne (pc := 103) hX 115 dX4_slip_103 rfl hf (fun h_ hf => ?_) (fun h_ hf => ?_)
              · refine j_iload_n (pc := 115) hX dX4_slip_115 rfl ?_
                refine j_bipush (pc := 116) hX (6 : Int32) dX4_slip_116 (by decide +kernel) ?_
                refine j_icmp_ne (pc := 118) hX 130 dX4_slip_118 rfl hf (fun h_ hf => ?_) (fun h_ hf => ?_)
                · refine j_aload_n (pc := 130) hX dX4_slip_130 rfl ?_
                  refine mg_A (pc := 131) hX 61 (by decide) 51 2 rfl rfl (by decide) q2306 dX4_slip_131 ?_
                  refine j_iload_n (pc := 134) hX dX4_slip_134 rfl ?_
                  refine mr_L (pc := 135) hX 61 24 51 (by decide) rfl rfl rfl dX4_slip_135 hf (fun x14 hx_ hf => ?_)
                  refine j_fg [0, 1, 2, 3] [none, none, none, none] rfl ?_
                  cases hf
                  exact kj56
                · refine j_aload_n (pc := 121) hX dX4_slip_121 rfl ?_
                  refine mg_A (pc := 122) hX 64 (by decide) 54 2 rfl rfl (by decide) q2309 dX4_slip_122 ?_
                  refine j_iload_n (pc := 125) hX dX4_slip_125 rfl ?_
                  refine mr_L (pc := 126) hX 64 24 54 (by decide) rfl rfl rfl dX4_slip_126 hf (fun x15 hx_ hf => ?_)
                  refine j_goto (pc := 127) hX 136 dX4_slip_127 rfl ?_
                  refine j_fg [0, 1, 2, 3] [none, none, none, none] rfl ?_
                  cases hf
                  exact kj56
              · refine j_aload_n (pc := 106) hX dX4_slip_106 rfl ?_
                refine mg_A (pc := 107) hX 63 (by decide) 53 2 rfl rfl (by decide) q2308 dX4_slip_107 ?_
                refine j_iload_n (pc := 110) hX dX4_slip_110 rfl ?_
                refine mr_L (pc := 111) hX 63 24 53 (by decide) rfl rfl rfl dX4_slip_111 hf (fun x16 hx_ hf => ?_)
                refine j_goto (pc := 112) hX 136 dX4_slip_112 rfl ?_
                refine j_fg [0, 1, 2, 3] [none, none, none, none] rfl ?_
                cases hf
                exact kj56
            · refine j_aload_n (pc := 92) hX dX4_slip_92 rfl ?_
              refine mg_A (pc := 93) hX 62 (by decide) 52 2 rfl rfl (by decide) q2307 dX4_slip_93 ?_
              refine j_iload_n (pc := 96) hX dX4_slip_96 rfl ?_
              refine mr_L (pc := 97) hX 62 24 52 (by decide) rfl rfl rfl dX4_slip_97 hf (fun x17 hx_ hf => ?_)
              refine j_goto (pc := 98) hX 136 dX4_slip_98 rfl ?_
              refine j_fg [0, 1, 2, 3] [none, none, none, none] rfl ?_
              cases hf
              exact kj56
          · refine j_aload_n (pc := 78) hX dX4_slip_78 rfl ?_
            refine mg_A (pc := 79) hX 60 (by decide) 50 2 rfl rfl (by decide) q2305 dX4_slip_79 ?_
            refine j_iload_n (pc := 82) hX dX4_slip_82 rfl ?_
            refine mr_L (pc := 83) hX 60 24 50 (by decide) rfl rfl rfl dX4_slip_83 hf (fun x18 hx_ hf => ?_)
            refine j_goto (pc := 84) hX 136 dX4_slip_84 rfl ?_
            refine j_fg [0, 1, 2, 3] [none, none, none, none] rfl ?_
            cases hf
            exact kj56
        · refine j_aload_n (pc := 64) hX dX4_slip_64 rfl ?_
          refine j_iload_n (pc := 65) hX dX4_slip_65 rfl ?_
          refine j_iload_n (pc := 66) hX dX4_slip_66 rfl ?_
          obtain ⟨x20, w19, hc_, hf⟩ := zB2_e hf
          refine j_callV (pc := 67) hX (ci := 3) mt_X4_sumOf q2701 q2703 qs62 (zIj_isC b u _) ⟨_, rfl, rfl⟩ [vI a3, vI a2] rfl rfl (Nat.le_of_ble_eq_true rfl) (by decide) dX4_slip_67 (k_X4_sumOf _ _ hc_) ?_
          refine j_goto (pc := 70) hX 136 dX4_slip_70 rfl ?_
          refine j_fg [0, 1, 2, 3] [none, none, none, none] rfl ?_
          cases hf
          exact kj56
    · refine j_ldc2 (pc := 45) hX q2542 dX4_slip_45 ?_
      exact j_lreturn (pc := 48) hX hQ (by cases hf; rfl) dX4_slip_48
  have hf := hm_
  refine j_if_eq (pc := 6) hX 17 dX4_slip_6 rfl hf (fun h_ hf => ?_) (fun h_ hf => ?_)
  · refine j_iconst (pc := 17) hX (1 : Int32) dX4_slip_17 rfl ?_
    refine j_goto (pc := 18) hX 39 dX4_slip_18 rfl ?_
    cases hf
    exact kj6
  · refine j_aload_n (pc := 9) hX dX4_slip_9 rfl ?_
    refine j_iload_n (pc := 10) hX dX4_slip_10 rfl ?_
    obtain ⟨x4, w3, hc_, hf⟩ := zB2_e hf
    refine j_callV (pc := 11) hX (ci := 3) mt_X4_isMonth q2537 q2539 qs39 (zIj_isC b u _) ⟨_, rfl, rfl⟩ [vI a2] rfl rfl (Nat.le_of_ble_eq_true rfl) (by decide) dX4_slip_11 (k_X4_isMonth _ _ hc_) ?_
    refine j_if_ne (pc := 14) hX 21 dX4_slip_14 rfl hf (fun h_ hf => ?_) (fun h_ hf => ?_)
    · refine j_aload_n (pc := 21) hX dX4_slip_21 rfl ?_
      refine j_iload_n (pc := 22) hX dX4_slip_22 rfl ?_
      refine j_i2l (pc := 23) hX dX4_slip_23 ?_
      refine j_lconst (pc := 24) hX (0 : Int64) dX4_slip_24 rfl ?_
      refine j_ldc2 (pc := 25) hX q2659 dX4_slip_25 ?_
      obtain ⟨x6, w5, hc_, hf⟩ := zB2_e hf
      refine j_callV (pc := 28) hX (ci := 3) mt_X4_in q2469 q2471 qs29 (zIj_isC b u _) ⟨_, rfl, rfl⟩ [vL (Int32.toInt64 a3), vL (0 : Int64), vL (7 : Int64)] rfl rfl (Nat.le_of_ble_eq_true rfl) (by decide) dX4_slip_28 (k_X4_in _ _ hc_) ?_
      refine j_if_eq (pc := 31) hX 38 dX4_slip_31 rfl hf (fun h_ hf => ?_) (fun h_ hf => ?_)
      · refine j_iconst (pc := 38) hX (2 : Int32) dX4_slip_38 rfl ?_
        cases hf
        exact kj6
      · refine j_iconst (pc := 34) hX (0 : Int32) dX4_slip_34 rfl ?_
        refine j_goto (pc := 35) hX 39 dX4_slip_35 rfl ?_
        cases hf
        exact kj6
    · refine j_iconst (pc := 17) hX (1 : Int32) dX4_slip_17 rfl ?_
      refine j_goto (pc := 18) hX 39 dX4_slip_18 rfl ?_
      cases hf
      exact kj6
def f_X4_slipIn (n : Nat) (a1 : Int32) (a2 : Int32) (a3 : Int32) (a4 : Int32) (w : zM) : Option (Int64 × zM) :=
  zB2 (f_X4_isPerson n a1 w) fun x2 w1 =>
  zB2 (
    if x2 = (0 : Int32) then
      some ((0 : Int32), w1)
    else
      zB2 (f_X4_isMonth n a2 w1) fun x4 w3 =>
      if x4 = (0 : Int32) then
        some ((0 : Int32), w3)
      else
        zB2 (f_X4_isPlace n a3 w3) fun x6 w5 =>
        if x6 = (0 : Int32) then
          some ((0 : Int32), w5)
        else
          some ((1 : Int32), w5)
    ) fun x7 w8 =>
  (
    if x7 = (0 : Int32) then
      some (1 : Int32)
    else
      if a4 = (0 : Int32) then
        some (0 : Int32)
      else
        if a4 = (1 : Int32) then
          some (0 : Int32)
        else
          if a4 = (3 : Int32) then
            some (0 : Int32)
          else
            some (2 : Int32)
    ).bind fun x9 =>
  zB2 (f_X4_holds n x9 w8) fun x11 w10 =>
  if x11 = (0 : Int32) then
    (f_X4_slips n a1 w10).bind fun w12 =>
    (
      if a4 = (0 : Int32) then
        (rLM w12 55 72 (((3 : Int32) * a2) + a3)).bind fun x15 =>
        some x15
      else
        if a4 = (1 : Int32) then
          (rLM w12 57 72 (((3 : Int32) * a2) + a3)).bind fun x14 =>
          some x14
        else
          (rLM w12 59 72 (((3 : Int32) * a2) + a3)).bind fun x13 =>
          some x13
      ).bind fun x16 =>
    some (x16, w12)
  else
    some ((-1 : Int64), w10)
theorem mt_X4_slipIn : zMt yX4_slipIn cX4_slipIn 7 (some .long) 4 := ⟨q2708, q82, ⟨by decide, by decide⟩, by decide +kernel, by decide⟩
set_option maxHeartbeats 4000000 in
theorem k_X4_slipIn {l : Launch} {n : Nat} {a1 : Int32} {a2 : Int32} {a3 : Int32} {a4 : Int32} {b : Nat} {u : zWd} {w : zM} (r : Int64) (w9 : zM) (hf : f_X4_slipIn n a1 a2 a3 a4 w = some (r, w9)) : zCt l yX4_slipIn cX4_slipIn 7 (some .long) 7 [vA (some b), vI a1, vI a2, vI a3, vI a4] (zIj b u w) (.inr (some (vL r), (zIj b u w9))) := by
  refine zCt_of (lv := [some (vA (some b)), some (vI a1), some (vI a2), some (vI a3), some (vI a4), none, none]) (by decide +kernel) 2 rfl rfl ?_
  intro X hX hI hN hQ
  have hX : zGd X RX4 cX4_slipIn 7 (some .long) 7 := hX
  unfold f_X4_slipIn at hf
  refine j_aload_n (pc := 0) hX dX4_slipIn_0 rfl ?_
  refine j_iload_n (pc := 1) hX dX4_slipIn_1 rfl ?_
  obtain ⟨x2, w1, hc_, hf⟩ := zB2_e hf
  refine j_callV (pc := 2) hX (ci := 3) mt_X4_isPerson q2464 q2466 qs28 (zIj_isC b u _) ⟨_, rfl, rfl⟩ [vI a1] rfl rfl (Nat.le_of_ble_eq_true rfl) (by decide) dX4_slipIn_2 (k_X4_isPerson _ _ hc_) ?_
  obtain ⟨x7, w8, hm_, hf⟩ := zB2_e hf
  have kj5 : zJ X 29 [some (vA (some b)), some (vI a1), some (vI a2), some (vI a3), some (vI a4), none, none] [vI x7] (zIj b u w8) := by
    clear hm_
    refine j_istore (pc := 29) hX dX4_slipIn_29 (by decide) [some (vA (some b)), some (vI a1), some (vI a2), some (vI a3), some (vI a4), some (vI x7), none] rfl ?_
    refine j_aload_n (pc := 31) hX dX4_slipIn_31 rfl ?_
    refine j_iload (pc := 32) hX dX4_slipIn_32 rfl ?_
    obtain ⟨x9, hm_, hf⟩ := zob hf
    have kj34 : zJ X 63 [some (vA (some b)), some (vI a1), some (vI a2), some (vI a3), some (vI a4), none, none] [vI x9, vA (some b)] (zIj b u w8) := by
      clear hm_
      obtain ⟨x11, w10, hc_, hf⟩ := zB2_e hf
      refine j_callV (pc := 63) hX (ci := 3) mt_X4_holds q2486 q2488 qs32 (zIj_isC b u _) ⟨_, rfl, rfl⟩ [vI x9] rfl rfl (Nat.le_of_ble_eq_true rfl) (by decide) dX4_slipIn_63 (k_X4_holds _ _ hc_) ?_
      refine j_if_eq (pc := 66) hX 73 dX4_slipIn_66 rfl hf (fun h_ hf => ?_) (fun h_ hf => ?_)
      · refine j_aload_n (pc := 73) hX dX4_slipIn_73 rfl ?_
        refine j_iload_n (pc := 74) hX dX4_slipIn_74 rfl ?_
        obtain ⟨w12, hc_, hf⟩ := zob hf
        refine j_callV (pc := 75) hX (ci := 3) mt_X4_slips q2660 q2662 qs52 (zIj_isC b u _) ⟨_, rfl, rfl⟩ [vI a1] rfl rfl (Nat.le_of_ble_eq_true rfl) (by decide) dX4_slipIn_75 (k_X4_slips () _ hc_) ?_
        refine j_iconst (pc := 78) hX (3 : Int32) dX4_slipIn_78 rfl ?_
        refine j_iload_n (pc := 79) hX dX4_slipIn_79 rfl ?_
        refine j_imul (pc := 80) hX dX4_slipIn_80 ?_
        refine j_iload_n (pc := 81) hX dX4_slipIn_81 rfl ?_
        refine j_iadd (pc := 82) hX dX4_slipIn_82 ?_
        refine j_istore (pc := 83) hX dX4_slipIn_83 (by decide) [some (vA (some b)), some (vI a1), some (vI a2), some (vI a3), some (vI a4), none, some (vI (((3 : Int32) * a2) + a3))] rfl ?_
        refine j_iload (pc := 85) hX dX4_slipIn_85 rfl ?_
        obtain ⟨x16, hm_, hf⟩ := zob hf
        have kj87 : zJ X 123 [none, none, none, none, none, none, none] [vL x16] (zIj b u w12) := by
          clear hm_
          exact j_lreturn (pc := 123) hX hQ (by cases hf; rfl) dX4_slipIn_123
        have hf := hm_
        refine j_if_ne (pc := 87) hX 100 dX4_slipIn_87 rfl hf (fun h_ hf => ?_) (fun h_ hf => ?_)
        · refine j_iload (pc := 100) hX dX4_slipIn_100 rfl ?_
          refine j_iconst (pc := 102) hX (1 : Int32) dX4_slipIn_102 rfl ?_
          refine j_icmp_ne (pc := 103) hX 116 dX4_slipIn_103 rfl hf (fun h_ hf => ?_) (fun h_ hf => ?_)
          · refine j_aload_n (pc := 116) hX dX4_slipIn_116 rfl ?_
            refine mg_A (pc := 117) hX 59 (by decide) 49 2 rfl rfl (by decide) q2304 dX4_slipIn_117 ?_
            refine j_iload (pc := 120) hX dX4_slipIn_120 rfl ?_
            refine mr_L (pc := 122) hX 59 72 49 (by decide) rfl rfl rfl dX4_slipIn_122 hf (fun x13 hx_ hf => ?_)
            refine j_fg [0, 1, 2, 3, 4, 6] [none, none, none, none, none, none, none] rfl ?_
            cases hf
            exact kj87
          · refine j_aload_n (pc := 106) hX dX4_slipIn_106 rfl ?_
            refine mg_A (pc := 107) hX 57 (by decide) 47 2 rfl rfl (by decide) q2302 dX4_slipIn_107 ?_
            refine j_iload (pc := 110) hX dX4_slipIn_110 rfl ?_
            refine mr_L (pc := 112) hX 57 72 47 (by decide) rfl rfl rfl dX4_slipIn_112 hf (fun x14 hx_ hf => ?_)
            refine j_goto (pc := 113) hX 123 dX4_slipIn_113 rfl ?_
            refine j_fg [0, 1, 2, 3, 4, 6] [none, none, none, none, none, none, none] rfl ?_
            cases hf
            exact kj87
        · refine j_aload_n (pc := 90) hX dX4_slipIn_90 rfl ?_
          refine mg_A (pc := 91) hX 55 (by decide) 45 2 rfl rfl (by decide) q2300 dX4_slipIn_91 ?_
          refine j_iload (pc := 94) hX dX4_slipIn_94 rfl ?_
          refine mr_L (pc := 96) hX 55 72 45 (by decide) rfl rfl rfl dX4_slipIn_96 hf (fun x15 hx_ hf => ?_)
          refine j_goto (pc := 97) hX 123 dX4_slipIn_97 rfl ?_
          refine j_fg [0, 1, 2, 3, 4, 6] [none, none, none, none, none, none, none] rfl ?_
          cases hf
          exact kj87
      · refine j_ldc2 (pc := 69) hX q2542 dX4_slipIn_69 ?_
        exact j_lreturn (pc := 72) hX hQ (by cases hf; rfl) dX4_slipIn_72
    have hf := hm_
    refine j_if_ne (pc := 34) hX 41 dX4_slipIn_34 rfl hf (fun h_ hf => ?_) (fun h_ hf => ?_)
    · refine j_iload (pc := 41) hX dX4_slipIn_41 rfl ?_
      refine j_if_eq (pc := 43) hX 58 dX4_slipIn_43 rfl hf (fun h_ hf => ?_) (fun h_ hf => ?_)
      · refine j_iconst (pc := 58) hX (0 : Int32) dX4_slipIn_58 rfl ?_
        refine j_goto (pc := 59) hX 63 dX4_slipIn_59 rfl ?_
        refine j_fg [5] [some (vA (some b)), some (vI a1), some (vI a2), some (vI a3), some (vI a4), none, none] rfl ?_
        cases hf
        exact kj34
      · refine j_iload (pc := 46) hX dX4_slipIn_46 rfl ?_
        refine j_iconst (pc := 48) hX (1 : Int32) dX4_slipIn_48 rfl ?_
        refine j_icmp_eq (pc := 49) hX 58 dX4_slipIn_49 rfl hf (fun h_ hf => ?_) (fun h_ hf => ?_)
        · refine j_iconst (pc := 58) hX (0 : Int32) dX4_slipIn_58 rfl ?_
          refine j_goto (pc := 59) hX 63 dX4_slipIn_59 rfl ?_
          refine j_fg [5] [some (vA (some b)), some (vI a1), some (vI a2), some (vI a3), some (vI a4), none, none] rfl ?_
          cases hf
          exact kj34
        · refine j_iload (pc := 52) hX dX4_slipIn_52 rfl ?_
          refine j_iconst (pc := 54) hX (3 : Int32) dX4_slipIn_54 rfl ?_
          refine j_icmp_ne (pc := 55) hX 62 dX4_slipIn_55 rfl hf (fun h_ hf => ?_) (fun h_ hf => ?_)
          · refine j_iconst (pc := 62) hX (2 : Int32) dX4_slipIn_62 rfl ?_
            refine j_fg [5] [some (vA (some b)), some (vI a1), some (vI a2), some (vI a3), some (vI a4), none, none] rfl ?_
            cases hf
            exact kj34
          · refine j_iconst (pc := 58) hX (0 : Int32) dX4_slipIn_58 rfl ?_
            refine j_goto (pc := 59) hX 63 dX4_slipIn_59 rfl ?_
            refine j_fg [5] [some (vA (some b)), some (vI a1), some (vI a2), some (vI a3), some (vI a4), none, none] rfl ?_
            cases hf
            exact kj34
    · refine j_iconst (pc := 37) hX (1 : Int32) dX4_slipIn_37 rfl ?_
      refine j_goto (pc := 38) hX 63 dX4_slipIn_38 rfl ?_
      refine j_fg [5] [some (vA (some b)), some (vI a1), some (vI a2), some (vI a3), some (vI a4), none, none] rfl ?_
      cases hf
      exact kj34
  have hf := hm_
  refine j_if_eq (pc := 5) hX 28 dX4_slipIn_5 rfl hf (fun h_ hf => ?_) (fun h_ hf => ?_)
  · refine j_iconst (pc := 28) hX (0 : Int32) dX4_slipIn_28 rfl ?_
    cases hf
    exact kj5
  · refine j_aload_n (pc := 8) hX dX4_slipIn_8 rfl ?_
    refine j_iload_n (pc := 9) hX dX4_slipIn_9 rfl ?_
    obtain ⟨x4, w3, hc_, hf⟩ := zB2_e hf
    refine j_callV (pc := 10) hX (ci := 3) mt_X4_isMonth q2537 q2539 qs39 (zIj_isC b u _) ⟨_, rfl, rfl⟩ [vI a2] rfl rfl (Nat.le_of_ble_eq_true rfl) (by decide) dX4_slipIn_10 (k_X4_isMonth _ _ hc_) ?_
    refine j_if_eq (pc := 13) hX 28 dX4_slipIn_13 rfl hf (fun h_ hf => ?_) (fun h_ hf => ?_)
    · refine j_iconst (pc := 28) hX (0 : Int32) dX4_slipIn_28 rfl ?_
      cases hf
      exact kj5
    · refine j_aload_n (pc := 16) hX dX4_slipIn_16 rfl ?_
      refine j_iload_n (pc := 17) hX dX4_slipIn_17 rfl ?_
      obtain ⟨x6, w5, hc_, hf⟩ := zB2_e hf
      refine j_callV (pc := 18) hX (ci := 3) mt_X4_isPlace q2473 q2475 qs30 (zIj_isC b u _) ⟨_, rfl, rfl⟩ [vI a3] rfl rfl (Nat.le_of_ble_eq_true rfl) (by decide) dX4_slipIn_18 (k_X4_isPlace _ _ hc_) ?_
      refine j_if_eq (pc := 21) hX 28 dX4_slipIn_21 rfl hf (fun h_ hf => ?_) (fun h_ hf => ?_)
      · refine j_iconst (pc := 28) hX (0 : Int32) dX4_slipIn_28 rfl ?_
        cases hf
        exact kj5
      · refine j_iconst (pc := 24) hX (1 : Int32) dX4_slipIn_24 rfl ?_
        refine j_goto (pc := 25) hX 29 dX4_slipIn_25 rfl ?_
        cases hf
        exact kj5
def f_X4_elementOf (n : Nat) (a1 : Int32) (a2 : Int32) (a3 : Int32) (w : zM) : Option (Int64 × zM) :=
  zB2 (f_X4_in n (Int32.toInt64 a1) (0 : Int64) (Int32.toInt64 ((mI w 26) - (1 : Int32))) w) fun x2 w1 =>
  zB2 (
    if x2 = (0 : Int32) then
      some ((0 : Int32), w1)
    else
      zB2 (f_X4_isPerson n a2 w1) fun x4 w3 =>
      if x4 = (0 : Int32) then
        some ((0 : Int32), w3)
      else
        zB2 (f_X4_isMonth n a3 w3) fun x6 w5 =>
        if x6 = (0 : Int32) then
          some ((0 : Int32), w5)
        else
          some ((1 : Int32), w5)
    ) fun x7 w8 =>
  (
    if x7 = (0 : Int32) then
      some (1 : Int32)
    else
      some (0 : Int32)
    ).bind fun x9 =>
  zB2 (f_X4_holds n x9 w8) fun x11 w10 =>
  if x11 = (0 : Int32) then
    (f_X4_slips n a2 w10).bind fun w12 =>
    (rLM w12 65 144 (((24 : Int32) * a1) + a3)).bind fun x13 =>
    some (x13, w12)
  else
    some ((-1 : Int64), w10)
theorem mt_X4_elementOf : zMt yX4_elementOf cX4_elementOf 5 (some .long) 3 := ⟨q2712, q82, ⟨by decide, by decide⟩, by decide +kernel, by decide⟩
set_option maxHeartbeats 4000000 in
theorem k_X4_elementOf {l : Launch} {n : Nat} {a1 : Int32} {a2 : Int32} {a3 : Int32} {b : Nat} {u : zWd} {w : zM} (r : Int64) (w9 : zM) (hf : f_X4_elementOf n a1 a2 a3 w = some (r, w9)) : zCt l yX4_elementOf cX4_elementOf 5 (some .long) 7 [vA (some b), vI a1, vI a2, vI a3] (zIj b u w) (.inr (some (vL r), (zIj b u w9))) := by
  refine zCt_of (lv := [some (vA (some b)), some (vI a1), some (vI a2), some (vI a3), none]) (by decide +kernel) 1 rfl rfl ?_
  intro X hX hI hN hQ
  have hX : zGd X RX4 cX4_elementOf 5 (some .long) 7 := hX
  unfold f_X4_elementOf at hf
  refine j_aload_n (pc := 0) hX dX4_elementOf_0 rfl ?_
  refine j_iload_n (pc := 1) hX dX4_elementOf_1 rfl ?_
  refine j_i2l (pc := 2) hX dX4_elementOf_2 ?_
  refine j_lconst (pc := 3) hX (0 : Int64) dX4_elementOf_3 rfl ?_
  refine j_aload_n (pc := 4) hX dX4_elementOf_4 rfl ?_
  refine mg_I (pc := 5) hX 26 (by decide) rfl q2271 dX4_elementOf_5 ?_
  refine j_iconst (pc := 8) hX (1 : Int32) dX4_elementOf_8 rfl ?_
  refine j_isub (pc := 9) hX dX4_elementOf_9 ?_
  refine j_i2l (pc := 10) hX dX4_elementOf_10 ?_
  obtain ⟨x2, w1, hc_, hf⟩ := zB2_e hf
  refine j_callV (pc := 11) hX (ci := 3) mt_X4_in q2469 q2471 qs29 (zIj_isC b u _) ⟨_, rfl, rfl⟩ [vL (Int32.toInt64 a1), vL (0 : Int64), vL (Int32.toInt64 ((mI w 26) - (1 : Int32)))] rfl rfl (Nat.le_of_ble_eq_true rfl) (by decide) dX4_elementOf_11 (k_X4_in _ _ hc_) ?_
  obtain ⟨x7, w8, hm_, hf⟩ := zB2_e hf
  have kj14 : zJ X 38 [some (vA (some b)), some (vI a1), some (vI a2), some (vI a3), none] [vI x7] (zIj b u w8) := by
    clear hm_
    refine j_istore (pc := 38) hX dX4_elementOf_38 (by decide) [some (vA (some b)), some (vI a1), some (vI a2), some (vI a3), some (vI x7)] rfl ?_
    refine j_aload_n (pc := 40) hX dX4_elementOf_40 rfl ?_
    refine j_iload (pc := 41) hX dX4_elementOf_41 rfl ?_
    obtain ⟨x9, hm_, hf⟩ := zob hf
    have kj43 : zJ X 51 [some (vA (some b)), some (vI a1), some (vI a2), some (vI a3), none] [vI x9, vA (some b)] (zIj b u w8) := by
      clear hm_
      obtain ⟨x11, w10, hc_, hf⟩ := zB2_e hf
      refine j_callV (pc := 51) hX (ci := 3) mt_X4_holds q2486 q2488 qs32 (zIj_isC b u _) ⟨_, rfl, rfl⟩ [vI x9] rfl rfl (Nat.le_of_ble_eq_true rfl) (by decide) dX4_elementOf_51 (k_X4_holds _ _ hc_) ?_
      refine j_if_eq (pc := 54) hX 61 dX4_elementOf_54 rfl hf (fun h_ hf => ?_) (fun h_ hf => ?_)
      · refine j_aload_n (pc := 61) hX dX4_elementOf_61 rfl ?_
        refine j_iload_n (pc := 62) hX dX4_elementOf_62 rfl ?_
        obtain ⟨w12, hc_, hf⟩ := zob hf
        refine j_callV (pc := 63) hX (ci := 3) mt_X4_slips q2660 q2662 qs52 (zIj_isC b u _) ⟨_, rfl, rfl⟩ [vI a2] rfl rfl (Nat.le_of_ble_eq_true rfl) (by decide) dX4_elementOf_63 (k_X4_slips () _ hc_) ?_
        refine j_aload_n (pc := 66) hX dX4_elementOf_66 rfl ?_
        refine mg_A (pc := 67) hX 65 (by decide) 55 2 rfl rfl (by decide) q2310 dX4_elementOf_67 ?_
        refine j_bipush (pc := 70) hX (24 : Int32) dX4_elementOf_70 (by decide +kernel) ?_
        refine j_iload_n (pc := 72) hX dX4_elementOf_72 rfl ?_
        refine j_imul (pc := 73) hX dX4_elementOf_73 ?_
        refine j_iload_n (pc := 74) hX dX4_elementOf_74 rfl ?_
        refine j_iadd (pc := 75) hX dX4_elementOf_75 ?_
        refine mr_L (pc := 76) hX 65 144 55 (by decide) rfl rfl rfl dX4_elementOf_76 hf (fun x13 hx_ hf => ?_)
        exact j_lreturn (pc := 77) hX hQ (by cases hf; rfl) dX4_elementOf_77
      · refine j_ldc2 (pc := 57) hX q2542 dX4_elementOf_57 ?_
        exact j_lreturn (pc := 60) hX hQ (by cases hf; rfl) dX4_elementOf_60
    have hf := hm_
    refine j_if_eq (pc := 43) hX 50 dX4_elementOf_43 rfl hf (fun h_ hf => ?_) (fun h_ hf => ?_)
    · refine j_iconst (pc := 50) hX (1 : Int32) dX4_elementOf_50 rfl ?_
      refine j_fg [4] [some (vA (some b)), some (vI a1), some (vI a2), some (vI a3), none] rfl ?_
      cases hf
      exact kj43
    · refine j_iconst (pc := 46) hX (0 : Int32) dX4_elementOf_46 rfl ?_
      refine j_goto (pc := 47) hX 51 dX4_elementOf_47 rfl ?_
      refine j_fg [4] [some (vA (some b)), some (vI a1), some (vI a2), some (vI a3), none] rfl ?_
      cases hf
      exact kj43
  have hf := hm_
  refine j_if_eq (pc := 14) hX 37 dX4_elementOf_14 rfl hf (fun h_ hf => ?_) (fun h_ hf => ?_)
  · refine j_iconst (pc := 37) hX (0 : Int32) dX4_elementOf_37 rfl ?_
    cases hf
    exact kj14
  · refine j_aload_n (pc := 17) hX dX4_elementOf_17 rfl ?_
    refine j_iload_n (pc := 18) hX dX4_elementOf_18 rfl ?_
    obtain ⟨x4, w3, hc_, hf⟩ := zB2_e hf
    refine j_callV (pc := 19) hX (ci := 3) mt_X4_isPerson q2464 q2466 qs28 (zIj_isC b u _) ⟨_, rfl, rfl⟩ [vI a2] rfl rfl (Nat.le_of_ble_eq_true rfl) (by decide) dX4_elementOf_19 (k_X4_isPerson _ _ hc_) ?_
    refine j_if_eq (pc := 22) hX 37 dX4_elementOf_22 rfl hf (fun h_ hf => ?_) (fun h_ hf => ?_)
    · refine j_iconst (pc := 37) hX (0 : Int32) dX4_elementOf_37 rfl ?_
      cases hf
      exact kj14
    · refine j_aload_n (pc := 25) hX dX4_elementOf_25 rfl ?_
      refine j_iload_n (pc := 26) hX dX4_elementOf_26 rfl ?_
      obtain ⟨x6, w5, hc_, hf⟩ := zB2_e hf
      refine j_callV (pc := 27) hX (ci := 3) mt_X4_isMonth q2537 q2539 qs39 (zIj_isC b u _) ⟨_, rfl, rfl⟩ [vI a3] rfl rfl (Nat.le_of_ble_eq_true rfl) (by decide) dX4_elementOf_27 (k_X4_isMonth _ _ hc_) ?_
      refine j_if_eq (pc := 30) hX 37 dX4_elementOf_30 rfl hf (fun h_ hf => ?_) (fun h_ hf => ?_)
      · refine j_iconst (pc := 37) hX (0 : Int32) dX4_elementOf_37 rfl ?_
        cases hf
        exact kj14
      · refine j_iconst (pc := 33) hX (1 : Int32) dX4_elementOf_33 rfl ?_
        refine j_goto (pc := 34) hX 38 dX4_elementOf_34 rfl ?_
        cases hf
        exact kj14
def f_X4_pensionOf_L48b (n : Nat) (c2 : Int32) (w : zM) (rec : Int64 → Int64 → Int32 → Int32 → Option (Int64 × Int64 × Int32)) (v3 : Int64) (v5 : Int64) (v7 : Int32) (v8 : Int32) : Option (Int64 × Int64 × Int32) :=
  if c2 < v8 then
    some (v3, v5, v7)
  else
    (rLM w 60 24 v8).bind fun x10 =>
    (rLM w 61 24 v8).bind fun x11 =>
    (rLM w 60 24 v8).bind fun x12 =>
    (
      if (lg_cmp x12 (0 : Int64)) ≤ (0 : Int32) then
        some (0 : Int32)
      else
        some (1 : Int32)
      ).bind fun x13 =>
    rec (v3 + x10) (v5 + x11) (v7 + x13) (v8 + (1))
def f_X4_pensionOf_L48 (n : Nat) (c2 : Int32) (w : zM) : Nat → Int64 → Int64 → Int32 → Int32 → Option (Int64 × Int64 × Int32)
  | 0, _, _, _, _ => none
  | k + 1, v3, v5, v7, v8 => f_X4_pensionOf_L48b n c2 w (f_X4_pensionOf_L48 n c2 w k) v3 v5 v7 v8
def f_X4_pensionOf (n : Nat) (a1 : Int32) (a2 : Int32) (w : zM) : Option (Int64 × zM) :=
  zB2 (f_X4_isPerson n a1 w) fun x2 w1 =>
  zB2 (
    if x2 = (0 : Int32) then
      some ((1 : Int32), w1)
    else
      zB2 (f_X4_isMonth n a2 w1) fun x4 w3 =>
      if x4 = (0 : Int32) then
        some ((1 : Int32), w3)
      else
        some ((0 : Int32), w3)
    ) fun x5 w6 =>
  zB2 (f_X4_holds n x5 w6) fun x8 w7 =>
  if x8 = (0 : Int32) then
    (f_X4_slips n a1 w7).bind fun w9 =>
    zB3 (f_X4_pensionOf_L48 n a2 w9 n (0 : Int64) (0 : Int64) (0 : Int32) (0 : Int32)) fun x14 x15 x16 =>
    (
      if x16 < (6 : Int32) then
        some (0 : Int64)
      else
        some x15
      ).bind fun x17 =>
    some ((x14 + x17), w9)
  else
    some ((-1 : Int64), w7)
theorem mt_X4_pensionOf : zMt yX4_pensionOf cX4_pensionOf 9 (some .long) 2 := ⟨q2716, q82, ⟨by decide, by decide⟩, by decide +kernel, by decide⟩
set_option maxHeartbeats 4000000 in
theorem lp_X4_pensionOf_L48 {X : zX} {b : Nat} {u : zWd} (hX : zGd X RX4 cX4_pensionOf 9 (some .long) 7) (n : Nat) (c2 : Int32) (w : zM) : ∀ (k : Nat) (v3 : Int64) (v5 : Int64) (v7 : Int32) (v8 : Int32) (o3 : Int64) (o5 : Int64) (o7 : Int32) , f_X4_pensionOf_L48 n c2 w k v3 v5 v7 v8 = some (o3, o5, o7) → zJ X 104 [some (vA (some b)), none, some (vI c2), some (vL o3), none, some (vL o5), none, some (vI o7), none] [] (zIj b u w) → zJ X 48 [some (vA (some b)), none, some (vI c2), some (vL v3), none, some (vL v5), none, some (vI v7), some (vI v8)] [] (zIj b u w) := by
  intro k
  induction k with
  | zero => intro v3 v5 v7 v8 o3 o5 o7 hf _; exact nomatch (show (none : Option (Int64 × Int64 × Int32)) = _ from hf)
  | succ k ih =>
    intro v3 v5 v7 v8 o3 o5 o7 hf kx
    have hf : f_X4_pensionOf_L48b n c2 w (f_X4_pensionOf_L48 n c2 w k) v3 v5 v7 v8 = _ := hf
    unfold f_X4_pensionOf_L48b at hf
    refine j_iload (pc := 48) hX dX4_pensionOf_48 rfl ?_
    refine j_iload_n (pc := 50) hX dX4_pensionOf_50 rfl ?_
    refine j_icmp_gt (pc := 51) hX 104 dX4_pensionOf_51 rfl hf (fun h_ hf => ?_) (fun h_ hf => ?_)
    · refine j_fg [8] [some (vA (some b)), none, some (vI c2), some (vL v3), none, some (vL v5), none, some (vI v7), none] rfl ?_
      cases hf
      exact kx
    · refine j_lload_n (pc := 54) hX dX4_pensionOf_54 rfl ?_
      refine j_aload_n (pc := 55) hX dX4_pensionOf_55 rfl ?_
      refine mg_A (pc := 56) hX 60 (by decide) 50 2 rfl rfl (by decide) q2305 dX4_pensionOf_56 ?_
      refine j_iload (pc := 59) hX dX4_pensionOf_59 rfl ?_
      refine mr_L (pc := 61) hX 60 24 50 (by decide) rfl rfl rfl dX4_pensionOf_61 hf (fun x10 hx_ hf => ?_)
      refine j_ladd (pc := 62) hX dX4_pensionOf_62 ?_
      refine j_lstore_n (pc := 63) hX dX4_pensionOf_63 (by decide) [some (vA (some b)), none, some (vI c2), some (vL (v3 + x10)), none, some (vL v5), none, some (vI v7), some (vI v8)] rfl ?_
      refine j_lload (pc := 64) hX dX4_pensionOf_64 rfl ?_
      refine j_aload_n (pc := 66) hX dX4_pensionOf_66 rfl ?_
      refine mg_A (pc := 67) hX 61 (by decide) 51 2 rfl rfl (by decide) q2306 dX4_pensionOf_67 ?_
      refine j_iload (pc := 70) hX dX4_pensionOf_70 rfl ?_
      refine mr_L (pc := 72) hX 61 24 51 (by decide) rfl rfl rfl dX4_pensionOf_72 hf (fun x11 hx_ hf => ?_)
      refine j_ladd (pc := 73) hX dX4_pensionOf_73 ?_
      refine j_lstore (pc := 74) hX dX4_pensionOf_74 (by decide) [some (vA (some b)), none, some (vI c2), some (vL (v3 + x10)), none, some (vL (v5 + x11)), none, some (vI v7), some (vI v8)] rfl ?_
      refine j_iload (pc := 76) hX dX4_pensionOf_76 rfl ?_
      refine j_aload_n (pc := 78) hX dX4_pensionOf_78 rfl ?_
      refine mg_A (pc := 79) hX 60 (by decide) 50 2 rfl rfl (by decide) q2305 dX4_pensionOf_79 ?_
      refine j_iload (pc := 82) hX dX4_pensionOf_82 rfl ?_
      refine mr_L (pc := 84) hX 60 24 50 (by decide) rfl rfl rfl dX4_pensionOf_84 hf (fun x12 hx_ hf => ?_)
      refine j_lconst (pc := 85) hX (0 : Int64) dX4_pensionOf_85 rfl ?_
      refine j_lcmp (pc := 86) hX dX4_pensionOf_86 ?_
      obtain ⟨x13, hm_, hf⟩ := zob hf
      have kj87 : zJ X 95 [some (vA (some b)), none, some (vI c2), some (vL (v3 + x10)), none, some (vL (v5 + x11)), none, none, some (vI v8)] [vI x13, vI v7] (zIj b u w) := by
        clear hm_
        refine j_iadd (pc := 95) hX dX4_pensionOf_95 ?_
        refine j_istore (pc := 96) hX dX4_pensionOf_96 (by decide) [some (vA (some b)), none, some (vI c2), some (vL (v3 + x10)), none, some (vL (v5 + x11)), none, some (vI (v7 + x13)), some (vI v8)] rfl ?_
        refine j_iinc (pc := 98) hX (1) dX4_pensionOf_98 rfl rfl (by decide) [some (vA (some b)), none, some (vI c2), some (vL (v3 + x10)), none, some (vL (v5 + x11)), none, some (vI (v7 + x13)), some (vI (v8 + (1)))] rfl ?_
        refine j_goto (pc := 101) hX 48 dX4_pensionOf_101 rfl ?_
        exact ih _ _ _ _ _ _ _ hf kx
      have hf := hm_
      refine j_if_le (pc := 87) hX 94 dX4_pensionOf_87 rfl hf (fun h_ hf => ?_) (fun h_ hf => ?_)
      · refine j_iconst (pc := 94) hX (0 : Int32) dX4_pensionOf_94 rfl ?_
        refine j_fg [7] [some (vA (some b)), none, some (vI c2), some (vL (v3 + x10)), none, some (vL (v5 + x11)), none, none, some (vI v8)] rfl ?_
        cases hf
        exact kj87
      · refine j_iconst (pc := 90) hX (1 : Int32) dX4_pensionOf_90 rfl ?_
        refine j_goto (pc := 91) hX 95 dX4_pensionOf_91 rfl ?_
        refine j_fg [7] [some (vA (some b)), none, some (vI c2), some (vL (v3 + x10)), none, some (vL (v5 + x11)), none, none, some (vI v8)] rfl ?_
        cases hf
        exact kj87
set_option maxHeartbeats 4000000 in
theorem k_X4_pensionOf {l : Launch} {n : Nat} {a1 : Int32} {a2 : Int32} {b : Nat} {u : zWd} {w : zM} (r : Int64) (w9 : zM) (hf : f_X4_pensionOf n a1 a2 w = some (r, w9)) : zCt l yX4_pensionOf cX4_pensionOf 9 (some .long) 7 [vA (some b), vI a1, vI a2] (zIj b u w) (.inr (some (vL r), (zIj b u w9))) := by
  refine zCt_of (lv := [some (vA (some b)), some (vI a1), some (vI a2), none, none, none, none, none, none]) (by decide +kernel) 6 rfl rfl ?_
  intro X hX hI hN hQ
  have hX : zGd X RX4 cX4_pensionOf 9 (some .long) 7 := hX
  unfold f_X4_pensionOf at hf
  refine j_aload_n (pc := 0) hX dX4_pensionOf_0 rfl ?_
  refine j_aload_n (pc := 1) hX dX4_pensionOf_1 rfl ?_
  refine j_iload_n (pc := 2) hX dX4_pensionOf_2 rfl ?_
  obtain ⟨x2, w1, hc_, hf⟩ := zB2_e hf
  refine j_callV (pc := 3) hX (ci := 3) mt_X4_isPerson q2464 q2466 qs28 (zIj_isC b u _) ⟨_, rfl, rfl⟩ [vI a1] rfl rfl (Nat.le_of_ble_eq_true rfl) (by decide) dX4_pensionOf_3 (k_X4_isPerson _ _ hc_) ?_
  obtain ⟨x5, w6, hm_, hf⟩ := zB2_e hf
  have kj6 : zJ X 22 [some (vA (some b)), some (vI a1), some (vI a2), none, none, none, none, none, none] [vI x5, vA (some b)] (zIj b u w6) := by
    clear hm_
    obtain ⟨x8, w7, hc_, hf⟩ := zB2_e hf
    refine j_callV (pc := 22) hX (ci := 3) mt_X4_holds q2486 q2488 qs32 (zIj_isC b u _) ⟨_, rfl, rfl⟩ [vI x5] rfl rfl (Nat.le_of_ble_eq_true rfl) (by decide) dX4_pensionOf_22 (k_X4_holds _ _ hc_) ?_
    refine j_if_eq (pc := 25) hX 32 dX4_pensionOf_25 rfl hf (fun h_ hf => ?_) (fun h_ hf => ?_)
    · refine j_aload_n (pc := 32) hX dX4_pensionOf_32 rfl ?_
      refine j_iload_n (pc := 33) hX dX4_pensionOf_33 rfl ?_
      obtain ⟨w9, hc_, hf⟩ := zob hf
      refine j_callV (pc := 34) hX (ci := 3) mt_X4_slips q2660 q2662 qs52 (zIj_isC b u _) ⟨_, rfl, rfl⟩ [vI a1] rfl rfl (Nat.le_of_ble_eq_true rfl) (by decide) dX4_pensionOf_34 (k_X4_slips () _ hc_) ?_
      refine j_lconst (pc := 37) hX (0 : Int64) dX4_pensionOf_37 rfl ?_
      refine j_lstore_n (pc := 38) hX dX4_pensionOf_38 (by decide) [some (vA (some b)), some (vI a1), some (vI a2), some (vL (0 : Int64)), none, none, none, none, none] rfl ?_
      refine j_lconst (pc := 39) hX (0 : Int64) dX4_pensionOf_39 rfl ?_
      refine j_lstore (pc := 40) hX dX4_pensionOf_40 (by decide) [some (vA (some b)), some (vI a1), some (vI a2), some (vL (0 : Int64)), none, some (vL (0 : Int64)), none, none, none] rfl ?_
      refine j_iconst (pc := 42) hX (0 : Int32) dX4_pensionOf_42 rfl ?_
      refine j_istore (pc := 43) hX dX4_pensionOf_43 (by decide) [some (vA (some b)), some (vI a1), some (vI a2), some (vL (0 : Int64)), none, some (vL (0 : Int64)), none, some (vI (0 : Int32)), none] rfl ?_
      refine j_iconst (pc := 45) hX (0 : Int32) dX4_pensionOf_45 rfl ?_
      refine j_istore (pc := 46) hX dX4_pensionOf_46 (by decide) [some (vA (some b)), some (vI a1), some (vI a2), some (vL (0 : Int64)), none, some (vL (0 : Int64)), none, some (vI (0 : Int32)), some (vI (0 : Int32))] rfl ?_
      obtain ⟨x14, x15, x16, hm_, hf⟩ := zB3_e hf
      refine j_fg [1] [some (vA (some b)), none, some (vI a2), some (vL (0 : Int64)), none, some (vL (0 : Int64)), none, some (vI (0 : Int32)), some (vI (0 : Int32))] rfl ?_
      refine lp_X4_pensionOf_L48 hX n _ _ _ _ _ _ _ _ _ _ hm_ ?_
      refine j_lload_n (pc := 104) hX dX4_pensionOf_104 rfl ?_
      refine j_iload (pc := 105) hX dX4_pensionOf_105 rfl ?_
      refine j_bipush (pc := 107) hX (6 : Int32) dX4_pensionOf_107 (by decide +kernel) ?_
      obtain ⟨x17, hm_, hf⟩ := zob hf
      have kj109 : zJ X 118 [none, none, none, none, none, none, none, none, none] [vL x17, vL x14] (zIj b u w9) := by
        clear hm_
        refine j_ladd (pc := 118) hX dX4_pensionOf_118 ?_
        exact j_lreturn (pc := 119) hX hQ (by cases hf; rfl) dX4_pensionOf_119
      have hf := hm_
      refine j_icmp_lt (pc := 109) hX 117 dX4_pensionOf_109 rfl hf (fun h_ hf => ?_) (fun h_ hf => ?_)
      · refine j_lconst (pc := 117) hX (0 : Int64) dX4_pensionOf_117 rfl ?_
        refine j_fg [0, 2, 3, 5, 7] [none, none, none, none, none, none, none, none, none] rfl ?_
        cases hf
        exact kj109
      · refine j_lload (pc := 112) hX dX4_pensionOf_112 rfl ?_
        refine j_goto (pc := 114) hX 118 dX4_pensionOf_114 rfl ?_
        refine j_fg [0, 2, 3, 5, 7] [none, none, none, none, none, none, none, none, none] rfl ?_
        cases hf
        exact kj109
    · refine j_ldc2 (pc := 28) hX q2542 dX4_pensionOf_28 ?_
      exact j_lreturn (pc := 31) hX hQ (by cases hf; rfl) dX4_pensionOf_31
  have hf := hm_
  refine j_if_eq (pc := 6) hX 21 dX4_pensionOf_6 rfl hf (fun h_ hf => ?_) (fun h_ hf => ?_)
  · refine j_iconst (pc := 21) hX (1 : Int32) dX4_pensionOf_21 rfl ?_
    cases hf
    exact kj6
  · refine j_aload_n (pc := 9) hX dX4_pensionOf_9 rfl ?_
    refine j_iload_n (pc := 10) hX dX4_pensionOf_10 rfl ?_
    obtain ⟨x4, w3, hc_, hf⟩ := zB2_e hf
    refine j_callV (pc := 11) hX (ci := 3) mt_X4_isMonth q2537 q2539 qs39 (zIj_isC b u _) ⟨_, rfl, rfl⟩ [vI a2] rfl rfl (Nat.le_of_ble_eq_true rfl) (by decide) dX4_pensionOf_11 (k_X4_isMonth _ _ hc_) ?_
    refine j_if_eq (pc := 14) hX 21 dX4_pensionOf_14 rfl hf (fun h_ hf => ?_) (fun h_ hf => ?_)
    · refine j_iconst (pc := 21) hX (1 : Int32) dX4_pensionOf_21 rfl ?_
      cases hf
      exact kj6
    · refine j_iconst (pc := 17) hX (0 : Int32) dX4_pensionOf_17 rfl ?_
      refine j_goto (pc := 18) hX 22 dX4_pensionOf_18 rfl ?_
      cases hf
      exact kj6
def f_X4_grossFor_L112b (n : Nat) (c1 : Int32) (c2 : Int32) (c6 : Int64) (c8 : Int32) (c9 : Int32) (rec : Int32 → Int32 → zM → Option (Int32 × zM)) (v10 : Int32) (v11 : Int32) (w : zM) : Option (Int32 × zM) :=
  if (200 : Int32) < v11 then
    some (v10, w)
  else
    if (0 : Int32) ≤ v10 then
      some (v10, w)
    else
      (sIM w 30 432 c8 (c9 + ((10000 : Int32) * v11))).bind fun w18 =>
      (f_X4_slips n c1 w18).bind fun w19 =>
      (rLM w19 62 24 c2).bind fun x20 =>
      (
        if (lg_cmp x20 c6) < (0 : Int32) then
          some (-1 : Int32)
        else
          some ((10000 : Int32) * v11)
        ).bind fun x21 =>
      rec x21 (v11 + (1)) w19
def f_X4_grossFor_L112 (n : Nat) (c1 : Int32) (c2 : Int32) (c6 : Int64) (c8 : Int32) (c9 : Int32) : Nat → Int32 → Int32 → zM → Option (Int32 × zM)
  | 0, _, _, _ => none
  | k + 1, v10, v11, w => f_X4_grossFor_L112b n c1 c2 c6 c8 c9 (f_X4_grossFor_L112 n c1 c2 c6 c8 c9 k) v10 v11 w
def f_X4_grossFor (n : Nat) (a1 : Int32) (a2 : Int32) (a3 : Int32) (a4 : Int32) (w : zM) : Option (Int32 × zM) :=
  zB2 (f_X4_isPerson n a1 w) fun x2 w1 =>
  zB2 (
    if x2 = (0 : Int32) then
      some ((0 : Int32), w1)
    else
      zB2 (f_X4_isMonth n a2 w1) fun x4 w3 =>
      if x4 = (0 : Int32) then
        some ((0 : Int32), w3)
      else
        zB2 (f_X4_isPlace n a3 w3) fun x6 w5 =>
        if x6 = (0 : Int32) then
          some ((0 : Int32), w5)
        else
          some ((1 : Int32), w5)
    ) fun x7 w8 =>
  zB2 (
    if x7 = (0 : Int32) then
      some ((1 : Int32), w8)
    else
      zB2 (f_X4_in n (Int32.toInt64 a4) (1 : Int64) (1000000 : Int64) w8) fun x10 w9 =>
      if x10 = (0 : Int32) then
        some ((2 : Int32), w9)
      else
        some ((0 : Int32), w9)
    ) fun x11 w12 =>
  zB2 (f_X4_holds n x11 w12) fun x14 w13 =>
  if x14 = (0 : Int32) then
    (f_X4_slips n a1 w13).bind fun w15 =>
    (rLM w15 62 24 a2).bind fun x16 =>
    (rIM w15 30 432 ((((72 : Int32) * a1) + ((3 : Int32) * a2)) + a3)).bind fun x17 =>
    zB2 (f_X4_grossFor_L112 n a1 a2 (x16 + (Int32.toInt64 a4)) ((((72 : Int32) * a1) + ((3 : Int32) * a2)) + a3) x17 n (-1 : Int32) (1 : Int32) w15) fun x22 w23 =>
    (sIM w23 30 432 ((((72 : Int32) * a1) + ((3 : Int32) * a2)) + a3) x17).bind fun w24 =>
    some (x22, w24)
  else
    some ((-1 : Int32), w13)
theorem mt_X4_grossFor : zMt yX4_grossFor cX4_grossFor 12 (some .int) 4 := ⟨q2720, q82, ⟨by decide, by decide⟩, by decide +kernel, by decide⟩
set_option maxHeartbeats 4000000 in
theorem lp_X4_grossFor_L112 {X : zX} {b : Nat} {u : zWd} (hX : zGd X RX4 cX4_grossFor 12 (some .int) 7) (n : Nat) (c1 : Int32) (c2 : Int32) (c6 : Int64) (c8 : Int32) (c9 : Int32) : ∀ (k : Nat) (v10 : Int32) (v11 : Int32) (w : zM) (o10 : Int32) (w9 : zM) , f_X4_grossFor_L112 n c1 c2 c6 c8 c9 k v10 v11 w = some (o10, w9) → zJ X 176 [some (vA (some b)), some (vI c1), some (vI c2), none, none, none, some (vL c6), none, some (vI c8), some (vI c9), some (vI o10), none] [] (zIj b u w9) → zJ X 112 [some (vA (some b)), some (vI c1), some (vI c2), none, none, none, some (vL c6), none, some (vI c8), some (vI c9), some (vI v10), some (vI v11)] [] (zIj b u w) := by
  intro k
  induction k with
  | zero => intro v10 v11 w o10 w9 hf _; exact nomatch (show (none : Option (Int32 × zM)) = _ from hf)
  | succ k ih =>
    intro v10 v11 w o10 w9 hf kx
    have hf : f_X4_grossFor_L112b n c1 c2 c6 c8 c9 (f_X4_grossFor_L112 n c1 c2 c6 c8 c9 k) v10 v11 w = _ := hf
    unfold f_X4_grossFor_L112b at hf
    refine j_iload (pc := 112) hX dX4_grossFor_112 rfl ?_
    refine j_sipush (pc := 114) hX (200 : Int32) dX4_grossFor_114 (by decide +kernel) ?_
    refine j_icmp_gt (pc := 117) hX 176 dX4_grossFor_117 rfl hf (fun h_ hf => ?_) (fun h_ hf => ?_)
    · refine j_fg [11] [some (vA (some b)), some (vI c1), some (vI c2), none, none, none, some (vL c6), none, some (vI c8), some (vI c9), some (vI v10), none] rfl ?_
      cases hf
      exact kx
    · refine j_iload (pc := 120) hX dX4_grossFor_120 rfl ?_
      refine j_if_ge (pc := 122) hX 176 dX4_grossFor_122 rfl hf (fun h_ hf => ?_) (fun h_ hf => ?_)
      · refine j_fg [11] [some (vA (some b)), some (vI c1), some (vI c2), none, none, none, some (vL c6), none, some (vI c8), some (vI c9), some (vI v10), none] rfl ?_
        cases hf
        exact kx
      · refine j_aload_n (pc := 125) hX dX4_grossFor_125 rfl ?_
        refine mg_A (pc := 126) hX 30 (by decide) 23 1 rfl rfl (by decide) q2275 dX4_grossFor_126 ?_
        refine j_iload (pc := 129) hX dX4_grossFor_129 rfl ?_
        refine j_iload (pc := 131) hX dX4_grossFor_131 rfl ?_
        refine j_sipush (pc := 133) hX (10000 : Int32) dX4_grossFor_133 (by decide +kernel) ?_
        refine j_iload (pc := 136) hX dX4_grossFor_136 rfl ?_
        refine j_imul (pc := 138) hX dX4_grossFor_138 ?_
        refine j_iadd (pc := 139) hX dX4_grossFor_139 ?_
        refine ms_I (pc := 140) hX 30 432 23 (by decide) rfl rfl rfl dX4_grossFor_140 hf (fun w18 hf => ?_)
        refine j_aload_n (pc := 141) hX dX4_grossFor_141 rfl ?_
        refine j_iload_n (pc := 142) hX dX4_grossFor_142 rfl ?_
        obtain ⟨w19, hc_, hf⟩ := zob hf
        refine j_callV (pc := 143) hX (ci := 3) mt_X4_slips q2660 q2662 qs52 (zIj_isC b u _) ⟨_, rfl, rfl⟩ [vI c1] rfl rfl (Nat.le_of_ble_eq_true rfl) (by decide) dX4_grossFor_143 (k_X4_slips () _ hc_) ?_
        refine j_aload_n (pc := 146) hX dX4_grossFor_146 rfl ?_
        refine mg_A (pc := 147) hX 62 (by decide) 52 2 rfl rfl (by decide) q2307 dX4_grossFor_147 ?_
        refine j_iload_n (pc := 150) hX dX4_grossFor_150 rfl ?_
        refine mr_L (pc := 151) hX 62 24 52 (by decide) rfl rfl rfl dX4_grossFor_151 hf (fun x20 hx_ hf => ?_)
        refine j_lload (pc := 152) hX dX4_grossFor_152 rfl ?_
        refine j_lcmp (pc := 154) hX dX4_grossFor_154 ?_
        obtain ⟨x21, hm_, hf⟩ := zob hf
        have kj155 : zJ X 168 [some (vA (some b)), some (vI c1), some (vI c2), none, none, none, some (vL c6), none, some (vI c8), some (vI c9), none, some (vI v11)] [vI x21] (zIj b u w19) := by
          clear hm_
          refine j_istore (pc := 168) hX dX4_grossFor_168 (by decide) [some (vA (some b)), some (vI c1), some (vI c2), none, none, none, some (vL c6), none, some (vI c8), some (vI c9), some (vI x21), some (vI v11)] rfl ?_
          refine j_iinc (pc := 170) hX (1) dX4_grossFor_170 rfl rfl (by decide) [some (vA (some b)), some (vI c1), some (vI c2), none, none, none, some (vL c6), none, some (vI c8), some (vI c9), some (vI x21), some (vI (v11 + (1)))] rfl ?_
          refine j_goto (pc := 173) hX 112 dX4_grossFor_173 rfl ?_
          exact ih _ _ _ _ _ hf kx
        have hf := hm_
        refine j_if_lt (pc := 155) hX 167 dX4_grossFor_155 rfl hf (fun h_ hf => ?_) (fun h_ hf => ?_)
        · refine j_iconst (pc := 167) hX (-1 : Int32) dX4_grossFor_167 rfl ?_
          refine j_fg [10] [some (vA (some b)), some (vI c1), some (vI c2), none, none, none, some (vL c6), none, some (vI c8), some (vI c9), none, some (vI v11)] rfl ?_
          simp only [Option.some.injEq, Prod.mk.injEq] at hf
          obtain rfl := hf
          exact kj155
        · refine j_sipush (pc := 158) hX (10000 : Int32) dX4_grossFor_158 (by decide +kernel) ?_
          refine j_iload (pc := 161) hX dX4_grossFor_161 rfl ?_
          refine j_imul (pc := 163) hX dX4_grossFor_163 ?_
          refine j_goto (pc := 164) hX 168 dX4_grossFor_164 rfl ?_
          refine j_fg [10] [some (vA (some b)), some (vI c1), some (vI c2), none, none, none, some (vL c6), none, some (vI c8), some (vI c9), none, some (vI v11)] rfl ?_
          cases hf
          exact kj155
set_option maxHeartbeats 4000000 in
theorem k_X4_grossFor {l : Launch} {n : Nat} {a1 : Int32} {a2 : Int32} {a3 : Int32} {a4 : Int32} {b : Nat} {u : zWd} {w : zM} (r : Int32) (w9 : zM) (hf : f_X4_grossFor n a1 a2 a3 a4 w = some (r, w9)) : zCt l yX4_grossFor cX4_grossFor 12 (some .int) 7 [vA (some b), vI a1, vI a2, vI a3, vI a4] (zIj b u w) (.inr (some (vI r), (zIj b u w9))) := by
  refine zCt_of (lv := [some (vA (some b)), some (vI a1), some (vI a2), some (vI a3), some (vI a4), none, none, none, none, none, none, none]) (by decide +kernel) 7 rfl rfl ?_
  intro X hX hI hN hQ
  have hX : zGd X RX4 cX4_grossFor 12 (some .int) 7 := hX
  unfold f_X4_grossFor at hf
  refine j_aload_n (pc := 0) hX dX4_grossFor_0 rfl ?_
  refine j_iload_n (pc := 1) hX dX4_grossFor_1 rfl ?_
  obtain ⟨x2, w1, hc_, hf⟩ := zB2_e hf
  refine j_callV (pc := 2) hX (ci := 3) mt_X4_isPerson q2464 q2466 qs28 (zIj_isC b u _) ⟨_, rfl, rfl⟩ [vI a1] rfl rfl (Nat.le_of_ble_eq_true rfl) (by decide) dX4_grossFor_2 (k_X4_isPerson _ _ hc_) ?_
  obtain ⟨x7, w8, hm_, hf⟩ := zB2_e hf
  have kj5 : zJ X 29 [some (vA (some b)), some (vI a1), some (vI a2), some (vI a3), some (vI a4), none, none, none, none, none, none, none] [vI x7] (zIj b u w8) := by
    clear hm_
    refine j_istore (pc := 29) hX dX4_grossFor_29 (by decide) [some (vA (some b)), some (vI a1), some (vI a2), some (vI a3), some (vI a4), some (vI x7), none, none, none, none, none, none] rfl ?_
    refine j_aload_n (pc := 31) hX dX4_grossFor_31 rfl ?_
    refine j_iload (pc := 32) hX dX4_grossFor_32 rfl ?_
    obtain ⟨x11, w12, hm_, hf⟩ := zB2_e hf
    have kj34 : zJ X 60 [some (vA (some b)), some (vI a1), some (vI a2), some (vI a3), some (vI a4), none, none, none, none, none, none, none] [vI x11, vA (some b)] (zIj b u w12) := by
      clear hm_
      obtain ⟨x14, w13, hc_, hf⟩ := zB2_e hf
      refine j_callV (pc := 60) hX (ci := 3) mt_X4_holds q2486 q2488 qs32 (zIj_isC b u _) ⟨_, rfl, rfl⟩ [vI x11] rfl rfl (Nat.le_of_ble_eq_true rfl) (by decide) dX4_grossFor_60 (k_X4_holds _ _ hc_) ?_
      refine j_if_eq (pc := 63) hX 68 dX4_grossFor_63 rfl hf (fun h_ hf => ?_) (fun h_ hf => ?_)
      · refine j_aload_n (pc := 68) hX dX4_grossFor_68 rfl ?_
        refine j_iload_n (pc := 69) hX dX4_grossFor_69 rfl ?_
        obtain ⟨w15, hc_, hf⟩ := zob hf
        refine j_callV (pc := 70) hX (ci := 3) mt_X4_slips q2660 q2662 qs52 (zIj_isC b u _) ⟨_, rfl, rfl⟩ [vI a1] rfl rfl (Nat.le_of_ble_eq_true rfl) (by decide) dX4_grossFor_70 (k_X4_slips () _ hc_) ?_
        refine j_aload_n (pc := 73) hX dX4_grossFor_73 rfl ?_
        refine mg_A (pc := 74) hX 62 (by decide) 52 2 rfl rfl (by decide) q2307 dX4_grossFor_74 ?_
        refine j_iload_n (pc := 77) hX dX4_grossFor_77 rfl ?_
        refine mr_L (pc := 78) hX 62 24 52 (by decide) rfl rfl rfl dX4_grossFor_78 hf (fun x16 hx_ hf => ?_)
        refine j_iload (pc := 79) hX dX4_grossFor_79 rfl ?_
        refine j_i2l (pc := 81) hX dX4_grossFor_81 ?_
        refine j_ladd (pc := 82) hX dX4_grossFor_82 ?_
        refine j_lstore (pc := 83) hX dX4_grossFor_83 (by decide) [some (vA (some b)), some (vI a1), some (vI a2), some (vI a3), some (vI a4), none, some (vL (x16 + (Int32.toInt64 a4))), none, none, none, none, none] rfl ?_
        refine j_bipush (pc := 85) hX (72 : Int32) dX4_grossFor_85 (by decide +kernel) ?_
        refine j_iload_n (pc := 87) hX dX4_grossFor_87 rfl ?_
        refine j_imul (pc := 88) hX dX4_grossFor_88 ?_
        refine j_iconst (pc := 89) hX (3 : Int32) dX4_grossFor_89 rfl ?_
        refine j_iload_n (pc := 90) hX dX4_grossFor_90 rfl ?_
        refine j_imul (pc := 91) hX dX4_grossFor_91 ?_
        refine j_iadd (pc := 92) hX dX4_grossFor_92 ?_
        refine j_iload_n (pc := 93) hX dX4_grossFor_93 rfl ?_
        refine j_iadd (pc := 94) hX dX4_grossFor_94 ?_
        refine j_istore (pc := 95) hX dX4_grossFor_95 (by decide) [some (vA (some b)), some (vI a1), some (vI a2), some (vI a3), some (vI a4), none, some (vL (x16 + (Int32.toInt64 a4))), none, some (vI ((((72 : Int32) * a1) + ((3 : Int32) * a2)) + a3)), none, none, none] rfl ?_
        refine j_aload_n (pc := 97) hX dX4_grossFor_97 rfl ?_
        refine mg_A (pc := 98) hX 30 (by decide) 23 1 rfl rfl (by decide) q2275 dX4_grossFor_98 ?_
        refine j_iload (pc := 101) hX dX4_grossFor_101 rfl ?_
        refine mr_I (pc := 103) hX 30 432 23 (by decide) rfl rfl rfl dX4_grossFor_103 hf (fun x17 hx_ hf => ?_)
        refine j_istore (pc := 104) hX dX4_grossFor_104 (by decide) [some (vA (some b)), some (vI a1), some (vI a2), some (vI a3), some (vI a4), none, some (vL (x16 + (Int32.toInt64 a4))), none, some (vI ((((72 : Int32) * a1) + ((3 : Int32) * a2)) + a3)), some (vI x17), none, none] rfl ?_
        refine j_iconst (pc := 106) hX (-1 : Int32) dX4_grossFor_106 rfl ?_
        refine j_istore (pc := 107) hX dX4_grossFor_107 (by decide) [some (vA (some b)), some (vI a1), some (vI a2), some (vI a3), some (vI a4), none, some (vL (x16 + (Int32.toInt64 a4))), none, some (vI ((((72 : Int32) * a1) + ((3 : Int32) * a2)) + a3)), some (vI x17), some (vI (-1 : Int32)), none] rfl ?_
        refine j_iconst (pc := 109) hX (1 : Int32) dX4_grossFor_109 rfl ?_
        refine j_istore (pc := 110) hX dX4_grossFor_110 (by decide) [some (vA (some b)), some (vI a1), some (vI a2), some (vI a3), some (vI a4), none, some (vL (x16 + (Int32.toInt64 a4))), none, some (vI ((((72 : Int32) * a1) + ((3 : Int32) * a2)) + a3)), some (vI x17), some (vI (-1 : Int32)), some (vI (1 : Int32))] rfl ?_
        obtain ⟨x22, w23, hm_, hf⟩ := zB2_e hf
        refine j_fg [3, 4] [some (vA (some b)), some (vI a1), some (vI a2), none, none, none, some (vL (x16 + (Int32.toInt64 a4))), none, some (vI ((((72 : Int32) * a1) + ((3 : Int32) * a2)) + a3)), some (vI x17), some (vI (-1 : Int32)), some (vI (1 : Int32))] rfl ?_
        refine lp_X4_grossFor_L112 hX n _ _ _ _ _ _ _ _ _ _ _ hm_ ?_
        refine j_aload_n (pc := 176) hX dX4_grossFor_176 rfl ?_
        refine mg_A (pc := 177) hX 30 (by decide) 23 1 rfl rfl (by decide) q2275 dX4_grossFor_177 ?_
        refine j_iload (pc := 180) hX dX4_grossFor_180 rfl ?_
        refine j_iload (pc := 182) hX dX4_grossFor_182 rfl ?_
        refine ms_I (pc := 184) hX 30 432 23 (by decide) rfl rfl rfl dX4_grossFor_184 hf (fun w24 hf => ?_)
        refine j_iload (pc := 185) hX dX4_grossFor_185 rfl ?_
        exact j_ireturn (pc := 187) hX hQ (by cases hf; rfl) dX4_grossFor_187
      · refine j_iconst (pc := 66) hX (-1 : Int32) dX4_grossFor_66 rfl ?_
        exact j_ireturn (pc := 67) hX hQ (by cases hf; rfl) dX4_grossFor_67
    have hf := hm_
    refine j_if_ne (pc := 34) hX 41 dX4_grossFor_34 rfl hf (fun h_ hf => ?_) (fun h_ hf => ?_)
    · refine j_aload_n (pc := 41) hX dX4_grossFor_41 rfl ?_
      refine j_iload (pc := 42) hX dX4_grossFor_42 rfl ?_
      refine j_i2l (pc := 44) hX dX4_grossFor_44 ?_
      refine j_lconst (pc := 45) hX (1 : Int64) dX4_grossFor_45 rfl ?_
      refine j_ldc2 (pc := 46) hX q2485 dX4_grossFor_46 ?_
      obtain ⟨x10, w9, hc_, hf⟩ := zB2_e hf
      refine j_callV (pc := 49) hX (ci := 3) mt_X4_in q2469 q2471 qs29 (zIj_isC b u _) ⟨_, rfl, rfl⟩ [vL (Int32.toInt64 a4), vL (1 : Int64), vL (1000000 : Int64)] rfl rfl (Nat.le_of_ble_eq_true rfl) (by decide) dX4_grossFor_49 (k_X4_in _ _ hc_) ?_
      refine j_if_eq (pc := 52) hX 59 dX4_grossFor_52 rfl hf (fun h_ hf => ?_) (fun h_ hf => ?_)
      · refine j_iconst (pc := 59) hX (2 : Int32) dX4_grossFor_59 rfl ?_
        refine j_fg [5] [some (vA (some b)), some (vI a1), some (vI a2), some (vI a3), some (vI a4), none, none, none, none, none, none, none] rfl ?_
        cases hf
        exact kj34
      · refine j_iconst (pc := 55) hX (0 : Int32) dX4_grossFor_55 rfl ?_
        refine j_goto (pc := 56) hX 60 dX4_grossFor_56 rfl ?_
        refine j_fg [5] [some (vA (some b)), some (vI a1), some (vI a2), some (vI a3), some (vI a4), none, none, none, none, none, none, none] rfl ?_
        cases hf
        exact kj34
    · refine j_iconst (pc := 37) hX (1 : Int32) dX4_grossFor_37 rfl ?_
      refine j_goto (pc := 38) hX 60 dX4_grossFor_38 rfl ?_
      refine j_fg [5] [some (vA (some b)), some (vI a1), some (vI a2), some (vI a3), some (vI a4), none, none, none, none, none, none, none] rfl ?_
      cases hf
      exact kj34
  have hf := hm_
  refine j_if_eq (pc := 5) hX 28 dX4_grossFor_5 rfl hf (fun h_ hf => ?_) (fun h_ hf => ?_)
  · refine j_iconst (pc := 28) hX (0 : Int32) dX4_grossFor_28 rfl ?_
    cases hf
    exact kj5
  · refine j_aload_n (pc := 8) hX dX4_grossFor_8 rfl ?_
    refine j_iload_n (pc := 9) hX dX4_grossFor_9 rfl ?_
    obtain ⟨x4, w3, hc_, hf⟩ := zB2_e hf
    refine j_callV (pc := 10) hX (ci := 3) mt_X4_isMonth q2537 q2539 qs39 (zIj_isC b u _) ⟨_, rfl, rfl⟩ [vI a2] rfl rfl (Nat.le_of_ble_eq_true rfl) (by decide) dX4_grossFor_10 (k_X4_isMonth _ _ hc_) ?_
    refine j_if_eq (pc := 13) hX 28 dX4_grossFor_13 rfl hf (fun h_ hf => ?_) (fun h_ hf => ?_)
    · refine j_iconst (pc := 28) hX (0 : Int32) dX4_grossFor_28 rfl ?_
      cases hf
      exact kj5
    · refine j_aload_n (pc := 16) hX dX4_grossFor_16 rfl ?_
      refine j_iload_n (pc := 17) hX dX4_grossFor_17 rfl ?_
      obtain ⟨x6, w5, hc_, hf⟩ := zB2_e hf
      refine j_callV (pc := 18) hX (ci := 3) mt_X4_isPlace q2473 q2475 qs30 (zIj_isC b u _) ⟨_, rfl, rfl⟩ [vI a3] rfl rfl (Nat.le_of_ble_eq_true rfl) (by decide) dX4_grossFor_18 (k_X4_isPlace _ _ hc_) ?_
      refine j_if_eq (pc := 21) hX 28 dX4_grossFor_21 rfl hf (fun h_ hf => ?_) (fun h_ hf => ?_)
      · refine j_iconst (pc := 28) hX (0 : Int32) dX4_grossFor_28 rfl ?_
        cases hf
        exact kj5
      · refine j_iconst (pc := 24) hX (1 : Int32) dX4_grossFor_24 rfl ?_
        refine j_goto (pc := 25) hX 29 dX4_grossFor_25 rfl ?_
        cases hf
        exact kj5
def f_X4_garnish (n : Nat) (a1 : Int32) (a2 : Int32) (a3 : Int32) (a4 : Int32) (a5 : Int32) (a6 : Int32) (w : zM) : Option (Int32 × zM) :=
  zB2 (f_X4_in n (Int32.toInt64 a3) (0 : Int64) (9 : Int64) w) fun x2 w1 =>
  zB2 (
    if x2 = (0 : Int32) then
      some ((0 : Int32), w1)
    else
      zB2 (f_X4_in n (Int32.toInt64 a4) (1 : Int64) (100000000 : Int64) w1) fun x4 w3 =>
      if x4 = (0 : Int32) then
        some ((0 : Int32), w3)
      else
        zB2 (f_X4_in n (Int32.toInt64 a5) (1 : Int64) (1000 : Int64) w3) fun x6 w5 =>
        if x6 = (0 : Int32) then
          some ((0 : Int32), w5)
        else
          zB2 (f_X4_in n (Int32.toInt64 a6) (0 : Int64) (100000000 : Int64) w5) fun x8 w7 =>
          if x8 = (0 : Int32) then
            some ((0 : Int32), w7)
          else
            some ((1 : Int32), w7)
    ) fun x9 w10 =>
  zB2 (f_X4_isPerson n a1 w10) fun x12 w11 =>
  zB2 (
    if x12 = (0 : Int32) then
      some ((1 : Int32), w11)
    else
      zB2 (f_X4_isMonth n a2 w11) fun x14 w13 =>
      if x14 = (0 : Int32) then
        some ((1 : Int32), w13)
      else
        if x9 = (0 : Int32) then
          some ((2 : Int32), w13)
        else
          if (mI w13 44) = (6 : Int32) then
            some ((3 : Int32), w13)
          else
            some ((0 : Int32), w13)
    ) fun x15 w16 =>
  zB2 (f_X4_holds n x15 w16) fun x18 w17 =>
  if x18 = (0 : Int32) then
    (sIM w17 38 6 (mI w17 44) a1).bind fun w19 =>
    (sIM w19 39 6 (mI w17 44) a2).bind fun w20 =>
    (sIM w20 40 6 (mI w17 44) a3).bind fun w21 =>
    (sIM w21 41 6 (mI w17 44) a4).bind fun w22 =>
    (sIM w22 42 6 (mI w17 44) a5).bind fun w23 =>
    (sIM w23 43 6 (mI w17 44) a6).bind fun w24 =>
    (pM w24 44 ((mI w24 44) + (1 : Int32))).bind fun w25 =>
    some ((mI w17 44), w25)
  else
    some ((-1 : Int32), w17)
theorem mt_X4_garnish : zMt yX4_garnish cX4_garnish 9 (some .int) 6 := ⟨q2724, q82, ⟨by decide, by decide⟩, by decide +kernel, by decide⟩
set_option maxHeartbeats 4000000 in
theorem k_X4_garnish {l : Launch} {n : Nat} {a1 : Int32} {a2 : Int32} {a3 : Int32} {a4 : Int32} {a5 : Int32} {a6 : Int32} {b : Nat} {u : zWd} {w : zM} (r : Int32) (w9 : zM) (hf : f_X4_garnish n a1 a2 a3 a4 a5 a6 w = some (r, w9)) : zCt l yX4_garnish cX4_garnish 9 (some .int) 3 [vA (some b), vI a1, vI a2, vI a3, vI a4, vI a5, vI a6] (zIj b u w) (.inr (some (vI r), (zIj b u w9))) := by
  refine zCt_of (lv := [some (vA (some b)), some (vI a1), some (vI a2), some (vI a3), some (vI a4), some (vI a5), some (vI a6), none, none]) (by decide +kernel) 2 rfl rfl ?_
  intro X hX hI hN hQ
  have hX : zGd X RX4 cX4_garnish 9 (some .int) 3 := hX
  unfold f_X4_garnish at hf
  refine j_aload_n (pc := 0) hX dX4_garnish_0 rfl ?_
  refine j_iload_n (pc := 1) hX dX4_garnish_1 rfl ?_
  refine j_i2l (pc := 2) hX dX4_garnish_2 ?_
  refine j_lconst (pc := 3) hX (0 : Int64) dX4_garnish_3 rfl ?_
  refine j_ldc2 (pc := 4) hX q2588 dX4_garnish_4 ?_
  obtain ⟨x2, w1, hc_, hf⟩ := zB2_e hf
  refine j_callV (pc := 7) hX (ci := 3) mt_X4_in q2469 q2471 qs29 (zIj_isC b u _) ⟨_, rfl, rfl⟩ [vL (Int32.toInt64 a3), vL (0 : Int64), vL (9 : Int64)] rfl rfl (Nat.le_of_ble_eq_true rfl) (by decide) dX4_garnish_7 (k_X4_in _ _ hc_) ?_
  obtain ⟨x9, w10, hm_, hf⟩ := zB2_e hf
  have kj10 : zJ X 60 [some (vA (some b)), some (vI a1), some (vI a2), some (vI a3), some (vI a4), some (vI a5), some (vI a6), none, none] [vI x9] (zIj b u w10) := by
    clear hm_
    refine j_istore (pc := 60) hX dX4_garnish_60 (by decide) [some (vA (some b)), some (vI a1), some (vI a2), some (vI a3), some (vI a4), some (vI a5), some (vI a6), some (vI x9), none] rfl ?_
    refine j_aload_n (pc := 62) hX dX4_garnish_62 rfl ?_
    refine j_aload_n (pc := 63) hX dX4_garnish_63 rfl ?_
    refine j_iload_n (pc := 64) hX dX4_garnish_64 rfl ?_
    obtain ⟨x12, w11, hc_, hf⟩ := zB2_e hf
    refine j_callV (pc := 65) hX (ci := 3) mt_X4_isPerson q2464 q2466 qs28 (zIj_isC b u _) ⟨_, rfl, rfl⟩ [vI a1] rfl rfl (Nat.le_of_ble_eq_true rfl) (by decide) dX4_garnish_65 (k_X4_isPerson _ _ hc_) ?_
    obtain ⟨x15, w16, hm_, hf⟩ := zB2_e hf
    have kj68 : zJ X 106 [some (vA (some b)), some (vI a1), some (vI a2), some (vI a3), some (vI a4), some (vI a5), some (vI a6), none, none] [vI x15, vA (some b)] (zIj b u w16) := by
      clear hm_
      obtain ⟨x18, w17, hc_, hf⟩ := zB2_e hf
      refine j_callV (pc := 106) hX (ci := 3) mt_X4_holds q2486 q2488 qs32 (zIj_isC b u _) ⟨_, rfl, rfl⟩ [vI x15] rfl rfl (Nat.le_of_ble_eq_true rfl) (by decide) dX4_garnish_106 (k_X4_holds _ _ hc_) ?_
      refine j_if_eq (pc := 109) hX 114 dX4_garnish_109 rfl hf (fun h_ hf => ?_) (fun h_ hf => ?_)
      · refine j_aload_n (pc := 114) hX dX4_garnish_114 rfl ?_
        refine mg_I (pc := 115) hX 44 (by decide) rfl q2289 dX4_garnish_115 ?_
        refine j_istore (pc := 118) hX dX4_garnish_118 (by decide) [some (vA (some b)), some (vI a1), some (vI a2), some (vI a3), some (vI a4), some (vI a5), some (vI a6), none, some (vI (mI w17 44))] rfl ?_
        refine j_aload_n (pc := 120) hX dX4_garnish_120 rfl ?_
        refine mg_A (pc := 121) hX 38 (by decide) 31 1 rfl rfl (by decide) q2283 dX4_garnish_121 ?_
        refine j_iload (pc := 124) hX dX4_garnish_124 rfl ?_
        refine j_iload_n (pc := 126) hX dX4_garnish_126 rfl ?_
        refine ms_I (pc := 127) hX 38 6 31 (by decide) rfl rfl rfl dX4_garnish_127 hf (fun w19 hf => ?_)
        refine j_aload_n (pc := 128) hX dX4_garnish_128 rfl ?_
        refine mg_A (pc := 129) hX 39 (by decide) 32 1 rfl rfl (by decide) q2284 dX4_garnish_129 ?_
        refine j_iload (pc := 132) hX dX4_garnish_132 rfl ?_
        refine j_iload_n (pc := 134) hX dX4_garnish_134 rfl ?_
        refine ms_I (pc := 135) hX 39 6 32 (by decide) rfl rfl rfl dX4_garnish_135 hf (fun w20 hf => ?_)
        refine j_aload_n (pc := 136) hX dX4_garnish_136 rfl ?_
        refine mg_A (pc := 137) hX 40 (by decide) 33 1 rfl rfl (by decide) q2285 dX4_garnish_137 ?_
        refine j_iload (pc := 140) hX dX4_garnish_140 rfl ?_
        refine j_iload_n (pc := 142) hX dX4_garnish_142 rfl ?_
        refine ms_I (pc := 143) hX 40 6 33 (by decide) rfl rfl rfl dX4_garnish_143 hf (fun w21 hf => ?_)
        refine j_aload_n (pc := 144) hX dX4_garnish_144 rfl ?_
        refine mg_A (pc := 145) hX 41 (by decide) 34 1 rfl rfl (by decide) q2286 dX4_garnish_145 ?_
        refine j_iload (pc := 148) hX dX4_garnish_148 rfl ?_
        refine j_iload (pc := 150) hX dX4_garnish_150 rfl ?_
        refine ms_I (pc := 152) hX 41 6 34 (by decide) rfl rfl rfl dX4_garnish_152 hf (fun w22 hf => ?_)
        refine j_aload_n (pc := 153) hX dX4_garnish_153 rfl ?_
        refine mg_A (pc := 154) hX 42 (by decide) 35 1 rfl rfl (by decide) q2287 dX4_garnish_154 ?_
        refine j_iload (pc := 157) hX dX4_garnish_157 rfl ?_
        refine j_iload (pc := 159) hX dX4_garnish_159 rfl ?_
        refine ms_I (pc := 161) hX 42 6 35 (by decide) rfl rfl rfl dX4_garnish_161 hf (fun w23 hf => ?_)
        refine j_aload_n (pc := 162) hX dX4_garnish_162 rfl ?_
        refine mg_A (pc := 163) hX 43 (by decide) 36 1 rfl rfl (by decide) q2288 dX4_garnish_163 ?_
        refine j_iload (pc := 166) hX dX4_garnish_166 rfl ?_
        refine j_iload (pc := 168) hX dX4_garnish_168 rfl ?_
        refine ms_I (pc := 170) hX 43 6 36 (by decide) rfl rfl rfl dX4_garnish_170 hf (fun w24 hf => ?_)
        refine j_aload_n (pc := 171) hX dX4_garnish_171 rfl ?_
        refine j_dup (pc := 172) hX rfl dX4_garnish_172 ?_
        refine mg_I (pc := 173) hX 44 (by decide) rfl q2289 dX4_garnish_173 ?_
        refine j_iconst (pc := 176) hX (1 : Int32) dX4_garnish_176 rfl ?_
        refine j_iadd (pc := 177) hX dX4_garnish_177 ?_
        refine mp_I (pc := 178) hX 44 (by decide) rfl rfl q2289 dX4_garnish_178 hf (fun w25 hf => ?_)
        refine j_iload (pc := 181) hX dX4_garnish_181 rfl ?_
        exact j_ireturn (pc := 183) hX hQ (by cases hf; rfl) dX4_garnish_183
      · refine j_iconst (pc := 112) hX (-1 : Int32) dX4_garnish_112 rfl ?_
        exact j_ireturn (pc := 113) hX hQ (by cases hf; rfl) dX4_garnish_113
    have hf := hm_
    refine j_if_eq (pc := 68) hX 79 dX4_garnish_68 rfl hf (fun h_ hf => ?_) (fun h_ hf => ?_)
    · refine j_iconst (pc := 79) hX (1 : Int32) dX4_garnish_79 rfl ?_
      refine j_goto (pc := 80) hX 106 dX4_garnish_80 rfl ?_
      refine j_fg [7] [some (vA (some b)), some (vI a1), some (vI a2), some (vI a3), some (vI a4), some (vI a5), some (vI a6), none, none] rfl ?_
      cases hf
      exact kj68
    · refine j_aload_n (pc := 71) hX dX4_garnish_71 rfl ?_
      refine j_iload_n (pc := 72) hX dX4_garnish_72 rfl ?_
      obtain ⟨x14, w13, hc_, hf⟩ := zB2_e hf
      refine j_callV (pc := 73) hX (ci := 3) mt_X4_isMonth q2537 q2539 qs39 (zIj_isC b u _) ⟨_, rfl, rfl⟩ [vI a2] rfl rfl (Nat.le_of_ble_eq_true rfl) (by decide) dX4_garnish_73 (k_X4_isMonth _ _ hc_) ?_
      refine j_if_ne (pc := 76) hX 83 dX4_garnish_76 rfl hf (fun h_ hf => ?_) (fun h_ hf => ?_)
      · refine j_iload (pc := 83) hX dX4_garnish_83 rfl ?_
        refine j_if_ne (pc := 85) hX 92 dX4_garnish_85 rfl hf (fun h_ hf => ?_) (fun h_ hf => ?_)
        · refine j_aload_n (pc := 92) hX dX4_garnish_92 rfl ?_
          refine mg_I (pc := 93) hX 44 (by decide) rfl q2289 dX4_garnish_93 ?_
          refine j_bipush (pc := 96) hX (6 : Int32) dX4_garnish_96 (by decide +kernel) ?_
          refine j_icmp_ne (pc := 98) hX 105 dX4_garnish_98 rfl hf (fun h_ hf => ?_) (fun h_ hf => ?_)
          · refine j_iconst (pc := 105) hX (0 : Int32) dX4_garnish_105 rfl ?_
            refine j_fg [7] [some (vA (some b)), some (vI a1), some (vI a2), some (vI a3), some (vI a4), some (vI a5), some (vI a6), none, none] rfl ?_
            cases hf
            exact kj68
          · refine j_iconst (pc := 101) hX (3 : Int32) dX4_garnish_101 rfl ?_
            refine j_goto (pc := 102) hX 106 dX4_garnish_102 rfl ?_
            refine j_fg [7] [some (vA (some b)), some (vI a1), some (vI a2), some (vI a3), some (vI a4), some (vI a5), some (vI a6), none, none] rfl ?_
            cases hf
            exact kj68
        · refine j_iconst (pc := 88) hX (2 : Int32) dX4_garnish_88 rfl ?_
          refine j_goto (pc := 89) hX 106 dX4_garnish_89 rfl ?_
          refine j_fg [7] [some (vA (some b)), some (vI a1), some (vI a2), some (vI a3), some (vI a4), some (vI a5), some (vI a6), none, none] rfl ?_
          cases hf
          exact kj68
      · refine j_iconst (pc := 79) hX (1 : Int32) dX4_garnish_79 rfl ?_
        refine j_goto (pc := 80) hX 106 dX4_garnish_80 rfl ?_
        refine j_fg [7] [some (vA (some b)), some (vI a1), some (vI a2), some (vI a3), some (vI a4), some (vI a5), some (vI a6), none, none] rfl ?_
        cases hf
        exact kj68
  have hf := hm_
  refine j_if_eq (pc := 10) hX 59 dX4_garnish_10 rfl hf (fun h_ hf => ?_) (fun h_ hf => ?_)
  · refine j_iconst (pc := 59) hX (0 : Int32) dX4_garnish_59 rfl ?_
    cases hf
    exact kj10
  · refine j_aload_n (pc := 13) hX dX4_garnish_13 rfl ?_
    refine j_iload (pc := 14) hX dX4_garnish_14 rfl ?_
    refine j_i2l (pc := 16) hX dX4_garnish_16 ?_
    refine j_lconst (pc := 17) hX (1 : Int64) dX4_garnish_17 rfl ?_
    refine j_ldc2 (pc := 18) hX q2625 dX4_garnish_18 ?_
    obtain ⟨x4, w3, hc_, hf⟩ := zB2_e hf
    refine j_callV (pc := 21) hX (ci := 3) mt_X4_in q2469 q2471 qs29 (zIj_isC b u _) ⟨_, rfl, rfl⟩ [vL (Int32.toInt64 a4), vL (1 : Int64), vL (100000000 : Int64)] rfl rfl (Nat.le_of_ble_eq_true rfl) (by decide) dX4_garnish_21 (k_X4_in _ _ hc_) ?_
    refine j_if_eq (pc := 24) hX 59 dX4_garnish_24 rfl hf (fun h_ hf => ?_) (fun h_ hf => ?_)
    · refine j_iconst (pc := 59) hX (0 : Int32) dX4_garnish_59 rfl ?_
      cases hf
      exact kj10
    · refine j_aload_n (pc := 27) hX dX4_garnish_27 rfl ?_
      refine j_iload (pc := 28) hX dX4_garnish_28 rfl ?_
      refine j_i2l (pc := 30) hX dX4_garnish_30 ?_
      refine j_lconst (pc := 31) hX (1 : Int64) dX4_garnish_31 rfl ?_
      refine j_ldc2 (pc := 32) hX q2654 dX4_garnish_32 ?_
      obtain ⟨x6, w5, hc_, hf⟩ := zB2_e hf
      refine j_callV (pc := 35) hX (ci := 3) mt_X4_in q2469 q2471 qs29 (zIj_isC b u _) ⟨_, rfl, rfl⟩ [vL (Int32.toInt64 a5), vL (1 : Int64), vL (1000 : Int64)] rfl rfl (Nat.le_of_ble_eq_true rfl) (by decide) dX4_garnish_35 (k_X4_in _ _ hc_) ?_
      refine j_if_eq (pc := 38) hX 59 dX4_garnish_38 rfl hf (fun h_ hf => ?_) (fun h_ hf => ?_)
      · refine j_iconst (pc := 59) hX (0 : Int32) dX4_garnish_59 rfl ?_
        cases hf
        exact kj10
      · refine j_aload_n (pc := 41) hX dX4_garnish_41 rfl ?_
        refine j_iload (pc := 42) hX dX4_garnish_42 rfl ?_
        refine j_i2l (pc := 44) hX dX4_garnish_44 ?_
        refine j_lconst (pc := 45) hX (0 : Int64) dX4_garnish_45 rfl ?_
        refine j_ldc2 (pc := 46) hX q2625 dX4_garnish_46 ?_
        obtain ⟨x8, w7, hc_, hf⟩ := zB2_e hf
        refine j_callV (pc := 49) hX (ci := 3) mt_X4_in q2469 q2471 qs29 (zIj_isC b u _) ⟨_, rfl, rfl⟩ [vL (Int32.toInt64 a6), vL (0 : Int64), vL (100000000 : Int64)] rfl rfl (Nat.le_of_ble_eq_true rfl) (by decide) dX4_garnish_49 (k_X4_in _ _ hc_) ?_
        refine j_if_eq (pc := 52) hX 59 dX4_garnish_52 rfl hf (fun h_ hf => ?_) (fun h_ hf => ?_)
        · refine j_iconst (pc := 59) hX (0 : Int32) dX4_garnish_59 rfl ?_
          cases hf
          exact kj10
        · refine j_iconst (pc := 55) hX (1 : Int32) dX4_garnish_55 rfl ?_
          refine j_goto (pc := 56) hX 60 dX4_garnish_56 rfl ?_
          cases hf
          exact kj10
def f_X4_takenBy (n : Nat) (a1 : Int32) (a2 : Int32) (w : zM) : Option (Int64 × zM) :=
  zB2 (f_X4_in n (Int32.toInt64 a1) (0 : Int64) (Int32.toInt64 ((mI w 44) - (1 : Int32))) w) fun x2 w1 =>
  zB2 (
    if x2 = (0 : Int32) then
      some ((1 : Int32), w1)
    else
      zB2 (f_X4_isMonth n a2 w1) fun x4 w3 =>
      if x4 = (0 : Int32) then
        some ((1 : Int32), w3)
      else
        some ((0 : Int32), w3)
    ) fun x5 w6 =>
  zB2 (f_X4_holds n x5 w6) fun x8 w7 =>
  if x8 = (0 : Int32) then
    (rIM w7 38 6 a1).bind fun x9 =>
    (f_X4_slips n x9 w7).bind fun w10 =>
    (rLM w10 66 144 (((24 : Int32) * a1) + a2)).bind fun x11 =>
    some (x11, w10)
  else
    some ((-1 : Int64), w7)
theorem mt_X4_takenBy : zMt yX4_takenBy cX4_takenBy 3 (some .long) 2 := ⟨q2728, q82, ⟨by decide, by decide⟩, by decide +kernel, by decide⟩
set_option maxHeartbeats 4000000 in
theorem k_X4_takenBy {l : Launch} {n : Nat} {a1 : Int32} {a2 : Int32} {b : Nat} {u : zWd} {w : zM} (r : Int64) (w9 : zM) (hf : f_X4_takenBy n a1 a2 w = some (r, w9)) : zCt l yX4_takenBy cX4_takenBy 3 (some .long) 7 [vA (some b), vI a1, vI a2] (zIj b u w) (.inr (some (vL r), (zIj b u w9))) := by
  refine zCt_of (lv := [some (vA (some b)), some (vI a1), some (vI a2)]) (by decide +kernel) 0 rfl rfl ?_
  intro X hX hI hN hQ
  have hX : zGd X RX4 cX4_takenBy 3 (some .long) 7 := hX
  unfold f_X4_takenBy at hf
  refine j_aload_n (pc := 0) hX dX4_takenBy_0 rfl ?_
  refine j_aload_n (pc := 1) hX dX4_takenBy_1 rfl ?_
  refine j_iload_n (pc := 2) hX dX4_takenBy_2 rfl ?_
  refine j_i2l (pc := 3) hX dX4_takenBy_3 ?_
  refine j_lconst (pc := 4) hX (0 : Int64) dX4_takenBy_4 rfl ?_
  refine j_aload_n (pc := 5) hX dX4_takenBy_5 rfl ?_
  refine mg_I (pc := 6) hX 44 (by decide) rfl q2289 dX4_takenBy_6 ?_
  refine j_iconst (pc := 9) hX (1 : Int32) dX4_takenBy_9 rfl ?_
  refine j_isub (pc := 10) hX dX4_takenBy_10 ?_
  refine j_i2l (pc := 11) hX dX4_takenBy_11 ?_
  obtain ⟨x2, w1, hc_, hf⟩ := zB2_e hf
  refine j_callV (pc := 12) hX (ci := 3) mt_X4_in q2469 q2471 qs29 (zIj_isC b u _) ⟨_, rfl, rfl⟩ [vL (Int32.toInt64 a1), vL (0 : Int64), vL (Int32.toInt64 ((mI w 44) - (1 : Int32)))] rfl rfl (Nat.le_of_ble_eq_true rfl) (by decide) dX4_takenBy_12 (k_X4_in _ _ hc_) ?_
  obtain ⟨x5, w6, hm_, hf⟩ := zB2_e hf
  have kj15 : zJ X 31 [some (vA (some b)), some (vI a1), some (vI a2)] [vI x5, vA (some b)] (zIj b u w6) := by
    clear hm_
    obtain ⟨x8, w7, hc_, hf⟩ := zB2_e hf
    refine j_callV (pc := 31) hX (ci := 3) mt_X4_holds q2486 q2488 qs32 (zIj_isC b u _) ⟨_, rfl, rfl⟩ [vI x5] rfl rfl (Nat.le_of_ble_eq_true rfl) (by decide) dX4_takenBy_31 (k_X4_holds _ _ hc_) ?_
    refine j_if_eq (pc := 34) hX 41 dX4_takenBy_34 rfl hf (fun h_ hf => ?_) (fun h_ hf => ?_)
    · refine j_aload_n (pc := 41) hX dX4_takenBy_41 rfl ?_
      refine j_aload_n (pc := 42) hX dX4_takenBy_42 rfl ?_
      refine mg_A (pc := 43) hX 38 (by decide) 31 1 rfl rfl (by decide) q2283 dX4_takenBy_43 ?_
      refine j_iload_n (pc := 46) hX dX4_takenBy_46 rfl ?_
      refine mr_I (pc := 47) hX 38 6 31 (by decide) rfl rfl rfl dX4_takenBy_47 hf (fun x9 hx_ hf => ?_)
      obtain ⟨w10, hc_, hf⟩ := zob hf
      refine j_callV (pc := 48) hX (ci := 3) mt_X4_slips q2660 q2662 qs52 (zIj_isC b u _) ⟨_, rfl, rfl⟩ [vI x9] rfl rfl (Nat.le_of_ble_eq_true rfl) (by decide) dX4_takenBy_48 (k_X4_slips () _ hc_) ?_
      refine j_aload_n (pc := 51) hX dX4_takenBy_51 rfl ?_
      refine mg_A (pc := 52) hX 66 (by decide) 56 2 rfl rfl (by decide) q2311 dX4_takenBy_52 ?_
      refine j_bipush (pc := 55) hX (24 : Int32) dX4_takenBy_55 (by decide +kernel) ?_
      refine j_iload_n (pc := 57) hX dX4_takenBy_57 rfl ?_
      refine j_imul (pc := 58) hX dX4_takenBy_58 ?_
      refine j_iload_n (pc := 59) hX dX4_takenBy_59 rfl ?_
      refine j_iadd (pc := 60) hX dX4_takenBy_60 ?_
      refine mr_L (pc := 61) hX 66 144 56 (by decide) rfl rfl rfl dX4_takenBy_61 hf (fun x11 hx_ hf => ?_)
      exact j_lreturn (pc := 62) hX hQ (by cases hf; rfl) dX4_takenBy_62
    · refine j_ldc2 (pc := 37) hX q2542 dX4_takenBy_37 ?_
      exact j_lreturn (pc := 40) hX hQ (by cases hf; rfl) dX4_takenBy_40
  have hf := hm_
  refine j_if_eq (pc := 15) hX 30 dX4_takenBy_15 rfl hf (fun h_ hf => ?_) (fun h_ hf => ?_)
  · refine j_iconst (pc := 30) hX (1 : Int32) dX4_takenBy_30 rfl ?_
    cases hf
    exact kj15
  · refine j_aload_n (pc := 18) hX dX4_takenBy_18 rfl ?_
    refine j_iload_n (pc := 19) hX dX4_takenBy_19 rfl ?_
    obtain ⟨x4, w3, hc_, hf⟩ := zB2_e hf
    refine j_callV (pc := 20) hX (ci := 3) mt_X4_isMonth q2537 q2539 qs39 (zIj_isC b u _) ⟨_, rfl, rfl⟩ [vI a2] rfl rfl (Nat.le_of_ble_eq_true rfl) (by decide) dX4_takenBy_20 (k_X4_isMonth _ _ hc_) ?_
    refine j_if_eq (pc := 23) hX 30 dX4_takenBy_23 rfl hf (fun h_ hf => ?_) (fun h_ hf => ?_)
    · refine j_iconst (pc := 30) hX (1 : Int32) dX4_takenBy_30 rfl ?_
      cases hf
      exact kj15
    · refine j_iconst (pc := 26) hX (0 : Int32) dX4_takenBy_26 rfl ?_
      refine j_goto (pc := 27) hX 31 dX4_takenBy_27 rfl ?_
      cases hf
      exact kj15
def f_X4_advance_L78b (n : Nat) (c1 : Int32) (w : zM) (rec : Int64 → Int32 → Option (Int64)) (v3 : Int64) (v5 : Int32) : Option (Int64) :=
  if (24 : Int32) ≤ v5 then
    some v3
  else
    (rLM w 45 144 (((24 : Int32) * c1) + v5)).bind fun x11 =>
    rec (v3 + x11) (v5 + (1))
def f_X4_advance_L78 (n : Nat) (c1 : Int32) (w : zM) : Nat → Int64 → Int32 → Option (Int64)
  | 0, _, _ => none
  | k + 1, v3, v5 => f_X4_advance_L78b n c1 w (f_X4_advance_L78 n c1 w k) v3 v5
def f_X4_advance (n : Nat) (a1 : Int32) (a2 : Int32) (w : zM) : Option (Int64 × zM) :=
  zB2 (f_X4_isPerson n a1 w) fun x2 w1 =>
  zB2 (
    if x2 = (0 : Int32) then
      some ((1 : Int32), w1)
    else
      zB2 (f_X4_in n (Int32.toInt64 a2) (1 : Int64) (1000000 : Int64) w1) fun x4 w3 =>
      if x4 = (0 : Int32) then
        some ((2 : Int32), w3)
      else
        if (mI w3 46) = (24 : Int32) then
          some ((3 : Int32), w3)
        else
          some ((0 : Int32), w3)
    ) fun x5 w6 =>
  zB2 (f_X4_holds n x5 w6) fun x8 w7 =>
  if x8 = (0 : Int32) then
    (rLM w7 45 144 (((24 : Int32) * a1) + (mI w7 46))).bind fun x9 =>
    (sLM w7 45 144 (((24 : Int32) * a1) + (mI w7 46)) (x9 + (Int32.toInt64 a2))).bind fun w10 =>
    (f_X4_advance_L78 n a1 w10 n (0 : Int64) (0 : Int32)).bind fun x12 =>
    some (x12, w10)
  else
    some ((-1 : Int64), w7)
theorem mt_X4_advance : zMt yX4_advance cX4_advance 6 (some .long) 2 := ⟨q2732, q82, ⟨by decide, by decide⟩, by decide +kernel, by decide⟩
set_option maxHeartbeats 4000000 in
theorem lp_X4_advance_L78 {X : zX} {b : Nat} {u : zWd} (hX : zGd X RX4 cX4_advance 6 (some .long) 3) (n : Nat) (c1 : Int32) (w : zM) : ∀ (k : Nat) (v3 : Int64) (v5 : Int32) (o3 : Int64) , f_X4_advance_L78 n c1 w k v3 v5 = some o3 → zJ X 106 [some (vA (some b)), some (vI c1), none, some (vL o3), none, none] [] (zIj b u w) → zJ X 78 [some (vA (some b)), some (vI c1), none, some (vL v3), none, some (vI v5)] [] (zIj b u w) := by
  intro k
  induction k with
  | zero => intro v3 v5 o3 hf _; exact nomatch (show (none : Option (Int64)) = _ from hf)
  | succ k ih =>
    intro v3 v5 o3 hf kx
    have hf : f_X4_advance_L78b n c1 w (f_X4_advance_L78 n c1 w k) v3 v5 = _ := hf
    unfold f_X4_advance_L78b at hf
    refine j_iload (pc := 78) hX dX4_advance_78 rfl ?_
    refine j_bipush (pc := 80) hX (24 : Int32) dX4_advance_80 (by decide +kernel) ?_
    refine j_icmp_ge (pc := 82) hX 106 dX4_advance_82 rfl hf (fun h_ hf => ?_) (fun h_ hf => ?_)
    · refine j_fg [5] [some (vA (some b)), some (vI c1), none, some (vL v3), none, none] rfl ?_
      cases hf
      exact kx
    · refine j_lload_n (pc := 85) hX dX4_advance_85 rfl ?_
      refine j_aload_n (pc := 86) hX dX4_advance_86 rfl ?_
      refine mg_A (pc := 87) hX 45 (by decide) 37 2 rfl rfl (by decide) q2290 dX4_advance_87 ?_
      refine j_bipush (pc := 90) hX (24 : Int32) dX4_advance_90 (by decide +kernel) ?_
      refine j_iload_n (pc := 92) hX dX4_advance_92 rfl ?_
      refine j_imul (pc := 93) hX dX4_advance_93 ?_
      refine j_iload (pc := 94) hX dX4_advance_94 rfl ?_
      refine j_iadd (pc := 96) hX dX4_advance_96 ?_
      refine mr_L (pc := 97) hX 45 144 37 (by decide) rfl rfl rfl dX4_advance_97 hf (fun x11 hx_ hf => ?_)
      refine j_ladd (pc := 98) hX dX4_advance_98 ?_
      refine j_lstore_n (pc := 99) hX dX4_advance_99 (by decide) [some (vA (some b)), some (vI c1), none, some (vL (v3 + x11)), none, some (vI v5)] rfl ?_
      refine j_iinc (pc := 100) hX (1) dX4_advance_100 rfl rfl (by decide) [some (vA (some b)), some (vI c1), none, some (vL (v3 + x11)), none, some (vI (v5 + (1)))] rfl ?_
      refine j_goto (pc := 103) hX 78 dX4_advance_103 rfl ?_
      exact ih _ _ _ hf kx
set_option maxHeartbeats 4000000 in
theorem k_X4_advance {l : Launch} {n : Nat} {a1 : Int32} {a2 : Int32} {b : Nat} {u : zWd} {w : zM} (r : Int64) (w9 : zM) (hf : f_X4_advance n a1 a2 w = some (r, w9)) : zCt l yX4_advance cX4_advance 6 (some .long) 3 [vA (some b), vI a1, vI a2] (zIj b u w) (.inr (some (vL r), (zIj b u w9))) := by
  refine zCt_of (lv := [some (vA (some b)), some (vI a1), some (vI a2), none, none, none]) (by decide +kernel) 3 rfl rfl ?_
  intro X hX hI hN hQ
  have hX : zGd X RX4 cX4_advance 6 (some .long) 3 := hX
  unfold f_X4_advance at hf
  refine j_aload_n (pc := 0) hX dX4_advance_0 rfl ?_
  refine j_aload_n (pc := 1) hX dX4_advance_1 rfl ?_
  refine j_iload_n (pc := 2) hX dX4_advance_2 rfl ?_
  obtain ⟨x2, w1, hc_, hf⟩ := zB2_e hf
  refine j_callV (pc := 3) hX (ci := 3) mt_X4_isPerson q2464 q2466 qs28 (zIj_isC b u _) ⟨_, rfl, rfl⟩ [vI a1] rfl rfl (Nat.le_of_ble_eq_true rfl) (by decide) dX4_advance_3 (k_X4_isPerson _ _ hc_) ?_
  obtain ⟨x5, w6, hm_, hf⟩ := zB2_e hf
  have kj6 : zJ X 44 [some (vA (some b)), some (vI a1), some (vI a2), none, none, none] [vI x5, vA (some b)] (zIj b u w6) := by
    clear hm_
    obtain ⟨x8, w7, hc_, hf⟩ := zB2_e hf
    refine j_callV (pc := 44) hX (ci := 3) mt_X4_holds q2486 q2488 qs32 (zIj_isC b u _) ⟨_, rfl, rfl⟩ [vI x5] rfl rfl (Nat.le_of_ble_eq_true rfl) (by decide) dX4_advance_44 (k_X4_holds _ _ hc_) ?_
    refine j_if_eq (pc := 47) hX 54 dX4_advance_47 rfl hf (fun h_ hf => ?_) (fun h_ hf => ?_)
    · refine j_aload_n (pc := 54) hX dX4_advance_54 rfl ?_
      refine mg_A (pc := 55) hX 45 (by decide) 37 2 rfl rfl (by decide) q2290 dX4_advance_55 ?_
      refine j_bipush (pc := 58) hX (24 : Int32) dX4_advance_58 (by decide +kernel) ?_
      refine j_iload_n (pc := 60) hX dX4_advance_60 rfl ?_
      refine j_imul (pc := 61) hX dX4_advance_61 ?_
      refine j_aload_n (pc := 62) hX dX4_advance_62 rfl ?_
      refine mg_I (pc := 63) hX 46 (by decide) rfl q2291 dX4_advance_63 ?_
      refine j_iadd (pc := 66) hX dX4_advance_66 ?_
      refine j_dup2 (pc := 67) hX rfl rfl dX4_advance_67 ?_
      refine mr_L (pc := 68) hX 45 144 37 (by decide) rfl rfl rfl dX4_advance_68 hf (fun x9 hx_ hf => ?_)
      refine j_iload_n (pc := 69) hX dX4_advance_69 rfl ?_
      refine j_i2l (pc := 70) hX dX4_advance_70 ?_
      refine j_ladd (pc := 71) hX dX4_advance_71 ?_
      refine ms_L (pc := 72) hX 45 144 37 (by decide) rfl rfl rfl dX4_advance_72 hf (fun w10 hf => ?_)
      refine j_lconst (pc := 73) hX (0 : Int64) dX4_advance_73 rfl ?_
      refine j_lstore_n (pc := 74) hX dX4_advance_74 (by decide) [some (vA (some b)), some (vI a1), some (vI a2), some (vL (0 : Int64)), none, none] rfl ?_
      refine j_iconst (pc := 75) hX (0 : Int32) dX4_advance_75 rfl ?_
      refine j_istore (pc := 76) hX dX4_advance_76 (by decide) [some (vA (some b)), some (vI a1), some (vI a2), some (vL (0 : Int64)), none, some (vI (0 : Int32))] rfl ?_
      obtain ⟨x12, hm_, hf⟩ := zob hf
      refine j_fg [2] [some (vA (some b)), some (vI a1), none, some (vL (0 : Int64)), none, some (vI (0 : Int32))] rfl ?_
      refine lp_X4_advance_L78 hX n _ _ _ _ _ _ hm_ ?_
      refine j_lload_n (pc := 106) hX dX4_advance_106 rfl ?_
      exact j_lreturn (pc := 107) hX hQ (by cases hf; rfl) dX4_advance_107
    · refine j_ldc2 (pc := 50) hX q2542 dX4_advance_50 ?_
      exact j_lreturn (pc := 53) hX hQ (by cases hf; rfl) dX4_advance_53
  have hf := hm_
  refine j_if_ne (pc := 6) hX 13 dX4_advance_6 rfl hf (fun h_ hf => ?_) (fun h_ hf => ?_)
  · refine j_aload_n (pc := 13) hX dX4_advance_13 rfl ?_
    refine j_iload_n (pc := 14) hX dX4_advance_14 rfl ?_
    refine j_i2l (pc := 15) hX dX4_advance_15 ?_
    refine j_lconst (pc := 16) hX (1 : Int64) dX4_advance_16 rfl ?_
    refine j_ldc2 (pc := 17) hX q2485 dX4_advance_17 ?_
    obtain ⟨x4, w3, hc_, hf⟩ := zB2_e hf
    refine j_callV (pc := 20) hX (ci := 3) mt_X4_in q2469 q2471 qs29 (zIj_isC b u _) ⟨_, rfl, rfl⟩ [vL (Int32.toInt64 a2), vL (1 : Int64), vL (1000000 : Int64)] rfl rfl (Nat.le_of_ble_eq_true rfl) (by decide) dX4_advance_20 (k_X4_in _ _ hc_) ?_
    refine j_if_ne (pc := 23) hX 30 dX4_advance_23 rfl hf (fun h_ hf => ?_) (fun h_ hf => ?_)
    · refine j_aload_n (pc := 30) hX dX4_advance_30 rfl ?_
      refine mg_I (pc := 31) hX 46 (by decide) rfl q2291 dX4_advance_31 ?_
      refine j_bipush (pc := 34) hX (24 : Int32) dX4_advance_34 (by decide +kernel) ?_
      refine j_icmp_ne (pc := 36) hX 43 dX4_advance_36 rfl hf (fun h_ hf => ?_) (fun h_ hf => ?_)
      · refine j_iconst (pc := 43) hX (0 : Int32) dX4_advance_43 rfl ?_
        cases hf
        exact kj6
      · refine j_iconst (pc := 39) hX (3 : Int32) dX4_advance_39 rfl ?_
        refine j_goto (pc := 40) hX 44 dX4_advance_40 rfl ?_
        cases hf
        exact kj6
    · refine j_iconst (pc := 26) hX (2 : Int32) dX4_advance_26 rfl ?_
      refine j_goto (pc := 27) hX 44 dX4_advance_27 rfl ?_
      cases hf
      exact kj6
  · refine j_iconst (pc := 9) hX (1 : Int32) dX4_advance_9 rfl ?_
    refine j_goto (pc := 10) hX 44 dX4_advance_10 rfl ?_
    cases hf
    exact kj6
def f_X4_open (n : Nat) (w : zM) : Option (Int32 × zM) :=
  zB2 (f_X4_holds n (0 : Int32) w) fun x2 w1 =>
  some ((mI w1 46), w1)
theorem mt_X4_open : zMt yX4_open cX4_open 1 (some .int) 0 := ⟨q2736, q82, ⟨by decide, by decide⟩, by decide +kernel, by decide⟩
set_option maxHeartbeats 4000000 in
theorem k_X4_open {l : Launch} {n : Nat} {b : Nat} {u : zWd} {w : zM} (r : Int32) (w9 : zM) (hf : f_X4_open n w = some (r, w9)) : zCt l yX4_open cX4_open 1 (some .int) 2 [vA (some b)] (zIj b u w) (.inr (some (vI r), (zIj b u w9))) := by
  refine zCt_of (lv := [some (vA (some b))]) (by decide +kernel) 0 rfl rfl ?_
  intro X hX hI hN hQ
  have hX : zGd X RX4 cX4_open 1 (some .int) 2 := hX
  unfold f_X4_open at hf
  refine j_aload_n (pc := 0) hX dX4_open_0 rfl ?_
  refine j_iconst (pc := 1) hX (0 : Int32) dX4_open_1 rfl ?_
  obtain ⟨x2, w1, hc_, hf⟩ := zB2_e hf
  refine j_callV (pc := 2) hX (ci := 3) mt_X4_holds q2486 q2488 qs32 (zIj_isC b u _) ⟨_, rfl, rfl⟩ [vI (0 : Int32)] rfl rfl (Nat.le_of_ble_eq_true rfl) (by decide) dX4_open_2 (k_X4_holds _ _ hc_) ?_
  refine j_pop (pc := 5) hX rfl dX4_open_5 ?_
  refine j_aload_n (pc := 6) hX dX4_open_6 rfl ?_
  refine mg_I (pc := 7) hX 46 (by decide) rfl q2291 dX4_open_7 ?_
  exact j_ireturn (pc := 10) hX hQ (by cases hf; rfl) dX4_open_10
def f_X4_owes_L10b (n : Nat) (c1 : Int32) (c2 : Int32) (w : zM) (rec : Int64 → Int32 → Option (Int64)) (v3 : Int64) (v5 : Int32) : Option (Int64) :=
  if c2 < v5 then
    some v3
  else
    (rLM w 64 24 v5).bind fun x2 =>
    rec (v3 + x2) (v5 + (1))
def f_X4_owes_L10 (n : Nat) (c1 : Int32) (c2 : Int32) (w : zM) : Nat → Int64 → Int32 → Option (Int64)
  | 0, _, _ => none
  | k + 1, v3, v5 => f_X4_owes_L10b n c1 c2 w (f_X4_owes_L10 n c1 c2 w k) v3 v5
def f_X4_owes_L35b (n : Nat) (c1 : Int32) (w : zM) (rec : Int64 → Int32 → Option (Int64)) (v3 : Int64) (v5 : Int32) : Option (Int64) :=
  if (mI w 51) ≤ v5 then
    some v3
  else
    (rIM w 47 144 v5).bind fun x4 =>
    (
      if x4 = c1 then
        (rIM w 50 144 v5).bind fun x5 =>
        if x5 = (0 : Int32) then
          (rLM w 49 144 v5).bind fun x6 =>
          some x6
        else
          some (0 : Int64)
      else
        some (0 : Int64)
      ).bind fun x7 =>
    rec (v3 - x7) (v5 + (1))
def f_X4_owes_L35 (n : Nat) (c1 : Int32) (w : zM) : Nat → Int64 → Int32 → Option (Int64)
  | 0, _, _ => none
  | k + 1, v3, v5 => f_X4_owes_L35b n c1 w (f_X4_owes_L35 n c1 w k) v3 v5
def f_X4_owes (n : Nat) (a1 : Int32) (a2 : Int32) (w : zM) : Option (Int64 × zM) :=
  (f_X4_slips n a1 w).bind fun w1 =>
  (f_X4_owes_L10 n a1 a2 w1 n (0 : Int64) (0 : Int32)).bind fun x3 =>
  (f_X4_owes_L35 n a1 w1 n x3 (0 : Int32)).bind fun x8 =>
  some (x8, w1)
theorem mt_X4_owes : zMt yX4_owes cX4_owes 6 (some .long) 2 := ⟨q2744, q82, ⟨by decide, by decide⟩, by decide +kernel, by decide⟩
set_option maxHeartbeats 4000000 in
theorem lp_X4_owes_L10 {X : zX} {b : Nat} {u : zWd} (hX : zGd X RX4 cX4_owes 6 (some .long) 7) (n : Nat) (c1 : Int32) (c2 : Int32) (w : zM) : ∀ (k : Nat) (v3 : Int64) (v5 : Int32) (o3 : Int64) , f_X4_owes_L10 n c1 c2 w k v3 v5 = some o3 → zJ X 32 [some (vA (some b)), some (vI c1), some (vI c2), some (vL o3), none, none] [] (zIj b u w) → zJ X 10 [some (vA (some b)), some (vI c1), some (vI c2), some (vL v3), none, some (vI v5)] [] (zIj b u w) := by
  intro k
  induction k with
  | zero => intro v3 v5 o3 hf _; exact nomatch (show (none : Option (Int64)) = _ from hf)
  | succ k ih =>
    intro v3 v5 o3 hf kx
    have hf : f_X4_owes_L10b n c1 c2 w (f_X4_owes_L10 n c1 c2 w k) v3 v5 = _ := hf
    unfold f_X4_owes_L10b at hf
    refine j_iload (pc := 10) hX dX4_owes_10 rfl ?_
    refine j_iload_n (pc := 12) hX dX4_owes_12 rfl ?_
    refine j_icmp_gt (pc := 13) hX 32 dX4_owes_13 rfl hf (fun h_ hf => ?_) (fun h_ hf => ?_)
    · refine j_fg [5] [some (vA (some b)), some (vI c1), some (vI c2), some (vL v3), none, none] rfl ?_
      cases hf
      exact kx
    · refine j_lload_n (pc := 16) hX dX4_owes_16 rfl ?_
      refine j_aload_n (pc := 17) hX dX4_owes_17 rfl ?_
      refine mg_A (pc := 18) hX 64 (by decide) 54 2 rfl rfl (by decide) q2309 dX4_owes_18 ?_
      refine j_iload (pc := 21) hX dX4_owes_21 rfl ?_
      refine mr_L (pc := 23) hX 64 24 54 (by decide) rfl rfl rfl dX4_owes_23 hf (fun x2 hx_ hf => ?_)
      refine j_ladd (pc := 24) hX dX4_owes_24 ?_
      refine j_lstore_n (pc := 25) hX dX4_owes_25 (by decide) [some (vA (some b)), some (vI c1), some (vI c2), some (vL (v3 + x2)), none, some (vI v5)] rfl ?_
      refine j_iinc (pc := 26) hX (1) dX4_owes_26 rfl rfl (by decide) [some (vA (some b)), some (vI c1), some (vI c2), some (vL (v3 + x2)), none, some (vI (v5 + (1)))] rfl ?_
      refine j_goto (pc := 29) hX 10 dX4_owes_29 rfl ?_
      exact ih _ _ _ hf kx
set_option maxHeartbeats 4000000 in
theorem lp_X4_owes_L35 {X : zX} {b : Nat} {u : zWd} (hX : zGd X RX4 cX4_owes 6 (some .long) 7) (n : Nat) (c1 : Int32) (w : zM) : ∀ (k : Nat) (v3 : Int64) (v5 : Int32) (o3 : Int64) , f_X4_owes_L35 n c1 w k v3 v5 = some o3 → zJ X 85 [some (vA (some b)), some (vI c1), none, some (vL o3), none, none] [] (zIj b u w) → zJ X 35 [some (vA (some b)), some (vI c1), none, some (vL v3), none, some (vI v5)] [] (zIj b u w) := by
  intro k
  induction k with
  | zero => intro v3 v5 o3 hf _; exact nomatch (show (none : Option (Int64)) = _ from hf)
  | succ k ih =>
    intro v3 v5 o3 hf kx
    have hf : f_X4_owes_L35b n c1 w (f_X4_owes_L35 n c1 w k) v3 v5 = _ := hf
    unfold f_X4_owes_L35b at hf
    refine j_iload (pc := 35) hX dX4_owes_35 rfl ?_
    refine j_aload_n (pc := 37) hX dX4_owes_37 rfl ?_
    refine mg_I (pc := 38) hX 51 (by decide) rfl q2296 dX4_owes_38 ?_
    refine j_icmp_ge (pc := 41) hX 85 dX4_owes_41 rfl hf (fun h_ hf => ?_) (fun h_ hf => ?_)
    · refine j_fg [5] [some (vA (some b)), some (vI c1), none, some (vL v3), none, none] rfl ?_
      cases hf
      exact kx
    · refine j_lload_n (pc := 44) hX dX4_owes_44 rfl ?_
      refine j_aload_n (pc := 45) hX dX4_owes_45 rfl ?_
      refine mg_A (pc := 46) hX 47 (by decide) 38 1 rfl rfl (by decide) q2292 dX4_owes_46 ?_
      refine j_iload (pc := 49) hX dX4_owes_49 rfl ?_
      refine mr_I (pc := 51) hX 47 144 38 (by decide) rfl rfl rfl dX4_owes_51 hf (fun x4 hx_ hf => ?_)
      refine j_iload_n (pc := 52) hX dX4_owes_52 rfl ?_
      obtain ⟨x7, hm_, hf⟩ := zob hf
      have kj53 : zJ X 77 [some (vA (some b)), some (vI c1), none, none, none, some (vI v5)] [vL x7, vL v3] (zIj b u w) := by
        clear hm_
        refine j_lsub (pc := 77) hX dX4_owes_77 ?_
        refine j_lstore_n (pc := 78) hX dX4_owes_78 (by decide) [some (vA (some b)), some (vI c1), none, some (vL (v3 - x7)), none, some (vI v5)] rfl ?_
        refine j_iinc (pc := 79) hX (1) dX4_owes_79 rfl rfl (by decide) [some (vA (some b)), some (vI c1), none, some (vL (v3 - x7)), none, some (vI (v5 + (1)))] rfl ?_
        refine j_goto (pc := 82) hX 35 dX4_owes_82 rfl ?_
        exact ih _ _ _ hf kx
      have hf := hm_
      refine j_icmp_ne (pc := 53) hX 76 dX4_owes_53 rfl hf (fun h_ hf => ?_) (fun h_ hf => ?_)
      · refine j_lconst (pc := 76) hX (0 : Int64) dX4_owes_76 rfl ?_
        refine j_fg [3] [some (vA (some b)), some (vI c1), none, none, none, some (vI v5)] rfl ?_
        cases hf
        exact kj53
      · refine j_aload_n (pc := 56) hX dX4_owes_56 rfl ?_
        refine mg_A (pc := 57) hX 50 (by decide) 41 1 rfl rfl (by decide) q2295 dX4_owes_57 ?_
        refine j_iload (pc := 60) hX dX4_owes_60 rfl ?_
        refine mr_I (pc := 62) hX 50 144 41 (by decide) rfl rfl rfl dX4_owes_62 hf (fun x5 hx_ hf => ?_)
        refine j_if_ne (pc := 63) hX 76 dX4_owes_63 rfl hf (fun h_ hf => ?_) (fun h_ hf => ?_)
        · refine j_lconst (pc := 76) hX (0 : Int64) dX4_owes_76 rfl ?_
          refine j_fg [3] [some (vA (some b)), some (vI c1), none, none, none, some (vI v5)] rfl ?_
          cases hf
          exact kj53
        · refine j_aload_n (pc := 66) hX dX4_owes_66 rfl ?_
          refine mg_A (pc := 67) hX 49 (by decide) 40 2 rfl rfl (by decide) q2294 dX4_owes_67 ?_
          refine j_iload (pc := 70) hX dX4_owes_70 rfl ?_
          refine mr_L (pc := 72) hX 49 144 40 (by decide) rfl rfl rfl dX4_owes_72 hf (fun x6 hx_ hf => ?_)
          refine j_goto (pc := 73) hX 77 dX4_owes_73 rfl ?_
          refine j_fg [3] [some (vA (some b)), some (vI c1), none, none, none, some (vI v5)] rfl ?_
          cases hf
          exact kj53
set_option maxHeartbeats 4000000 in
theorem k_X4_owes {l : Launch} {n : Nat} {a1 : Int32} {a2 : Int32} {b : Nat} {u : zWd} {w : zM} (r : Int64) (w9 : zM) (hf : f_X4_owes n a1 a2 w = some (r, w9)) : zCt l yX4_owes cX4_owes 6 (some .long) 7 [vA (some b), vI a1, vI a2] (zIj b u w) (.inr (some (vL r), (zIj b u w9))) := by
  refine zCt_of (lv := [some (vA (some b)), some (vI a1), some (vI a2), none, none, none]) (by decide +kernel) 3 rfl rfl ?_
  intro X hX hI hN hQ
  have hX : zGd X RX4 cX4_owes 6 (some .long) 7 := hX
  unfold f_X4_owes at hf
  refine j_aload_n (pc := 0) hX dX4_owes_0 rfl ?_
  refine j_iload_n (pc := 1) hX dX4_owes_1 rfl ?_
  obtain ⟨w1, hc_, hf⟩ := zob hf
  refine j_callV (pc := 2) hX (ci := 3) mt_X4_slips q2660 q2662 qs52 (zIj_isC b u _) ⟨_, rfl, rfl⟩ [vI a1] rfl rfl (Nat.le_of_ble_eq_true rfl) (by decide) dX4_owes_2 (k_X4_slips () _ hc_) ?_
  refine j_lconst (pc := 5) hX (0 : Int64) dX4_owes_5 rfl ?_
  refine j_lstore_n (pc := 6) hX dX4_owes_6 (by decide) [some (vA (some b)), some (vI a1), some (vI a2), some (vL (0 : Int64)), none, none] rfl ?_
  refine j_iconst (pc := 7) hX (0 : Int32) dX4_owes_7 rfl ?_
  refine j_istore (pc := 8) hX dX4_owes_8 (by decide) [some (vA (some b)), some (vI a1), some (vI a2), some (vL (0 : Int64)), none, some (vI (0 : Int32))] rfl ?_
  obtain ⟨x3, hm_, hf⟩ := zob hf
  refine lp_X4_owes_L10 hX n _ _ _ _ _ _ _ hm_ ?_
  refine j_iconst (pc := 32) hX (0 : Int32) dX4_owes_32 rfl ?_
  refine j_istore (pc := 33) hX dX4_owes_33 (by decide) [some (vA (some b)), some (vI a1), some (vI a2), some (vL x3), none, some (vI (0 : Int32))] rfl ?_
  obtain ⟨x8, hm_, hf⟩ := zob hf
  refine j_fg [2] [some (vA (some b)), some (vI a1), none, some (vL x3), none, some (vI (0 : Int32))] rfl ?_
  refine lp_X4_owes_L35 hX n _ _ _ _ _ _ hm_ ?_
  refine j_lload_n (pc := 85) hX dX4_owes_85 rfl ?_
  exact j_lreturn (pc := 86) hX hQ (by cases hf; rfl) dX4_owes_86
def f_X4_file_L35b (n : Nat) (c1 : Int32) (c2 : Int32) (c3 : Int32) (w : zM) (rec : Int64 → Int64 → Int32 → Option (Int64 × Int64)) (v4 : Int64) (v6 : Int64) (v8 : Int32) : Option (Int64 × Int64) :=
  if (6 : Int32) ≤ v8 then
    some (v4, v6)
  else
    (rLM w 68 432 ((((72 : Int32) * v8) + ((3 : Int32) * c2)) + c3)).bind fun x1 =>
    (rLM w 69 432 ((((72 : Int32) * v8) + ((3 : Int32) * c2)) + c3)).bind fun x2 =>
    rec (v4 + x1) (v6 + x2) (v8 + (1))
def f_X4_file_L35 (n : Nat) (c1 : Int32) (c2 : Int32) (c3 : Int32) (w : zM) : Nat → Int64 → Int64 → Int32 → Option (Int64 × Int64)
  | 0, _, _, _ => none
  | k + 1, v4, v6, v8 => f_X4_file_L35b n c1 c2 c3 w (f_X4_file_L35 n c1 c2 c3 w k) v4 v6 v8
def f_X4_file_L2b (n : Nat) (rec : Int32 → zM → Option (zM)) (v1 : Int32) (w : zM) : Option (zM) :=
  if (72 : Int32) ≤ v1 then
    some w
  else
    (
      if (mI w 46) < (v1 - v1 / (24 : Int32) * (24 : Int32)) then
        some w
      else
        zB2 (f_X4_file_L35 n v1 (v1 - v1 / (24 : Int32) * (24 : Int32)) (v1 / (24 : Int32)) w n (0 : Int64) (0 : Int64) (0 : Int32)) fun x3 x4 =>
        (rLM w 52 72 v1).bind fun x5 =>
        (
          if (lg_cmp x3 x5) = (0 : Int32) then
            (rLM w 53 72 v1).bind fun x6 =>
            if (lg_cmp x4 x6) = (0 : Int32) then
              some (0 : Int32)
            else
              some (1 : Int32)
          else
            some (1 : Int32)
          ).bind fun x7 =>
        (rIM w 54 72 v1).bind fun x8 =>
        (
          if (mI w 46) ≤ (v1 - v1 / (24 : Int32) * (24 : Int32)) then
            some (0 : Int32)
          else
            if x7 = (0 : Int32) then
              some (0 : Int32)
            else
              some (1 : Int32)
          ).bind fun x9 =>
        (sIM w 54 72 v1 (x8 + x9)).bind fun w10 =>
        (sLM w10 52 72 v1 x3).bind fun w11 =>
        (sLM w11 53 72 v1 x4).bind fun w12 =>
        some w12
      ).bind fun w13 =>
    rec (v1 + (1)) w13
def f_X4_file_L2 (n : Nat) : Nat → Int32 → zM → Option (zM)
  | 0, _, _ => none
  | k + 1, v1, w => f_X4_file_L2b n (f_X4_file_L2 n k) v1 w
def f_X4_file (n : Nat) (w : zM) : Option zM :=
  (f_X4_file_L2 n n (0 : Int32) w).bind fun w14 =>
  some w14
theorem mt_X4_file : zMt yX4_file cX4_file 9 none 0 := ⟨q2748, q82, ⟨by decide, by decide⟩, by decide +kernel, by decide⟩
set_option maxHeartbeats 4000000 in
theorem lp_X4_file_L35 {X : zX} {b : Nat} {u : zWd} (hX : zGd X RX4 cX4_file 9 none 1) (n : Nat) (c1 : Int32) (c2 : Int32) (c3 : Int32) (w : zM) : ∀ (k : Nat) (v4 : Int64) (v6 : Int64) (v8 : Int32) (o4 : Int64) (o6 : Int64) , f_X4_file_L35 n c1 c2 c3 w k v4 v6 v8 = some (o4, o6) → zJ X 90 [some (vA (some b)), some (vI c1), some (vI c2), some (vI c3), some (vL o4), none, some (vL o6), none, none] [] (zIj b u w) → zJ X 35 [some (vA (some b)), some (vI c1), some (vI c2), some (vI c3), some (vL v4), none, some (vL v6), none, some (vI v8)] [] (zIj b u w) := by
  intro k
  induction k with
  | zero => intro v4 v6 v8 o4 o6 hf _; exact nomatch (show (none : Option (Int64 × Int64)) = _ from hf)
  | succ k ih =>
    intro v4 v6 v8 o4 o6 hf kx
    have hf : f_X4_file_L35b n c1 c2 c3 w (f_X4_file_L35 n c1 c2 c3 w k) v4 v6 v8 = _ := hf
    unfold f_X4_file_L35b at hf
    refine j_iload (pc := 35) hX dX4_file_35 rfl ?_
    refine j_bipush (pc := 37) hX (6 : Int32) dX4_file_37 (by decide +kernel) ?_
    refine j_icmp_ge (pc := 39) hX 90 dX4_file_39 rfl hf (fun h_ hf => ?_) (fun h_ hf => ?_)
    · refine j_fg [8] [some (vA (some b)), some (vI c1), some (vI c2), some (vI c3), some (vL v4), none, some (vL v6), none, none] rfl ?_
      cases hf
      exact kx
    · refine j_lload (pc := 42) hX dX4_file_42 rfl ?_
      refine j_aload_n (pc := 44) hX dX4_file_44 rfl ?_
      refine mg_A (pc := 45) hX 68 (by decide) 57 2 rfl rfl (by decide) q2313 dX4_file_45 ?_
      refine j_bipush (pc := 48) hX (72 : Int32) dX4_file_48 (by decide +kernel) ?_
      refine j_iload (pc := 50) hX dX4_file_50 rfl ?_
      refine j_imul (pc := 52) hX dX4_file_52 ?_
      refine j_iconst (pc := 53) hX (3 : Int32) dX4_file_53 rfl ?_
      refine j_iload_n (pc := 54) hX dX4_file_54 rfl ?_
      refine j_imul (pc := 55) hX dX4_file_55 ?_
      refine j_iadd (pc := 56) hX dX4_file_56 ?_
      refine j_iload_n (pc := 57) hX dX4_file_57 rfl ?_
      refine j_iadd (pc := 58) hX dX4_file_58 ?_
      refine mr_L (pc := 59) hX 68 432 57 (by decide) rfl rfl rfl dX4_file_59 hf (fun x1 hx_ hf => ?_)
      refine j_ladd (pc := 60) hX dX4_file_60 ?_
      refine j_lstore (pc := 61) hX dX4_file_61 (by decide) [some (vA (some b)), some (vI c1), some (vI c2), some (vI c3), some (vL (v4 + x1)), none, some (vL v6), none, some (vI v8)] rfl ?_
      refine j_lload (pc := 63) hX dX4_file_63 rfl ?_
      refine j_aload_n (pc := 65) hX dX4_file_65 rfl ?_
      refine mg_A (pc := 66) hX 69 (by decide) 58 2 rfl rfl (by decide) q2314 dX4_file_66 ?_
      refine j_bipush (pc := 69) hX (72 : Int32) dX4_file_69 (by decide +kernel) ?_
      refine j_iload (pc := 71) hX dX4_file_71 rfl ?_
      refine j_imul (pc := 73) hX dX4_file_73 ?_
      refine j_iconst (pc := 74) hX (3 : Int32) dX4_file_74 rfl ?_
      refine j_iload_n (pc := 75) hX dX4_file_75 rfl ?_
      refine j_imul (pc := 76) hX dX4_file_76 ?_
      refine j_iadd (pc := 77) hX dX4_file_77 ?_
      refine j_iload_n (pc := 78) hX dX4_file_78 rfl ?_
      refine j_iadd (pc := 79) hX dX4_file_79 ?_
      refine mr_L (pc := 80) hX 69 432 58 (by decide) rfl rfl rfl dX4_file_80 hf (fun x2 hx_ hf => ?_)
      refine j_ladd (pc := 81) hX dX4_file_81 ?_
      refine j_lstore (pc := 82) hX dX4_file_82 (by decide) [some (vA (some b)), some (vI c1), some (vI c2), some (vI c3), some (vL (v4 + x1)), none, some (vL (v6 + x2)), none, some (vI v8)] rfl ?_
      refine j_iinc (pc := 84) hX (1) dX4_file_84 rfl rfl (by decide) [some (vA (some b)), some (vI c1), some (vI c2), some (vI c3), some (vL (v4 + x1)), none, some (vL (v6 + x2)), none, some (vI (v8 + (1)))] rfl ?_
      refine j_goto (pc := 87) hX 35 dX4_file_87 rfl ?_
      exact ih _ _ _ _ _ hf kx
set_option maxHeartbeats 4000000 in
theorem lp_X4_file_L2 {X : zX} {b : Nat} {u : zWd} (hX : zGd X RX4 cX4_file 9 none 1) (n : Nat) : ∀ (k : Nat) (v1 : Int32) (w : zM) (w9 : zM) , f_X4_file_L2 n k v1 w = some w9 → zJ X 170 [some (vA (some b)), none, none, none, none, none, none, none, none] [] (zIj b u w9) → zJ X 2 [some (vA (some b)), some (vI v1), none, none, none, none, none, none, none] [] (zIj b u w) := by
  intro k
  induction k with
  | zero => intro v1 w w9 hf _; exact nomatch (show (none : Option (zM)) = _ from hf)
  | succ k ih =>
    intro v1 w w9 hf kx
    have hf : f_X4_file_L2b n (f_X4_file_L2 n k) v1 w = _ := hf
    unfold f_X4_file_L2b at hf
    refine j_iload_n (pc := 2) hX dX4_file_2 rfl ?_
    refine j_bipush (pc := 3) hX (72 : Int32) dX4_file_3 (by decide +kernel) ?_
    refine j_icmp_ge (pc := 5) hX 170 dX4_file_5 rfl hf (fun h_ hf => ?_) (fun h_ hf => ?_)
    · refine j_fg [1] [some (vA (some b)), none, none, none, none, none, none, none, none] rfl ?_
      cases hf
      exact kx
    · refine j_iload_n (pc := 8) hX dX4_file_8 rfl ?_
      refine j_bipush (pc := 9) hX (24 : Int32) dX4_file_9 (by decide +kernel) ?_
      refine j_irem (pc := 11) hX dX4_file_11 (by decide) ?_
      refine j_istore_n (pc := 12) hX dX4_file_12 (by decide) [some (vA (some b)), some (vI v1), some (vI (v1 - v1 / (24 : Int32) * (24 : Int32))), none, none, none, none, none, none] rfl ?_
      refine j_iload_n (pc := 13) hX dX4_file_13 rfl ?_
      refine j_bipush (pc := 14) hX (24 : Int32) dX4_file_14 (by decide +kernel) ?_
      refine j_idiv (pc := 16) hX dX4_file_16 (by decide) ?_
      refine j_istore_n (pc := 17) hX dX4_file_17 (by decide) [some (vA (some b)), some (vI v1), some (vI (v1 - v1 / (24 : Int32) * (24 : Int32))), some (vI (v1 / (24 : Int32))), none, none, none, none, none] rfl ?_
      refine j_iload_n (pc := 18) hX dX4_file_18 rfl ?_
      refine j_aload_n (pc := 19) hX dX4_file_19 rfl ?_
      refine mg_I (pc := 20) hX 46 (by decide) rfl q2291 dX4_file_20 ?_
      obtain ⟨w13, hm_, hf⟩ := zob hf
      have kj23 : zJ X 164 [some (vA (some b)), some (vI v1), none, none, none, none, none, none, none] [] (zIj b u w13) := by
        clear hm_
        refine j_iinc (pc := 164) hX (1) dX4_file_164 rfl rfl (by decide) [some (vA (some b)), some (vI (v1 + (1))), none, none, none, none, none, none, none] rfl ?_
        refine j_goto (pc := 167) hX 2 dX4_file_167 rfl ?_
        exact ih _ _ _ hf kx
      have hf := hm_
      refine j_icmp_gt (pc := 23) hX 164 dX4_file_23 rfl hf (fun h_ hf => ?_) (fun h_ hf => ?_)
      · refine j_fg [2, 3] [some (vA (some b)), some (vI v1), none, none, none, none, none, none, none] rfl ?_
        cases hf
        exact kj23
      · refine j_lconst (pc := 26) hX (0 : Int64) dX4_file_26 rfl ?_
        refine j_lstore (pc := 27) hX dX4_file_27 (by decide) [some (vA (some b)), some (vI v1), some (vI (v1 - v1 / (24 : Int32) * (24 : Int32))), some (vI (v1 / (24 : Int32))), some (vL (0 : Int64)), none, none, none, none] rfl ?_
        refine j_lconst (pc := 29) hX (0 : Int64) dX4_file_29 rfl ?_
        refine j_lstore (pc := 30) hX dX4_file_30 (by decide) [some (vA (some b)), some (vI v1), some (vI (v1 - v1 / (24 : Int32) * (24 : Int32))), some (vI (v1 / (24 : Int32))), some (vL (0 : Int64)), none, some (vL (0 : Int64)), none, none] rfl ?_
        refine j_iconst (pc := 32) hX (0 : Int32) dX4_file_32 rfl ?_
        refine j_istore (pc := 33) hX dX4_file_33 (by decide) [some (vA (some b)), some (vI v1), some (vI (v1 - v1 / (24 : Int32) * (24 : Int32))), some (vI (v1 / (24 : Int32))), some (vL (0 : Int64)), none, some (vL (0 : Int64)), none, some (vI (0 : Int32))] rfl ?_
        obtain ⟨x3, x4, hm_, hf⟩ := zB2_e hf
        refine lp_X4_file_L35 hX n _ _ _ _ _ _ _ _ _ _ hm_ ?_
        refine j_lload (pc := 90) hX dX4_file_90 rfl ?_
        refine j_aload_n (pc := 92) hX dX4_file_92 rfl ?_
        refine mg_A (pc := 93) hX 52 (by decide) 42 2 rfl rfl (by decide) q2297 dX4_file_93 ?_
        refine j_iload_n (pc := 96) hX dX4_file_96 rfl ?_
        refine mr_L (pc := 97) hX 52 72 42 (by decide) rfl rfl rfl dX4_file_97 hf (fun x5 hx_ hf => ?_)
        refine j_lcmp (pc := 98) hX dX4_file_98 ?_
        obtain ⟨x7, hm_, hf⟩ := zob hf
        have kj99 : zJ X 119 [some (vA (some b)), some (vI v1), some (vI (v1 - v1 / (24 : Int32) * (24 : Int32))), none, some (vL x3), none, some (vL x4), none, none] [vI x7] (zIj b u w) := by
          clear hm_
          refine j_istore (pc := 119) hX dX4_file_119 (by decide) [some (vA (some b)), some (vI v1), some (vI (v1 - v1 / (24 : Int32) * (24 : Int32))), none, some (vL x3), none, some (vL x4), none, some (vI x7)] rfl ?_
          refine j_aload_n (pc := 121) hX dX4_file_121 rfl ?_
          refine mg_A (pc := 122) hX 54 (by decide) 44 1 rfl rfl (by decide) q2299 dX4_file_122 ?_
          refine j_iload_n (pc := 125) hX dX4_file_125 rfl ?_
          refine j_dup2 (pc := 126) hX rfl rfl dX4_file_126 ?_
          refine mr_I (pc := 127) hX 54 72 44 (by decide) rfl rfl rfl dX4_file_127 hf (fun x8 hx_ hf => ?_)
          refine j_iload_n (pc := 128) hX dX4_file_128 rfl ?_
          refine j_aload_n (pc := 129) hX dX4_file_129 rfl ?_
          refine mg_I (pc := 130) hX 46 (by decide) rfl q2291 dX4_file_130 ?_
          obtain ⟨x9, hm_, hf⟩ := zob hf
          have kj133 : zJ X 146 [some (vA (some b)), some (vI v1), none, none, some (vL x3), none, some (vL x4), none, none] [vI x9, vI x8, vI v1, vA (some (b + 44))] (zIj b u w) := by
            clear hm_
            refine j_iadd (pc := 146) hX dX4_file_146 ?_
            refine ms_I (pc := 147) hX 54 72 44 (by decide) rfl rfl rfl dX4_file_147 hf (fun w10 hf => ?_)
            refine j_aload_n (pc := 148) hX dX4_file_148 rfl ?_
            refine mg_A (pc := 149) hX 52 (by decide) 42 2 rfl rfl (by decide) q2297 dX4_file_149 ?_
            refine j_iload_n (pc := 152) hX dX4_file_152 rfl ?_
            refine j_lload (pc := 153) hX dX4_file_153 rfl ?_
            refine ms_L (pc := 155) hX 52 72 42 (by decide) rfl rfl rfl dX4_file_155 hf (fun w11 hf => ?_)
            refine j_aload_n (pc := 156) hX dX4_file_156 rfl ?_
            refine mg_A (pc := 157) hX 53 (by decide) 43 2 rfl rfl (by decide) q2298 dX4_file_157 ?_
            refine j_iload_n (pc := 160) hX dX4_file_160 rfl ?_
            refine j_lload (pc := 161) hX dX4_file_161 rfl ?_
            refine ms_L (pc := 163) hX 53 72 43 (by decide) rfl rfl rfl dX4_file_163 hf (fun w12 hf => ?_)
            refine j_fg [4, 6] [some (vA (some b)), some (vI v1), none, none, none, none, none, none, none] rfl ?_
            cases hf
            exact kj23
          have hf := hm_
          refine j_icmp_ge (pc := 133) hX 145 dX4_file_133 rfl hf (fun h_ hf => ?_) (fun h_ hf => ?_)
          · refine j_iconst (pc := 145) hX (0 : Int32) dX4_file_145 rfl ?_
            refine j_fg [2, 8] [some (vA (some b)), some (vI v1), none, none, some (vL x3), none, some (vL x4), none, none] rfl ?_
            cases hf
            exact kj133
          · refine j_iload (pc := 136) hX dX4_file_136 rfl ?_
            refine j_if_eq (pc := 138) hX 145 dX4_file_138 rfl hf (fun h_ hf => ?_) (fun h_ hf => ?_)
            · refine j_iconst (pc := 145) hX (0 : Int32) dX4_file_145 rfl ?_
              refine j_fg [2, 8] [some (vA (some b)), some (vI v1), none, none, some (vL x3), none, some (vL x4), none, none] rfl ?_
              cases hf
              exact kj133
            · refine j_iconst (pc := 141) hX (1 : Int32) dX4_file_141 rfl ?_
              refine j_goto (pc := 142) hX 146 dX4_file_142 rfl ?_
              refine j_fg [2, 8] [some (vA (some b)), some (vI v1), none, none, some (vL x3), none, some (vL x4), none, none] rfl ?_
              cases hf
              exact kj133
        have hf := hm_
        refine j_if_ne (pc := 99) hX 114 dX4_file_99 rfl hf (fun h_ hf => ?_) (fun h_ hf => ?_)
        · refine j_iconst (pc := 114) hX (1 : Int32) dX4_file_114 rfl ?_
          refine j_goto (pc := 115) hX 119 dX4_file_115 rfl ?_
          refine j_fg [3] [some (vA (some b)), some (vI v1), some (vI (v1 - v1 / (24 : Int32) * (24 : Int32))), none, some (vL x3), none, some (vL x4), none, none] rfl ?_
          cases hf
          exact kj99
        · refine j_lload (pc := 102) hX dX4_file_102 rfl ?_
          refine j_aload_n (pc := 104) hX dX4_file_104 rfl ?_
          refine mg_A (pc := 105) hX 53 (by decide) 43 2 rfl rfl (by decide) q2298 dX4_file_105 ?_
          refine j_iload_n (pc := 108) hX dX4_file_108 rfl ?_
          refine mr_L (pc := 109) hX 53 72 43 (by decide) rfl rfl rfl dX4_file_109 hf (fun x6 hx_ hf => ?_)
          refine j_lcmp (pc := 110) hX dX4_file_110 ?_
          refine j_if_eq (pc := 111) hX 118 dX4_file_111 rfl hf (fun h_ hf => ?_) (fun h_ hf => ?_)
          · refine j_iconst (pc := 118) hX (0 : Int32) dX4_file_118 rfl ?_
            refine j_fg [3] [some (vA (some b)), some (vI v1), some (vI (v1 - v1 / (24 : Int32) * (24 : Int32))), none, some (vL x3), none, some (vL x4), none, none] rfl ?_
            cases hf
            exact kj99
          · refine j_iconst (pc := 114) hX (1 : Int32) dX4_file_114 rfl ?_
            refine j_goto (pc := 115) hX 119 dX4_file_115 rfl ?_
            refine j_fg [3] [some (vA (some b)), some (vI v1), some (vI (v1 - v1 / (24 : Int32) * (24 : Int32))), none, some (vL x3), none, some (vL x4), none, none] rfl ?_
            cases hf
            exact kj99
set_option maxHeartbeats 4000000 in
theorem k_X4_file {l : Launch} {n : Nat} {b : Nat} {u : zWd} {w : zM} (r : Unit) (w9 : zM) (hf : f_X4_file n w = some w9) : zCt l yX4_file cX4_file 9 none 1 [vA (some b)] (zIj b u w) (.inr (none, (zIj b u w9))) := by
  refine zCt_of (lv := [some (vA (some b)), none, none, none, none, none, none, none, none]) (by decide +kernel) 8 rfl rfl ?_
  intro X hX hI hN hQ
  have hX : zGd X RX4 cX4_file 9 none 1 := hX
  unfold f_X4_file at hf
  refine j_iconst (pc := 0) hX (0 : Int32) dX4_file_0 rfl ?_
  refine j_istore_n (pc := 1) hX dX4_file_1 (by decide) [some (vA (some b)), some (vI (0 : Int32)), none, none, none, none, none, none, none] rfl ?_
  obtain ⟨w14, hm_, hf⟩ := zob hf
  refine lp_X4_file_L2 hX n  _ _ _ _ hm_ ?_
  exact j_return (pc := 170) hX hQ (by cases hf; rfl) dX4_file_170
def f_X4_close_L46b (n : Nat) (c1 : Int32) (c2 : Int32) (c3 : Int64) (rec : Int32 → zM → Option (zM)) (v5 : Int32) (w : zM) : Option (zM) :=
  if (72 : Int32) ≤ v5 then
    some w
  else
    (rLM w 59 72 v5).bind fun x6 =>
    (sLM w 68 432 (((72 : Int32) * c2) + v5) x6).bind fun w7 =>
    (rLM w7 57 72 v5).bind fun x8 =>
    (sLM w7 69 432 (((72 : Int32) * c2) + v5) x8).bind fun w9 =>
    rec (v5 + (1)) w9
def f_X4_close_L46 (n : Nat) (c1 : Int32) (c2 : Int32) (c3 : Int64) : Nat → Int32 → zM → Option (zM)
  | 0, _, _ => none
  | k + 1, v5, w => f_X4_close_L46b n c1 c2 c3 (f_X4_close_L46 n c1 c2 c3 k) v5 w
def f_X4_close_L27b (n : Nat) (rec : Int32 → Int32 → zM → Option (Int32 × zM)) (v1 : Int32) (v2 : Int32) (w : zM) : Option (Int32 × zM) :=
  if (6 : Int32) ≤ v2 then
    some (v1, w)
  else
    zB2 (f_X4_owes n v2 (mI w 46) w) fun x5 w4 =>
    (f_X4_close_L46 n v1 v2 x5 n (0 : Int32) w4).bind fun w10 =>
    zB2 (
      if (lg_cmp x5 (0 : Int64)) ≤ (0 : Int32) then
        some (v1, w10)
      else
        (sIM w10 47 144 (mI w10 51) v2).bind fun w11 =>
        (sIM w11 48 144 (mI w11 51) (mI w11 46)).bind fun w12 =>
        (sLM w12 49 144 (mI w12 51) x5).bind fun w13 =>
        (sIM w13 50 144 (mI w13 51) (0 : Int32)).bind fun w14 =>
        (pM w14 51 ((mI w14 51) + (1 : Int32))).bind fun w15 =>
        some ((v1 + (1)), w15)
      ) fun x16 w17 =>
    rec x16 (v2 + (1)) w17
def f_X4_close_L27 (n : Nat) : Nat → Int32 → Int32 → zM → Option (Int32 × zM)
  | 0, _, _, _ => none
  | k + 1, v1, v2, w => f_X4_close_L27b n (f_X4_close_L27 n k) v1 v2 w
def f_X4_close (n : Nat) (w : zM) : Option (Int32 × zM) :=
  (
    if (mI w 46) = (24 : Int32) then
      some (1 : Int32)
    else
      some (0 : Int32)
    ).bind fun x1 =>
  zB2 (f_X4_holds n x1 w) fun x3 w2 =>
  if x3 = (0 : Int32) then
    zB2 (f_X4_close_L27 n n (0 : Int32) (0 : Int32) w2) fun x18 w19 =>
    (f_X4_file n w19).bind fun w20 =>
    (pM w20 46 ((mI w20 46) + (1 : Int32))).bind fun w21 =>
    some (x18, w21)
  else
    some ((-1 : Int32), w2)
theorem mt_X4_close : zMt yX4_close cX4_close 6 (some .int) 0 := ⟨q2740, q82, ⟨by decide, by decide⟩, by decide +kernel, by decide⟩
set_option maxHeartbeats 4000000 in
theorem lp_X4_close_L46 {X : zX} {b : Nat} {u : zWd} (hX : zGd X RX4 cX4_close 6 (some .int) 8) (n : Nat) (c1 : Int32) (c2 : Int32) (c3 : Int64) : ∀ (k : Nat) (v5 : Int32) (w : zM) (w9 : zM) , f_X4_close_L46 n c1 c2 c3 k v5 w = some w9 → zJ X 97 [some (vA (some b)), some (vI c1), some (vI c2), some (vL c3), none, none] [] (zIj b u w9) → zJ X 46 [some (vA (some b)), some (vI c1), some (vI c2), some (vL c3), none, some (vI v5)] [] (zIj b u w) := by
  intro k
  induction k with
  | zero => intro v5 w w9 hf _; exact nomatch (show (none : Option (zM)) = _ from hf)
  | succ k ih =>
    intro v5 w w9 hf kx
    have hf : f_X4_close_L46b n c1 c2 c3 (f_X4_close_L46 n c1 c2 c3 k) v5 w = _ := hf
    unfold f_X4_close_L46b at hf
    refine j_iload (pc := 46) hX dX4_close_46 rfl ?_
    refine j_bipush (pc := 48) hX (72 : Int32) dX4_close_48 (by decide +kernel) ?_
    refine j_icmp_ge (pc := 50) hX 97 dX4_close_50 rfl hf (fun h_ hf => ?_) (fun h_ hf => ?_)
    · refine j_fg [5] [some (vA (some b)), some (vI c1), some (vI c2), some (vL c3), none, none] rfl ?_
      cases hf
      exact kx
    · refine j_aload_n (pc := 53) hX dX4_close_53 rfl ?_
      refine mg_A (pc := 54) hX 68 (by decide) 57 2 rfl rfl (by decide) q2313 dX4_close_54 ?_
      refine j_bipush (pc := 57) hX (72 : Int32) dX4_close_57 (by decide +kernel) ?_
      refine j_iload_n (pc := 59) hX dX4_close_59 rfl ?_
      refine j_imul (pc := 60) hX dX4_close_60 ?_
      refine j_iload (pc := 61) hX dX4_close_61 rfl ?_
      refine j_iadd (pc := 63) hX dX4_close_63 ?_
      refine j_aload_n (pc := 64) hX dX4_close_64 rfl ?_
      refine mg_A (pc := 65) hX 59 (by decide) 49 2 rfl rfl (by decide) q2304 dX4_close_65 ?_
      refine j_iload (pc := 68) hX dX4_close_68 rfl ?_
      refine mr_L (pc := 70) hX 59 72 49 (by decide) rfl rfl rfl dX4_close_70 hf (fun x6 hx_ hf => ?_)
      refine ms_L (pc := 71) hX 68 432 57 (by decide) rfl rfl rfl dX4_close_71 hf (fun w7 hf => ?_)
      refine j_aload_n (pc := 72) hX dX4_close_72 rfl ?_
      refine mg_A (pc := 73) hX 69 (by decide) 58 2 rfl rfl (by decide) q2314 dX4_close_73 ?_
      refine j_bipush (pc := 76) hX (72 : Int32) dX4_close_76 (by decide +kernel) ?_
      refine j_iload_n (pc := 78) hX dX4_close_78 rfl ?_
      refine j_imul (pc := 79) hX dX4_close_79 ?_
      refine j_iload (pc := 80) hX dX4_close_80 rfl ?_
      refine j_iadd (pc := 82) hX dX4_close_82 ?_
      refine j_aload_n (pc := 83) hX dX4_close_83 rfl ?_
      refine mg_A (pc := 84) hX 57 (by decide) 47 2 rfl rfl (by decide) q2302 dX4_close_84 ?_
      refine j_iload (pc := 87) hX dX4_close_87 rfl ?_
      refine mr_L (pc := 89) hX 57 72 47 (by decide) rfl rfl rfl dX4_close_89 hf (fun x8 hx_ hf => ?_)
      refine ms_L (pc := 90) hX 69 432 58 (by decide) rfl rfl rfl dX4_close_90 hf (fun w9 hf => ?_)
      refine j_iinc (pc := 91) hX (1) dX4_close_91 rfl rfl (by decide) [some (vA (some b)), some (vI c1), some (vI c2), some (vL c3), none, some (vI (v5 + (1)))] rfl ?_
      refine j_goto (pc := 94) hX 46 dX4_close_94 rfl ?_
      exact ih _ _ _ hf kx
set_option maxHeartbeats 4000000 in
theorem lp_X4_close_L27 {X : zX} {b : Nat} {u : zWd} (hX : zGd X RX4 cX4_close 6 (some .int) 8) (n : Nat) : ∀ (k : Nat) (v1 : Int32) (v2 : Int32) (w : zM) (o1 : Int32) (w9 : zM) , f_X4_close_L27 n k v1 v2 w = some (o1, w9) → zJ X 165 [some (vA (some b)), some (vI o1), none, none, none, none] [] (zIj b u w9) → zJ X 27 [some (vA (some b)), some (vI v1), some (vI v2), none, none, none] [] (zIj b u w) := by
  intro k
  induction k with
  | zero => intro v1 v2 w o1 w9 hf _; exact nomatch (show (none : Option (Int32 × zM)) = _ from hf)
  | succ k ih =>
    intro v1 v2 w o1 w9 hf kx
    have hf : f_X4_close_L27b n (f_X4_close_L27 n k) v1 v2 w = _ := hf
    unfold f_X4_close_L27b at hf
    refine j_iload_n (pc := 27) hX dX4_close_27 rfl ?_
    refine j_bipush (pc := 28) hX (6 : Int32) dX4_close_28 (by decide +kernel) ?_
    refine j_icmp_ge (pc := 30) hX 165 dX4_close_30 rfl hf (fun h_ hf => ?_) (fun h_ hf => ?_)
    · refine j_fg [2] [some (vA (some b)), some (vI v1), none, none, none, none] rfl ?_
      cases hf
      exact kx
    · refine j_aload_n (pc := 33) hX dX4_close_33 rfl ?_
      refine j_iload_n (pc := 34) hX dX4_close_34 rfl ?_
      refine j_aload_n (pc := 35) hX dX4_close_35 rfl ?_
      refine mg_I (pc := 36) hX 46 (by decide) rfl q2291 dX4_close_36 ?_
      obtain ⟨x5, w4, hc_, hf⟩ := zB2_e hf
      refine j_callV (pc := 39) hX (ci := 3) mt_X4_owes q2741 q2743 qs63 (zIj_isC b u _) ⟨_, rfl, rfl⟩ [vI v2, vI (mI w 46)] rfl rfl (Nat.le_of_ble_eq_true rfl) (by decide) dX4_close_39 (k_X4_owes _ _ hc_) ?_
      refine j_lstore_n (pc := 42) hX dX4_close_42 (by decide) [some (vA (some b)), some (vI v1), some (vI v2), some (vL x5), none, none] rfl ?_
      refine j_iconst (pc := 43) hX (0 : Int32) dX4_close_43 rfl ?_
      refine j_istore (pc := 44) hX dX4_close_44 (by decide) [some (vA (some b)), some (vI v1), some (vI v2), some (vL x5), none, some (vI (0 : Int32))] rfl ?_
      obtain ⟨w10, hm_, hf⟩ := zob hf
      refine lp_X4_close_L46 hX n _ _ _ _ _ _ _ hm_ ?_
      refine j_lload_n (pc := 97) hX dX4_close_97 rfl ?_
      refine j_lconst (pc := 98) hX (0 : Int64) dX4_close_98 rfl ?_
      refine j_lcmp (pc := 99) hX dX4_close_99 ?_
      obtain ⟨x16, w17, hm_, hf⟩ := zB2_e hf
      have kj100 : zJ X 159 [some (vA (some b)), some (vI x16), some (vI v2), none, none, none] [] (zIj b u w17) := by
        clear hm_
        refine j_iinc (pc := 159) hX (1) dX4_close_159 rfl rfl (by decide) [some (vA (some b)), some (vI x16), some (vI (v2 + (1))), none, none, none] rfl ?_
        refine j_goto (pc := 162) hX 27 dX4_close_162 rfl ?_
        exact ih _ _ _ _ _ hf kx
      have hf := hm_
      refine j_if_le (pc := 100) hX 159 dX4_close_100 rfl hf (fun h_ hf => ?_) (fun h_ hf => ?_)
      · refine j_fg [3] [some (vA (some b)), some (vI v1), some (vI v2), none, none, none] rfl ?_
        cases hf
        exact kj100
      · refine j_aload_n (pc := 103) hX dX4_close_103 rfl ?_
        refine mg_A (pc := 104) hX 47 (by decide) 38 1 rfl rfl (by decide) q2292 dX4_close_104 ?_
        refine j_aload_n (pc := 107) hX dX4_close_107 rfl ?_
        refine mg_I (pc := 108) hX 51 (by decide) rfl q2296 dX4_close_108 ?_
        refine j_iload_n (pc := 111) hX dX4_close_111 rfl ?_
        refine ms_I (pc := 112) hX 47 144 38 (by decide) rfl rfl rfl dX4_close_112 hf (fun w11 hf => ?_)
        refine j_aload_n (pc := 113) hX dX4_close_113 rfl ?_
        refine mg_A (pc := 114) hX 48 (by decide) 39 1 rfl rfl (by decide) q2293 dX4_close_114 ?_
        refine j_aload_n (pc := 117) hX dX4_close_117 rfl ?_
        refine mg_I (pc := 118) hX 51 (by decide) rfl q2296 dX4_close_118 ?_
        refine j_aload_n (pc := 121) hX dX4_close_121 rfl ?_
        refine mg_I (pc := 122) hX 46 (by decide) rfl q2291 dX4_close_122 ?_
        refine ms_I (pc := 125) hX 48 144 39 (by decide) rfl rfl rfl dX4_close_125 hf (fun w12 hf => ?_)
        refine j_aload_n (pc := 126) hX dX4_close_126 rfl ?_
        refine mg_A (pc := 127) hX 49 (by decide) 40 2 rfl rfl (by decide) q2294 dX4_close_127 ?_
        refine j_aload_n (pc := 130) hX dX4_close_130 rfl ?_
        refine mg_I (pc := 131) hX 51 (by decide) rfl q2296 dX4_close_131 ?_
        refine j_lload_n (pc := 134) hX dX4_close_134 rfl ?_
        refine ms_L (pc := 135) hX 49 144 40 (by decide) rfl rfl rfl dX4_close_135 hf (fun w13 hf => ?_)
        refine j_aload_n (pc := 136) hX dX4_close_136 rfl ?_
        refine mg_A (pc := 137) hX 50 (by decide) 41 1 rfl rfl (by decide) q2295 dX4_close_137 ?_
        refine j_aload_n (pc := 140) hX dX4_close_140 rfl ?_
        refine mg_I (pc := 141) hX 51 (by decide) rfl q2296 dX4_close_141 ?_
        refine j_iconst (pc := 144) hX (0 : Int32) dX4_close_144 rfl ?_
        refine ms_I (pc := 145) hX 50 144 41 (by decide) rfl rfl rfl dX4_close_145 hf (fun w14 hf => ?_)
        refine j_aload_n (pc := 146) hX dX4_close_146 rfl ?_
        refine j_dup (pc := 147) hX rfl dX4_close_147 ?_
        refine mg_I (pc := 148) hX 51 (by decide) rfl q2296 dX4_close_148 ?_
        refine j_iconst (pc := 151) hX (1 : Int32) dX4_close_151 rfl ?_
        refine j_iadd (pc := 152) hX dX4_close_152 ?_
        refine mp_I (pc := 153) hX 51 (by decide) rfl rfl q2296 dX4_close_153 hf (fun w15 hf => ?_)
        refine j_iinc (pc := 156) hX (1) dX4_close_156 rfl rfl (by decide) [some (vA (some b)), some (vI (v1 + (1))), some (vI v2), some (vL x5), none, none] rfl ?_
        refine j_fg [3] [some (vA (some b)), some (vI (v1 + (1))), some (vI v2), none, none, none] rfl ?_
        cases hf
        exact kj100
set_option maxHeartbeats 4000000 in
theorem k_X4_close {l : Launch} {n : Nat} {b : Nat} {u : zWd} {w : zM} (r : Int32) (w9 : zM) (hf : f_X4_close n w = some (r, w9)) : zCt l yX4_close cX4_close 6 (some .int) 8 [vA (some b)] (zIj b u w) (.inr (some (vI r), (zIj b u w9))) := by
  refine zCt_of (lv := [some (vA (some b)), none, none, none, none, none]) (by decide +kernel) 5 rfl rfl ?_
  intro X hX hI hN hQ
  have hX : zGd X RX4 cX4_close 6 (some .int) 8 := hX
  unfold f_X4_close at hf
  refine j_aload_n (pc := 0) hX dX4_close_0 rfl ?_
  refine j_aload_n (pc := 1) hX dX4_close_1 rfl ?_
  refine mg_I (pc := 2) hX 46 (by decide) rfl q2291 dX4_close_2 ?_
  refine j_bipush (pc := 5) hX (24 : Int32) dX4_close_5 (by decide +kernel) ?_
  obtain ⟨x1, hm_, hf⟩ := zob hf
  have kj7 : zJ X 15 [some (vA (some b)), none, none, none, none, none] [vI x1, vA (some b)] (zIj b u w) := by
    clear hm_
    obtain ⟨x3, w2, hc_, hf⟩ := zB2_e hf
    refine j_callV (pc := 15) hX (ci := 3) mt_X4_holds q2486 q2488 qs32 (zIj_isC b u _) ⟨_, rfl, rfl⟩ [vI x1] rfl rfl (Nat.le_of_ble_eq_true rfl) (by decide) dX4_close_15 (k_X4_holds _ _ hc_) ?_
    refine j_if_eq (pc := 18) hX 23 dX4_close_18 rfl hf (fun h_ hf => ?_) (fun h_ hf => ?_)
    · refine j_iconst (pc := 23) hX (0 : Int32) dX4_close_23 rfl ?_
      refine j_istore_n (pc := 24) hX dX4_close_24 (by decide) [some (vA (some b)), some (vI (0 : Int32)), none, none, none, none] rfl ?_
      refine j_iconst (pc := 25) hX (0 : Int32) dX4_close_25 rfl ?_
      refine j_istore_n (pc := 26) hX dX4_close_26 (by decide) [some (vA (some b)), some (vI (0 : Int32)), some (vI (0 : Int32)), none, none, none] rfl ?_
      obtain ⟨x18, w19, hm_, hf⟩ := zB2_e hf
      refine lp_X4_close_L27 hX n  _ _ _ _ _ _ hm_ ?_
      refine j_aload_n (pc := 165) hX dX4_close_165 rfl ?_
      obtain ⟨w20, hc_, hf⟩ := zob hf
      refine j_callV (pc := 166) hX (ci := 3) mt_X4_file q2745 q2747 qs64 (zIj_isC b u _) ⟨_, rfl, rfl⟩ [] rfl rfl (Nat.le_of_ble_eq_true rfl) (by decide) dX4_close_166 (k_X4_file () _ hc_) ?_
      refine j_aload_n (pc := 169) hX dX4_close_169 rfl ?_
      refine j_dup (pc := 170) hX rfl dX4_close_170 ?_
      refine mg_I (pc := 171) hX 46 (by decide) rfl q2291 dX4_close_171 ?_
      refine j_iconst (pc := 174) hX (1 : Int32) dX4_close_174 rfl ?_
      refine j_iadd (pc := 175) hX dX4_close_175 ?_
      refine mp_I (pc := 176) hX 46 (by decide) rfl rfl q2291 dX4_close_176 hf (fun w21 hf => ?_)
      refine j_iload_n (pc := 179) hX dX4_close_179 rfl ?_
      exact j_ireturn (pc := 180) hX hQ (by cases hf; rfl) dX4_close_180
    · refine j_iconst (pc := 21) hX (-1 : Int32) dX4_close_21 rfl ?_
      exact j_ireturn (pc := 22) hX hQ (by cases hf; rfl) dX4_close_22
  have hf := hm_
  refine j_icmp_ne (pc := 7) hX 14 dX4_close_7 rfl hf (fun h_ hf => ?_) (fun h_ hf => ?_)
  · refine j_iconst (pc := 14) hX (0 : Int32) dX4_close_14 rfl ?_
    cases hf
    exact kj7
  · refine j_iconst (pc := 10) hX (1 : Int32) dX4_close_10 rfl ?_
    refine j_goto (pc := 11) hX 15 dX4_close_11 rfl ?_
    cases hf
    exact kj7
def f_X4_payments (n : Nat) (w : zM) : Option (Int32 × zM) :=
  zB2 (f_X4_holds n (0 : Int32) w) fun x2 w1 =>
  some ((mI w1 51), w1)
theorem mt_X4_payments : zMt yX4_payments cX4_payments 1 (some .int) 0 := ⟨q2752, q82, ⟨by decide, by decide⟩, by decide +kernel, by decide⟩
set_option maxHeartbeats 4000000 in
theorem k_X4_payments {l : Launch} {n : Nat} {b : Nat} {u : zWd} {w : zM} (r : Int32) (w9 : zM) (hf : f_X4_payments n w = some (r, w9)) : zCt l yX4_payments cX4_payments 1 (some .int) 2 [vA (some b)] (zIj b u w) (.inr (some (vI r), (zIj b u w9))) := by
  refine zCt_of (lv := [some (vA (some b))]) (by decide +kernel) 0 rfl rfl ?_
  intro X hX hI hN hQ
  have hX : zGd X RX4 cX4_payments 1 (some .int) 2 := hX
  unfold f_X4_payments at hf
  refine j_aload_n (pc := 0) hX dX4_payments_0 rfl ?_
  refine j_iconst (pc := 1) hX (0 : Int32) dX4_payments_1 rfl ?_
  obtain ⟨x2, w1, hc_, hf⟩ := zB2_e hf
  refine j_callV (pc := 2) hX (ci := 3) mt_X4_holds q2486 q2488 qs32 (zIj_isC b u _) ⟨_, rfl, rfl⟩ [vI (0 : Int32)] rfl rfl (Nat.le_of_ble_eq_true rfl) (by decide) dX4_payments_2 (k_X4_holds _ _ hc_) ?_
  refine j_pop (pc := 5) hX rfl dX4_payments_5 ?_
  refine j_aload_n (pc := 6) hX dX4_payments_6 rfl ?_
  refine mg_I (pc := 7) hX 51 (by decide) rfl q2296 dX4_payments_7 ?_
  exact j_ireturn (pc := 10) hX hQ (by cases hf; rfl) dX4_payments_10
def f_X4_payment (n : Nat) (a1 : Int32) (a2 : Int32) (w : zM) : Option (Int64 × zM) :=
  zB2 (f_X4_in n (Int32.toInt64 a1) (0 : Int64) (Int32.toInt64 ((mI w 51) - (1 : Int32))) w) fun x2 w1 =>
  zB2 (
    if x2 = (0 : Int32) then
      some ((1 : Int32), w1)
    else
      zB2 (f_X4_in n (Int32.toInt64 a2) (0 : Int64) (3 : Int64) w1) fun x4 w3 =>
      if x4 = (0 : Int32) then
        some ((2 : Int32), w3)
      else
        some ((0 : Int32), w3)
    ) fun x5 w6 =>
  zB2 (f_X4_holds n x5 w6) fun x8 w7 =>
  if x8 = (0 : Int32) then
    (
      if a2 = (0 : Int32) then
        (rIM w7 47 144 a1).bind fun x12 =>
        some (Int32.toInt64 x12)
      else
        if a2 = (1 : Int32) then
          (rIM w7 48 144 a1).bind fun x11 =>
          some (Int32.toInt64 x11)
        else
          if a2 = (2 : Int32) then
            (rLM w7 49 144 a1).bind fun x10 =>
            some x10
          else
            (rIM w7 50 144 a1).bind fun x9 =>
            some (Int32.toInt64 x9)
      ).bind fun x13 =>
    some (x13, w7)
  else
    some ((-1 : Int64), w7)
theorem mt_X4_payment : zMt yX4_payment cX4_payment 3 (some .long) 2 := ⟨q2756, q82, ⟨by decide, by decide⟩, by decide +kernel, by decide⟩
set_option maxHeartbeats 4000000 in
theorem k_X4_payment {l : Launch} {n : Nat} {a1 : Int32} {a2 : Int32} {b : Nat} {u : zWd} {w : zM} (r : Int64) (w9 : zM) (hf : f_X4_payment n a1 a2 w = some (r, w9)) : zCt l yX4_payment cX4_payment 3 (some .long) 2 [vA (some b), vI a1, vI a2] (zIj b u w) (.inr (some (vL r), (zIj b u w9))) := by
  refine zCt_of (lv := [some (vA (some b)), some (vI a1), some (vI a2)]) (by decide +kernel) 0 rfl rfl ?_
  intro X hX hI hN hQ
  have hX : zGd X RX4 cX4_payment 3 (some .long) 2 := hX
  unfold f_X4_payment at hf
  refine j_aload_n (pc := 0) hX dX4_payment_0 rfl ?_
  refine j_aload_n (pc := 1) hX dX4_payment_1 rfl ?_
  refine j_iload_n (pc := 2) hX dX4_payment_2 rfl ?_
  refine j_i2l (pc := 3) hX dX4_payment_3 ?_
  refine j_lconst (pc := 4) hX (0 : Int64) dX4_payment_4 rfl ?_
  refine j_aload_n (pc := 5) hX dX4_payment_5 rfl ?_
  refine mg_I (pc := 6) hX 51 (by decide) rfl q2296 dX4_payment_6 ?_
  refine j_iconst (pc := 9) hX (1 : Int32) dX4_payment_9 rfl ?_
  refine j_isub (pc := 10) hX dX4_payment_10 ?_
  refine j_i2l (pc := 11) hX dX4_payment_11 ?_
  obtain ⟨x2, w1, hc_, hf⟩ := zB2_e hf
  refine j_callV (pc := 12) hX (ci := 3) mt_X4_in q2469 q2471 qs29 (zIj_isC b u _) ⟨_, rfl, rfl⟩ [vL (Int32.toInt64 a1), vL (0 : Int64), vL (Int32.toInt64 ((mI w 51) - (1 : Int32)))] rfl rfl (Nat.le_of_ble_eq_true rfl) (by decide) dX4_payment_12 (k_X4_in _ _ hc_) ?_
  obtain ⟨x5, w6, hm_, hf⟩ := zB2_e hf
  have kj15 : zJ X 40 [some (vA (some b)), some (vI a1), some (vI a2)] [vI x5, vA (some b)] (zIj b u w6) := by
    clear hm_
    obtain ⟨x8, w7, hc_, hf⟩ := zB2_e hf
    refine j_callV (pc := 40) hX (ci := 3) mt_X4_holds q2486 q2488 qs32 (zIj_isC b u _) ⟨_, rfl, rfl⟩ [vI x5] rfl rfl (Nat.le_of_ble_eq_true rfl) (by decide) dX4_payment_40 (k_X4_holds _ _ hc_) ?_
    refine j_if_eq (pc := 43) hX 50 dX4_payment_43 rfl hf (fun h_ hf => ?_) (fun h_ hf => ?_)
    · refine j_iload_n (pc := 50) hX dX4_payment_50 rfl ?_
      obtain ⟨x13, hm_, hf⟩ := zob hf
      have kj51 : zJ X 100 [none, none, none] [vL x13] (zIj b u w7) := by
        clear hm_
        exact j_lreturn (pc := 100) hX hQ (by cases hf; rfl) dX4_payment_100
      have hf := hm_
      refine j_if_ne (pc := 51) hX 64 dX4_payment_51 rfl hf (fun h_ hf => ?_) (fun h_ hf => ?_)
      · refine j_iload_n (pc := 64) hX dX4_payment_64 rfl ?_
        refine j_iconst (pc := 65) hX (1 : Int32) dX4_payment_65 rfl ?_
        refine j_icmp_ne (pc := 66) hX 79 dX4_payment_66 rfl hf (fun h_ hf => ?_) (fun h_ hf => ?_)
        · refine j_iload_n (pc := 79) hX dX4_payment_79 rfl ?_
          refine j_iconst (pc := 80) hX (2 : Int32) dX4_payment_80 rfl ?_
          refine j_icmp_ne (pc := 81) hX 93 dX4_payment_81 rfl hf (fun h_ hf => ?_) (fun h_ hf => ?_)
          · refine j_aload_n (pc := 93) hX dX4_payment_93 rfl ?_
            refine mg_A (pc := 94) hX 50 (by decide) 41 1 rfl rfl (by decide) q2295 dX4_payment_94 ?_
            refine j_iload_n (pc := 97) hX dX4_payment_97 rfl ?_
            refine mr_I (pc := 98) hX 50 144 41 (by decide) rfl rfl rfl dX4_payment_98 hf (fun x9 hx_ hf => ?_)
            refine j_i2l (pc := 99) hX dX4_payment_99 ?_
            refine j_fg [0, 1, 2] [none, none, none] rfl ?_
            cases hf
            exact kj51
          · refine j_aload_n (pc := 84) hX dX4_payment_84 rfl ?_
            refine mg_A (pc := 85) hX 49 (by decide) 40 2 rfl rfl (by decide) q2294 dX4_payment_85 ?_
            refine j_iload_n (pc := 88) hX dX4_payment_88 rfl ?_
            refine mr_L (pc := 89) hX 49 144 40 (by decide) rfl rfl rfl dX4_payment_89 hf (fun x10 hx_ hf => ?_)
            refine j_goto (pc := 90) hX 100 dX4_payment_90 rfl ?_
            refine j_fg [0, 1, 2] [none, none, none] rfl ?_
            cases hf
            exact kj51
        · refine j_aload_n (pc := 69) hX dX4_payment_69 rfl ?_
          refine mg_A (pc := 70) hX 48 (by decide) 39 1 rfl rfl (by decide) q2293 dX4_payment_70 ?_
          refine j_iload_n (pc := 73) hX dX4_payment_73 rfl ?_
          refine mr_I (pc := 74) hX 48 144 39 (by decide) rfl rfl rfl dX4_payment_74 hf (fun x11 hx_ hf => ?_)
          refine j_i2l (pc := 75) hX dX4_payment_75 ?_
          refine j_goto (pc := 76) hX 100 dX4_payment_76 rfl ?_
          refine j_fg [0, 1, 2] [none, none, none] rfl ?_
          cases hf
          exact kj51
      · refine j_aload_n (pc := 54) hX dX4_payment_54 rfl ?_
        refine mg_A (pc := 55) hX 47 (by decide) 38 1 rfl rfl (by decide) q2292 dX4_payment_55 ?_
        refine j_iload_n (pc := 58) hX dX4_payment_58 rfl ?_
        refine mr_I (pc := 59) hX 47 144 38 (by decide) rfl rfl rfl dX4_payment_59 hf (fun x12 hx_ hf => ?_)
        refine j_i2l (pc := 60) hX dX4_payment_60 ?_
        refine j_goto (pc := 61) hX 100 dX4_payment_61 rfl ?_
        refine j_fg [0, 1, 2] [none, none, none] rfl ?_
        cases hf
        exact kj51
    · refine j_ldc2 (pc := 46) hX q2542 dX4_payment_46 ?_
      exact j_lreturn (pc := 49) hX hQ (by cases hf; rfl) dX4_payment_49
  have hf := hm_
  refine j_if_ne (pc := 15) hX 22 dX4_payment_15 rfl hf (fun h_ hf => ?_) (fun h_ hf => ?_)
  · refine j_aload_n (pc := 22) hX dX4_payment_22 rfl ?_
    refine j_iload_n (pc := 23) hX dX4_payment_23 rfl ?_
    refine j_i2l (pc := 24) hX dX4_payment_24 ?_
    refine j_lconst (pc := 25) hX (0 : Int64) dX4_payment_25 rfl ?_
    refine j_ldc2 (pc := 26) hX q2757 dX4_payment_26 ?_
    obtain ⟨x4, w3, hc_, hf⟩ := zB2_e hf
    refine j_callV (pc := 29) hX (ci := 3) mt_X4_in q2469 q2471 qs29 (zIj_isC b u _) ⟨_, rfl, rfl⟩ [vL (Int32.toInt64 a2), vL (0 : Int64), vL (3 : Int64)] rfl rfl (Nat.le_of_ble_eq_true rfl) (by decide) dX4_payment_29 (k_X4_in _ _ hc_) ?_
    refine j_if_eq (pc := 32) hX 39 dX4_payment_32 rfl hf (fun h_ hf => ?_) (fun h_ hf => ?_)
    · refine j_iconst (pc := 39) hX (2 : Int32) dX4_payment_39 rfl ?_
      cases hf
      exact kj15
    · refine j_iconst (pc := 35) hX (0 : Int32) dX4_payment_35 rfl ?_
      refine j_goto (pc := 36) hX 40 dX4_payment_36 rfl ?_
      cases hf
      exact kj15
  · refine j_iconst (pc := 18) hX (1 : Int32) dX4_payment_18 rfl ?_
    refine j_goto (pc := 19) hX 40 dX4_payment_19 rfl ?_
    cases hf
    exact kj15
def f_X4_comeBack (n : Nat) (a1 : Int32) (w : zM) : Option (Int64 × zM) :=
  zB2 (f_X4_in n (Int32.toInt64 a1) (0 : Int64) (Int32.toInt64 ((mI w 51) - (1 : Int32))) w) fun x2 w1 =>
  (
    if x2 = (0 : Int32) then
      some (1 : Int32)
    else
      (rIM w1 50 144 a1).bind fun x3 =>
      if x3 = (1 : Int32) then
        some (2 : Int32)
      else
        some (0 : Int32)
    ).bind fun x4 =>
  zB2 (f_X4_holds n x4 w1) fun x6 w5 =>
  if x6 = (0 : Int32) then
    (sIM w5 50 144 a1 (1 : Int32)).bind fun w7 =>
    (rLM w7 49 144 a1).bind fun x8 =>
    some (x8, w7)
  else
    some ((-1 : Int64), w5)
theorem mt_X4_comeBack : zMt yX4_comeBack cX4_comeBack 3 (some .long) 1 := ⟨q2761, q82, ⟨by decide, by decide⟩, by decide +kernel, by decide⟩
set_option maxHeartbeats 4000000 in
theorem k_X4_comeBack {l : Launch} {n : Nat} {a1 : Int32} {b : Nat} {u : zWd} {w : zM} (r : Int64) (w9 : zM) (hf : f_X4_comeBack n a1 w = some (r, w9)) : zCt l yX4_comeBack cX4_comeBack 3 (some .long) 2 [vA (some b), vI a1] (zIj b u w) (.inr (some (vL r), (zIj b u w9))) := by
  refine zCt_of (lv := [some (vA (some b)), some (vI a1), none]) (by decide +kernel) 1 rfl rfl ?_
  intro X hX hI hN hQ
  have hX : zGd X RX4 cX4_comeBack 3 (some .long) 2 := hX
  unfold f_X4_comeBack at hf
  refine j_aload_n (pc := 0) hX dX4_comeBack_0 rfl ?_
  refine j_iload_n (pc := 1) hX dX4_comeBack_1 rfl ?_
  refine j_i2l (pc := 2) hX dX4_comeBack_2 ?_
  refine j_lconst (pc := 3) hX (0 : Int64) dX4_comeBack_3 rfl ?_
  refine j_aload_n (pc := 4) hX dX4_comeBack_4 rfl ?_
  refine mg_I (pc := 5) hX 51 (by decide) rfl q2296 dX4_comeBack_5 ?_
  refine j_iconst (pc := 8) hX (1 : Int32) dX4_comeBack_8 rfl ?_
  refine j_isub (pc := 9) hX dX4_comeBack_9 ?_
  refine j_i2l (pc := 10) hX dX4_comeBack_10 ?_
  obtain ⟨x2, w1, hc_, hf⟩ := zB2_e hf
  refine j_callV (pc := 11) hX (ci := 3) mt_X4_in q2469 q2471 qs29 (zIj_isC b u _) ⟨_, rfl, rfl⟩ [vL (Int32.toInt64 a1), vL (0 : Int64), vL (Int32.toInt64 ((mI w 51) - (1 : Int32)))] rfl rfl (Nat.le_of_ble_eq_true rfl) (by decide) dX4_comeBack_11 (k_X4_in _ _ hc_) ?_
  refine j_istore_n (pc := 14) hX dX4_comeBack_14 (by decide) [some (vA (some b)), some (vI a1), some (vI x2)] rfl ?_
  refine j_aload_n (pc := 15) hX dX4_comeBack_15 rfl ?_
  refine j_iload_n (pc := 16) hX dX4_comeBack_16 rfl ?_
  obtain ⟨x4, hm_, hf⟩ := zob hf
  have kj17 : zJ X 39 [some (vA (some b)), some (vI a1), none] [vI x4, vA (some b)] (zIj b u w1) := by
    clear hm_
    obtain ⟨x6, w5, hc_, hf⟩ := zB2_e hf
    refine j_callV (pc := 39) hX (ci := 3) mt_X4_holds q2486 q2488 qs32 (zIj_isC b u _) ⟨_, rfl, rfl⟩ [vI x4] rfl rfl (Nat.le_of_ble_eq_true rfl) (by decide) dX4_comeBack_39 (k_X4_holds _ _ hc_) ?_
    refine j_if_eq (pc := 42) hX 49 dX4_comeBack_42 rfl hf (fun h_ hf => ?_) (fun h_ hf => ?_)
    · refine j_aload_n (pc := 49) hX dX4_comeBack_49 rfl ?_
      refine mg_A (pc := 50) hX 50 (by decide) 41 1 rfl rfl (by decide) q2295 dX4_comeBack_50 ?_
      refine j_iload_n (pc := 53) hX dX4_comeBack_53 rfl ?_
      refine j_iconst (pc := 54) hX (1 : Int32) dX4_comeBack_54 rfl ?_
      refine ms_I (pc := 55) hX 50 144 41 (by decide) rfl rfl rfl dX4_comeBack_55 hf (fun w7 hf => ?_)
      refine j_aload_n (pc := 56) hX dX4_comeBack_56 rfl ?_
      refine mg_A (pc := 57) hX 49 (by decide) 40 2 rfl rfl (by decide) q2294 dX4_comeBack_57 ?_
      refine j_iload_n (pc := 60) hX dX4_comeBack_60 rfl ?_
      refine mr_L (pc := 61) hX 49 144 40 (by decide) rfl rfl rfl dX4_comeBack_61 hf (fun x8 hx_ hf => ?_)
      exact j_lreturn (pc := 62) hX hQ (by cases hf; rfl) dX4_comeBack_62
    · refine j_ldc2 (pc := 45) hX q2542 dX4_comeBack_45 ?_
      exact j_lreturn (pc := 48) hX hQ (by cases hf; rfl) dX4_comeBack_48
  have hf := hm_
  refine j_if_ne (pc := 17) hX 24 dX4_comeBack_17 rfl hf (fun h_ hf => ?_) (fun h_ hf => ?_)
  · refine j_aload_n (pc := 24) hX dX4_comeBack_24 rfl ?_
    refine mg_A (pc := 25) hX 50 (by decide) 41 1 rfl rfl (by decide) q2295 dX4_comeBack_25 ?_
    refine j_iload_n (pc := 28) hX dX4_comeBack_28 rfl ?_
    refine mr_I (pc := 29) hX 50 144 41 (by decide) rfl rfl rfl dX4_comeBack_29 hf (fun x3 hx_ hf => ?_)
    refine j_iconst (pc := 30) hX (1 : Int32) dX4_comeBack_30 rfl ?_
    refine j_icmp_ne (pc := 31) hX 38 dX4_comeBack_31 rfl hf (fun h_ hf => ?_) (fun h_ hf => ?_)
    · refine j_iconst (pc := 38) hX (0 : Int32) dX4_comeBack_38 rfl ?_
      refine j_fg [2] [some (vA (some b)), some (vI a1), none] rfl ?_
      cases hf
      exact kj17
    · refine j_iconst (pc := 34) hX (2 : Int32) dX4_comeBack_34 rfl ?_
      refine j_goto (pc := 35) hX 39 dX4_comeBack_35 rfl ?_
      refine j_fg [2] [some (vA (some b)), some (vI a1), none] rfl ?_
      cases hf
      exact kj17
  · refine j_iconst (pc := 20) hX (1 : Int32) dX4_comeBack_20 rfl ?_
    refine j_goto (pc := 21) hX 39 dX4_comeBack_21 rfl ?_
    refine j_fg [2] [some (vA (some b)), some (vI a1), none] rfl ?_
    cases hf
    exact kj17
def f_X4_owed (n : Nat) (a1 : Int32) (w : zM) : Option (Int64 × zM) :=
  zB2 (f_X4_isPerson n a1 w) fun x2 w1 =>
  (
    if x2 = (0 : Int32) then
      some (1 : Int32)
    else
      some (0 : Int32)
    ).bind fun x3 =>
  zB2 (f_X4_holds n x3 w1) fun x5 w4 =>
  zB2 (
    if x5 = (0 : Int32) then
      (
        if (mI w4 46) = (24 : Int32) then
          some (23 : Int32)
        else
          some (mI w4 46)
        ).bind fun x6 =>
      zB2 (f_X4_owes n a1 x6 w4) fun x8 w7 =>
      some (x8, w7)
    else
      some ((-1 : Int64), w4)
    ) fun x9 w10 =>
  some (x9, w10)
theorem mt_X4_owed : zMt yX4_owed cX4_owed 2 (some .long) 1 := ⟨q2765, q82, ⟨by decide, by decide⟩, by decide +kernel, by decide⟩
set_option maxHeartbeats 4000000 in
theorem k_X4_owed {l : Launch} {n : Nat} {a1 : Int32} {b : Nat} {u : zWd} {w : zM} (r : Int64) (w9 : zM) (hf : f_X4_owed n a1 w = some (r, w9)) : zCt l yX4_owed cX4_owed 2 (some .long) 8 [vA (some b), vI a1] (zIj b u w) (.inr (some (vL r), (zIj b u w9))) := by
  refine zCt_of (lv := [some (vA (some b)), some (vI a1)]) (by decide +kernel) 0 rfl rfl ?_
  intro X hX hI hN hQ
  have hX : zGd X RX4 cX4_owed 2 (some .long) 8 := hX
  unfold f_X4_owed at hf
  refine j_aload_n (pc := 0) hX dX4_owed_0 rfl ?_
  refine j_aload_n (pc := 1) hX dX4_owed_1 rfl ?_
  refine j_iload_n (pc := 2) hX dX4_owed_2 rfl ?_
  obtain ⟨x2, w1, hc_, hf⟩ := zB2_e hf
  refine j_callV (pc := 3) hX (ci := 3) mt_X4_isPerson q2464 q2466 qs28 (zIj_isC b u _) ⟨_, rfl, rfl⟩ [vI a1] rfl rfl (Nat.le_of_ble_eq_true rfl) (by decide) dX4_owed_3 (k_X4_isPerson _ _ hc_) ?_
  obtain ⟨x3, hm_, hf⟩ := zob hf
  have kj6 : zJ X 14 [some (vA (some b)), some (vI a1)] [vI x3, vA (some b)] (zIj b u w1) := by
    clear hm_
    obtain ⟨x5, w4, hc_, hf⟩ := zB2_e hf
    refine j_callV (pc := 14) hX (ci := 3) mt_X4_holds q2486 q2488 qs32 (zIj_isC b u _) ⟨_, rfl, rfl⟩ [vI x3] rfl rfl (Nat.le_of_ble_eq_true rfl) (by decide) dX4_owed_14 (k_X4_holds _ _ hc_) ?_
    obtain ⟨x9, w10, hm_, hf⟩ := zB2_e hf
    have kj17 : zJ X 49 [none, none] [vL x9] (zIj b u w10) := by
      clear hm_
      exact j_lreturn (pc := 49) hX hQ (by cases hf; rfl) dX4_owed_49
    have hf := hm_
    refine j_if_eq (pc := 17) hX 26 dX4_owed_17 rfl hf (fun h_ hf => ?_) (fun h_ hf => ?_)
    · refine j_aload_n (pc := 26) hX dX4_owed_26 rfl ?_
      refine j_iload_n (pc := 27) hX dX4_owed_27 rfl ?_
      refine j_aload_n (pc := 28) hX dX4_owed_28 rfl ?_
      refine mg_I (pc := 29) hX 46 (by decide) rfl q2291 dX4_owed_29 ?_
      refine j_bipush (pc := 32) hX (24 : Int32) dX4_owed_32 (by decide +kernel) ?_
      obtain ⟨x6, hm_, hf⟩ := zob hf
      have kj34 : zJ X 46 [none, none] [vI x6, vI a1, vA (some b)] (zIj b u w4) := by
        clear hm_
        obtain ⟨x8, w7, hc_, hf⟩ := zB2_e hf
        refine j_callV (pc := 46) hX (ci := 3) mt_X4_owes q2741 q2743 qs63 (zIj_isC b u _) ⟨_, rfl, rfl⟩ [vI a1, vI x6] rfl rfl (Nat.le_of_ble_eq_true rfl) (by decide) dX4_owed_46 (k_X4_owes _ _ hc_) ?_
        cases hf
        exact kj17
      have hf := hm_
      refine j_icmp_ne (pc := 34) hX 42 dX4_owed_34 rfl hf (fun h_ hf => ?_) (fun h_ hf => ?_)
      · refine j_aload_n (pc := 42) hX dX4_owed_42 rfl ?_
        refine mg_I (pc := 43) hX 46 (by decide) rfl q2291 dX4_owed_43 ?_
        refine j_fg [0, 1] [none, none] rfl ?_
        cases hf
        exact kj34
      · refine j_bipush (pc := 37) hX (23 : Int32) dX4_owed_37 (by decide +kernel) ?_
        refine j_goto (pc := 39) hX 46 dX4_owed_39 rfl ?_
        refine j_fg [0, 1] [none, none] rfl ?_
        cases hf
        exact kj34
    · refine j_ldc2 (pc := 20) hX q2542 dX4_owed_20 ?_
      refine j_goto (pc := 23) hX 49 dX4_owed_23 rfl ?_
      refine j_fg [0, 1] [none, none] rfl ?_
      simp only [Option.some.injEq, Prod.mk.injEq] at hf
      obtain ⟨rfl, rfl⟩ := hf
      exact kj17
  have hf := hm_
  refine j_if_eq (pc := 6) hX 13 dX4_owed_6 rfl hf (fun h_ hf => ?_) (fun h_ hf => ?_)
  · refine j_iconst (pc := 13) hX (1 : Int32) dX4_owed_13 rfl ?_
    cases hf
    exact kj6
  · refine j_iconst (pc := 9) hX (0 : Int32) dX4_owed_9 rfl ?_
    refine j_goto (pc := 10) hX 14 dX4_owed_10 rfl ?_
    cases hf
    exact kj6
def f_X4_filed (n : Nat) (a1 : Int32) (a2 : Int32) (a3 : Int32) (w : zM) : Option (Int64 × zM) :=
  zB2 (f_X4_isPlace n a1 w) fun x2 w1 =>
  zB2 (
    if x2 = (0 : Int32) then
      some ((1 : Int32), w1)
    else
      zB2 (f_X4_isMonth n a2 w1) fun x4 w3 =>
      if x4 = (0 : Int32) then
        some ((1 : Int32), w3)
      else
        some ((0 : Int32), w3)
    ) fun x5 w6 =>
  zB2 (f_X4_holds n x5 w6) fun x8 w7 =>
  if x8 = (0 : Int32) then
    (
      if a3 = (0 : Int32) then
        (rLM w7 53 72 (((24 : Int32) * a1) + a2)).bind fun x9 =>
        some x9
      else
        (rLM w7 52 72 (((24 : Int32) * a1) + a2)).bind fun x10 =>
        some x10
      ).bind fun x11 =>
    some (x11, w7)
  else
    some ((-1 : Int64), w7)
theorem mt_X4_filed : zMt yX4_filed cX4_filed 4 (some .long) 3 := ⟨q2769, q82, ⟨by decide, by decide⟩, by decide +kernel, by decide⟩
set_option maxHeartbeats 4000000 in
theorem k_X4_filed {l : Launch} {n : Nat} {a1 : Int32} {a2 : Int32} {a3 : Int32} {b : Nat} {u : zWd} {w : zM} (r : Int64) (w9 : zM) (hf : f_X4_filed n a1 a2 a3 w = some (r, w9)) : zCt l yX4_filed cX4_filed 4 (some .long) 3 [vA (some b), vI a1, vI a2, vI a3] (zIj b u w) (.inr (some (vL r), (zIj b u w9))) := by
  refine zCt_of (lv := [some (vA (some b)), some (vI a1), some (vI a2), some (vI a3)]) (by decide +kernel) 0 rfl rfl ?_
  intro X hX hI hN hQ
  have hX : zGd X RX4 cX4_filed 4 (some .long) 3 := hX
  unfold f_X4_filed at hf
  refine j_aload_n (pc := 0) hX dX4_filed_0 rfl ?_
  refine j_aload_n (pc := 1) hX dX4_filed_1 rfl ?_
  refine j_iload_n (pc := 2) hX dX4_filed_2 rfl ?_
  obtain ⟨x2, w1, hc_, hf⟩ := zB2_e hf
  refine j_callV (pc := 3) hX (ci := 3) mt_X4_isPlace q2473 q2475 qs30 (zIj_isC b u _) ⟨_, rfl, rfl⟩ [vI a1] rfl rfl (Nat.le_of_ble_eq_true rfl) (by decide) dX4_filed_3 (k_X4_isPlace _ _ hc_) ?_
  obtain ⟨x5, w6, hm_, hf⟩ := zB2_e hf
  have kj6 : zJ X 22 [some (vA (some b)), some (vI a1), some (vI a2), some (vI a3)] [vI x5, vA (some b)] (zIj b u w6) := by
    clear hm_
    obtain ⟨x8, w7, hc_, hf⟩ := zB2_e hf
    refine j_callV (pc := 22) hX (ci := 3) mt_X4_holds q2486 q2488 qs32 (zIj_isC b u _) ⟨_, rfl, rfl⟩ [vI x5] rfl rfl (Nat.le_of_ble_eq_true rfl) (by decide) dX4_filed_22 (k_X4_holds _ _ hc_) ?_
    refine j_if_eq (pc := 25) hX 32 dX4_filed_25 rfl hf (fun h_ hf => ?_) (fun h_ hf => ?_)
    · refine j_iload_n (pc := 32) hX dX4_filed_32 rfl ?_
      obtain ⟨x11, hm_, hf⟩ := zob hf
      have kj33 : zJ X 61 [none, none, none, none] [vL x11] (zIj b u w7) := by
        clear hm_
        exact j_lreturn (pc := 61) hX hQ (by cases hf; rfl) dX4_filed_61
      have hf := hm_
      refine j_if_eq (pc := 33) hX 50 dX4_filed_33 rfl hf (fun h_ hf => ?_) (fun h_ hf => ?_)
      · refine j_aload_n (pc := 50) hX dX4_filed_50 rfl ?_
        refine mg_A (pc := 51) hX 53 (by decide) 43 2 rfl rfl (by decide) q2298 dX4_filed_51 ?_
        refine j_bipush (pc := 54) hX (24 : Int32) dX4_filed_54 (by decide +kernel) ?_
        refine j_iload_n (pc := 56) hX dX4_filed_56 rfl ?_
        refine j_imul (pc := 57) hX dX4_filed_57 ?_
        refine j_iload_n (pc := 58) hX dX4_filed_58 rfl ?_
        refine j_iadd (pc := 59) hX dX4_filed_59 ?_
        refine mr_L (pc := 60) hX 53 72 43 (by decide) rfl rfl rfl dX4_filed_60 hf (fun x9 hx_ hf => ?_)
        refine j_fg [0, 1, 2, 3] [none, none, none, none] rfl ?_
        cases hf
        exact kj33
      · refine j_aload_n (pc := 36) hX dX4_filed_36 rfl ?_
        refine mg_A (pc := 37) hX 52 (by decide) 42 2 rfl rfl (by decide) q2297 dX4_filed_37 ?_
        refine j_bipush (pc := 40) hX (24 : Int32) dX4_filed_40 (by decide +kernel) ?_
        refine j_iload_n (pc := 42) hX dX4_filed_42 rfl ?_
        refine j_imul (pc := 43) hX dX4_filed_43 ?_
        refine j_iload_n (pc := 44) hX dX4_filed_44 rfl ?_
        refine j_iadd (pc := 45) hX dX4_filed_45 ?_
        refine mr_L (pc := 46) hX 52 72 42 (by decide) rfl rfl rfl dX4_filed_46 hf (fun x10 hx_ hf => ?_)
        refine j_goto (pc := 47) hX 61 dX4_filed_47 rfl ?_
        refine j_fg [0, 1, 2, 3] [none, none, none, none] rfl ?_
        cases hf
        exact kj33
    · refine j_ldc2 (pc := 28) hX q2542 dX4_filed_28 ?_
      exact j_lreturn (pc := 31) hX hQ (by cases hf; rfl) dX4_filed_31
  have hf := hm_
  refine j_if_eq (pc := 6) hX 21 dX4_filed_6 rfl hf (fun h_ hf => ?_) (fun h_ hf => ?_)
  · refine j_iconst (pc := 21) hX (1 : Int32) dX4_filed_21 rfl ?_
    cases hf
    exact kj6
  · refine j_aload_n (pc := 9) hX dX4_filed_9 rfl ?_
    refine j_iload_n (pc := 10) hX dX4_filed_10 rfl ?_
    obtain ⟨x4, w3, hc_, hf⟩ := zB2_e hf
    refine j_callV (pc := 11) hX (ci := 3) mt_X4_isMonth q2537 q2539 qs39 (zIj_isC b u _) ⟨_, rfl, rfl⟩ [vI a2] rfl rfl (Nat.le_of_ble_eq_true rfl) (by decide) dX4_filed_11 (k_X4_isMonth _ _ hc_) ?_
    refine j_if_eq (pc := 14) hX 21 dX4_filed_14 rfl hf (fun h_ hf => ?_) (fun h_ hf => ?_)
    · refine j_iconst (pc := 21) hX (1 : Int32) dX4_filed_21 rfl ?_
      cases hf
      exact kj6
    · refine j_iconst (pc := 17) hX (0 : Int32) dX4_filed_17 rfl ?_
      refine j_goto (pc := 18) hX 22 dX4_filed_18 rfl ?_
      cases hf
      exact kj6
def f_X4_corrections (n : Nat) (a1 : Int32) (a2 : Int32) (w : zM) : Option (Int32 × zM) :=
  zB2 (f_X4_isPlace n a1 w) fun x2 w1 =>
  zB2 (
    if x2 = (0 : Int32) then
      some ((1 : Int32), w1)
    else
      zB2 (f_X4_isMonth n a2 w1) fun x4 w3 =>
      if x4 = (0 : Int32) then
        some ((1 : Int32), w3)
      else
        some ((0 : Int32), w3)
    ) fun x5 w6 =>
  zB2 (f_X4_holds n x5 w6) fun x8 w7 =>
  (
    if x8 = (0 : Int32) then
      (rIM w7 54 72 (((24 : Int32) * a1) + a2)).bind fun x9 =>
      some x9
    else
      some (-1 : Int32)
    ).bind fun x10 =>
  some (x10, w7)
theorem mt_X4_corrections : zMt yX4_corrections cX4_corrections 3 (some .int) 2 := ⟨q2773, q82, ⟨by decide, by decide⟩, by decide +kernel, by decide⟩
set_option maxHeartbeats 4000000 in
theorem k_X4_corrections {l : Launch} {n : Nat} {a1 : Int32} {a2 : Int32} {b : Nat} {u : zWd} {w : zM} (r : Int32) (w9 : zM) (hf : f_X4_corrections n a1 a2 w = some (r, w9)) : zCt l yX4_corrections cX4_corrections 3 (some .int) 3 [vA (some b), vI a1, vI a2] (zIj b u w) (.inr (some (vI r), (zIj b u w9))) := by
  refine zCt_of (lv := [some (vA (some b)), some (vI a1), some (vI a2)]) (by decide +kernel) 0 rfl rfl ?_
  intro X hX hI hN hQ
  have hX : zGd X RX4 cX4_corrections 3 (some .int) 3 := hX
  unfold f_X4_corrections at hf
  refine j_aload_n (pc := 0) hX dX4_corrections_0 rfl ?_
  refine j_aload_n (pc := 1) hX dX4_corrections_1 rfl ?_
  refine j_iload_n (pc := 2) hX dX4_corrections_2 rfl ?_
  obtain ⟨x2, w1, hc_, hf⟩ := zB2_e hf
  refine j_callV (pc := 3) hX (ci := 3) mt_X4_isPlace q2473 q2475 qs30 (zIj_isC b u _) ⟨_, rfl, rfl⟩ [vI a1] rfl rfl (Nat.le_of_ble_eq_true rfl) (by decide) dX4_corrections_3 (k_X4_isPlace _ _ hc_) ?_
  obtain ⟨x5, w6, hm_, hf⟩ := zB2_e hf
  have kj6 : zJ X 22 [some (vA (some b)), some (vI a1), some (vI a2)] [vI x5, vA (some b)] (zIj b u w6) := by
    clear hm_
    obtain ⟨x8, w7, hc_, hf⟩ := zB2_e hf
    refine j_callV (pc := 22) hX (ci := 3) mt_X4_holds q2486 q2488 qs32 (zIj_isC b u _) ⟨_, rfl, rfl⟩ [vI x5] rfl rfl (Nat.le_of_ble_eq_true rfl) (by decide) dX4_corrections_22 (k_X4_holds _ _ hc_) ?_
    obtain ⟨x10, hm_, hf⟩ := zob hf
    have kj25 : zJ X 43 [none, none, none] [vI x10] (zIj b u w7) := by
      clear hm_
      exact j_ireturn (pc := 43) hX hQ (by cases hf; rfl) dX4_corrections_43
    have hf := hm_
    refine j_if_eq (pc := 25) hX 32 dX4_corrections_25 rfl hf (fun h_ hf => ?_) (fun h_ hf => ?_)
    · refine j_aload_n (pc := 32) hX dX4_corrections_32 rfl ?_
      refine mg_A (pc := 33) hX 54 (by decide) 44 1 rfl rfl (by decide) q2299 dX4_corrections_33 ?_
      refine j_bipush (pc := 36) hX (24 : Int32) dX4_corrections_36 (by decide +kernel) ?_
      refine j_iload_n (pc := 38) hX dX4_corrections_38 rfl ?_
      refine j_imul (pc := 39) hX dX4_corrections_39 ?_
      refine j_iload_n (pc := 40) hX dX4_corrections_40 rfl ?_
      refine j_iadd (pc := 41) hX dX4_corrections_41 ?_
      refine mr_I (pc := 42) hX 54 72 44 (by decide) rfl rfl rfl dX4_corrections_42 hf (fun x9 hx_ hf => ?_)
      refine j_fg [0, 1, 2] [none, none, none] rfl ?_
      cases hf
      exact kj25
    · refine j_iconst (pc := 28) hX (-1 : Int32) dX4_corrections_28 rfl ?_
      refine j_goto (pc := 29) hX 43 dX4_corrections_29 rfl ?_
      refine j_fg [0, 1, 2] [none, none, none] rfl ?_
      simp only [Option.some.injEq, Prod.mk.injEq] at hf
      obtain rfl := hf
      exact kj25
  have hf := hm_
  refine j_if_eq (pc := 6) hX 21 dX4_corrections_6 rfl hf (fun h_ hf => ?_) (fun h_ hf => ?_)
  · refine j_iconst (pc := 21) hX (1 : Int32) dX4_corrections_21 rfl ?_
    cases hf
    exact kj6
  · refine j_aload_n (pc := 9) hX dX4_corrections_9 rfl ?_
    refine j_iload_n (pc := 10) hX dX4_corrections_10 rfl ?_
    obtain ⟨x4, w3, hc_, hf⟩ := zB2_e hf
    refine j_callV (pc := 11) hX (ci := 3) mt_X4_isMonth q2537 q2539 qs39 (zIj_isC b u _) ⟨_, rfl, rfl⟩ [vI a2] rfl rfl (Nat.le_of_ble_eq_true rfl) (by decide) dX4_corrections_11 (k_X4_isMonth _ _ hc_) ?_
    refine j_if_eq (pc := 14) hX 21 dX4_corrections_14 rfl hf (fun h_ hf => ?_) (fun h_ hf => ?_)
    · refine j_iconst (pc := 21) hX (1 : Int32) dX4_corrections_21 rfl ?_
      cases hf
      exact kj6
    · refine j_iconst (pc := 17) hX (0 : Int32) dX4_corrections_17 rfl ?_
      refine j_goto (pc := 18) hX 22 dX4_corrections_18 rfl ?_
      cases hf
      exact kj6
