set_option maxRecDepth 100000
def f_X2_tell (n : Nat) (a0 : Option Nat) (a1 : Int32) (a2 : Option Nat) (w : zWd) : Option zWd :=
  (gA w 1 0 a0).bind fun x1 =>
  zB2 (f_J10_valueOf n a1 w) fun x3 w2 =>
  zB2 (zV (isC w2 19 x1) (f_J5_put n x1 x3 a2 w2)) fun x5 w4 =>
  some w4
theorem mt_X2_tell : zMt yX2_tell cX2_tell 4 none 2 := ⟨q1490, q70, ⟨by decide, by decide⟩, by decide +kernel, by decide⟩
set_option maxHeartbeats 4000000 in
theorem k_X2_tell {l : Launch} {n : Nat} {a0 : Option Nat} {a1 : Int32} {a2 : Option Nat} {w : zWd} (r : Unit) (w9 : zWd) (hf : f_X2_tell n a0 a1 a2 w = some w9) : zCt l yX2_tell cX2_tell 4 none 8 [vA a0, vI a1, vA a2] w (.inr (none, w9)) := by
  refine zCt_of (lv := [some (vA a0), some (vI a1), some (vA a2), none]) (by decide +kernel) 1 rfl rfl ?_
  intro X hX hI hN hQ
  have hX : zGd X RX2 cX2_tell 4 none 8 := hX
  unfold f_X2_tell at hf
  refine j_aload_n (pc := 0) hX dX2_tell_0 rfl ?_
  refine j_getA (pc := 1) hX kX2 (k := 0) (Nat.le_of_ble_eq_true rfl) q218 (Or.inl rfl) dX2_tell_1 hf (fun x1 hx_ hf => ?_)
  refine j_iload_n (pc := 4) hX dX2_tell_4 rfl ?_
  obtain ⟨x3, w2, hc_, hf⟩ := zB2_e hf
  refine j_callS (pc := 5) hX mt_J10_valueOf q1491 q311 [vI a1] rfl rfl (Nat.le_of_ble_eq_true rfl) (by decide) dX2_tell_5 (k_J10_valueOf _ _ hc_) ?_
  refine j_aload_n (pc := 8) hX dX2_tell_8 rfl ?_
  obtain ⟨x5, w4, hc_, hf⟩ := zB2_e hf
  obtain ⟨hi_, hc_⟩ := zV_e hc_
  refine j_callV (pc := 9) hX (ci := 19) mt_J5_put q1492 q579 q580 hi_ ⟨_, rfl, rfl⟩ [vA x3, vA a2] rfl rfl (Nat.le_of_ble_eq_true rfl) (by decide) dX2_tell_9 (k_J5_put _ _ hc_) ?_
  refine j_astore_n (pc := 12) hX dX2_tell_12 (by decide) [some (vA a0), some (vI a1), some (vA a2), some (vA x5)] rfl ?_
  exact j_return (pc := 13) hX hQ (by cases hf; rfl) dX2_tell_13
def f_X1_contribution (n : Nat) (a0 : Option Nat) (a1 : Int32) (a2 : Int32) (a3 : Int32) (a4 : Int32) (w : zWd) : Option ((String ⊕ Unit) × zWd) :=
  zBX (f_X1_at n a1 (3 : Int32) w) fun x2 w1 =>
  zBX (f_X1_at n a2 (24 : Int32) w1) fun x4 w3 =>
  (gA w3 0 9 a0).bind fun x5 =>
  zB2 (zV (isC w3 18 x5) (f_J2_get n x5 a1 w3)) fun x7 w6 =>
  (cK w6 [1] x7).bind fun _ =>
  zB2 (zNew w6 2 (.inr (2, df_X3))) fun x8 w9 =>
  zBX (f_X1_in n a3 (0 : Int32) (500 : Int32) w9) fun x11 w10 =>
  zBX (f_X1_in n a4 (0 : Int32) (100000000 : Int32) w10) fun x13 w12 =>
  (zV (decide (x8 ≠ none)) (f_X3_init n x8 x11 x13 w12)).bind fun w14 =>
  (zV (isC w14 1 x7) (f_X2_tell n x7 a2 x8 w14)).bind fun w15 =>
  some (.inr (), w15)
theorem mt_X1_contribution : zMt yX1_contribution cX1_contribution 5 none 4 := ⟨q1485, q66, ⟨by decide, by decide⟩, by decide +kernel, by decide⟩
set_option maxHeartbeats 4000000 in
theorem k_X1_contribution {l : Launch} {n : Nat} {a0 : Option Nat} {a1 : Int32} {a2 : Int32} {a3 : Int32} {a4 : Int32} {w : zWd} (r : String ⊕ Unit) (w9 : zWd) (hf : f_X1_contribution n a0 a1 a2 a3 a4 w = some (r, w9)) : zCt l yX1_contribution cX1_contribution 5 none 9 [vA a0, vI a1, vI a2, vI a3, vI a4] w (zXU r w9) := by
  refine zCt_of (lv := [some (vA a0), some (vI a1), some (vI a2), some (vI a3), some (vI a4)]) (by decide +kernel) 0 rfl rfl ?_
  intro X hX hI hN hQ
  have hX : zGd X RX1 cX1_contribution 5 none 9 := hX
  unfold f_X1_contribution at hf
  refine j_iload_n (pc := 0) hX dX1_contribution_0 rfl ?_
  refine j_iconst (pc := 1) hX (3 : Int32) dX1_contribution_1 rfl ?_
  obtain ⟨⟨q_, w1⟩, hc_, hf⟩ := zob hf
  cases q_ with
  | inl E_ =>
    cases hf
    exact j_callSX (pc := 2) hX mt_X1_at q507 q508 [vI a1, vI (3 : Int32)] rfl rfl (Nat.le_of_ble_eq_true rfl) (by decide) dX1_contribution_2 hN hQ (k_X1_at _ _ hc_)
  | inr x2 =>
    refine j_callS (pc := 2) hX mt_X1_at q507 q508 [vI a1, vI (3 : Int32)] rfl rfl (Nat.le_of_ble_eq_true rfl) (by decide) dX1_contribution_2 (k_X1_at _ _ hc_) ?_
    refine j_pop (pc := 5) hX rfl dX1_contribution_5 ?_
    refine j_iload_n (pc := 6) hX dX1_contribution_6 rfl ?_
    refine j_bipush (pc := 7) hX (24 : Int32) dX1_contribution_7 (by decide +kernel) ?_
    obtain ⟨⟨q_, w3⟩, hc_, hf⟩ := zob hf
    cases q_ with
    | inl E_ =>
      cases hf
      exact j_callSX (pc := 9) hX mt_X1_at q507 q508 [vI a2, vI (24 : Int32)] rfl rfl (Nat.le_of_ble_eq_true rfl) (by decide) dX1_contribution_9 hN hQ (k_X1_at _ _ hc_)
    | inr x4 =>
      refine j_callS (pc := 9) hX mt_X1_at q507 q508 [vI a2, vI (24 : Int32)] rfl rfl (Nat.le_of_ble_eq_true rfl) (by decide) dX1_contribution_9 (k_X1_at _ _ hc_) ?_
      refine j_pop (pc := 12) hX rfl dX1_contribution_12 ?_
      refine j_aload_n (pc := 13) hX dX1_contribution_13 rfl ?_
      refine j_getA (pc := 14) hX kX1 (k := 9) (Nat.le_of_ble_eq_true rfl) q348 (Or.inl rfl) dX1_contribution_14 hf (fun x5 hx_ hf => ?_)
      refine j_iload_n (pc := 17) hX dX1_contribution_17 rfl ?_
      obtain ⟨x7, w6, hc_, hf⟩ := zB2_e hf
      obtain ⟨hi_, hc_⟩ := zV_e hc_
      refine j_callF (pc := 18) hX (ci := 18) mt_J2_get q965 q970 q968 (by decide +kernel) rfl hi_ ⟨_, rfl, rfl⟩ [vI a1] rfl rfl (Nat.le_of_ble_eq_true rfl) (by decide) dX1_contribution_18 (k_J2_get _ _ hc_) ?_
      refine j_cast (pc := 23) hX q162 [1] (zC1 ⟨_, rfl, Or.inl rfl⟩) dX1_contribution_23 hf (fun hf => ?_)
      refine j_iload_n (pc := 26) hX dX1_contribution_26 rfl ?_
      refine j_new (pc := 27) hX kX3 q164 q165 q72 df_X3 df_X3_ok dX1_contribution_27 hf (fun x8 w9 hf => ?_)
      refine j_dup (pc := 30) hX rfl dX1_contribution_30 ?_
      refine j_iload_n (pc := 31) hX dX1_contribution_31 rfl ?_
      refine j_iconst (pc := 32) hX (0 : Int32) dX1_contribution_32 rfl ?_
      refine j_sipush (pc := 33) hX (500 : Int32) dX1_contribution_33 (by decide +kernel) ?_
      obtain ⟨⟨q_, w10⟩, hc_, hf⟩ := zob hf
      cases q_ with
      | inl E_ =>
        cases hf
        exact j_callSX (pc := 36) hX mt_X1_in q523 q524 [vI a3, vI (0 : Int32), vI (500 : Int32)] rfl rfl (Nat.le_of_ble_eq_true rfl) (by decide) dX1_contribution_36 hN hQ (k_X1_in _ _ hc_)
      | inr x11 =>
        refine j_callS (pc := 36) hX mt_X1_in q523 q524 [vI a3, vI (0 : Int32), vI (500 : Int32)] rfl rfl (Nat.le_of_ble_eq_true rfl) (by decide) dX1_contribution_36 (k_X1_in _ _ hc_) ?_
        refine j_iload (pc := 39) hX dX1_contribution_39 rfl ?_
        refine j_iconst (pc := 41) hX (0 : Int32) dX1_contribution_41 rfl ?_
        refine j_ldcw (pc := 42) hX q1486 dX1_contribution_42 ?_
        obtain ⟨⟨q_, w12⟩, hc_, hf⟩ := zob hf
        cases q_ with
        | inl E_ =>
          cases hf
          exact j_callSX (pc := 45) hX mt_X1_in q523 q524 [vI a4, vI (0 : Int32), vI (100000000 : Int32)] rfl rfl (Nat.le_of_ble_eq_true rfl) (by decide) dX1_contribution_45 hN hQ (k_X1_in _ _ hc_)
        | inr x13 =>
          refine j_callS (pc := 45) hX mt_X1_in q523 q524 [vI a4, vI (0 : Int32), vI (100000000 : Int32)] rfl rfl (Nat.le_of_ble_eq_true rfl) (by decide) dX1_contribution_45 (k_X1_in _ _ hc_) ?_
          obtain ⟨w14, hc_, hf⟩ := zob hf
          obtain ⟨hi_, hc_⟩ := zV_e hc_
          refine j_callIN (pc := 48) hX mt_X3_init q166 q167 rfl rfl [vI x11, vI x13] rfl rfl (Nat.le_of_ble_eq_true rfl) (by decide) dX1_contribution_48 (of_decide_eq_true hi_) (k_X3_init () _ hc_) ?_
          obtain ⟨w15, hc_, hf⟩ := zob hf
          obtain ⟨hi_, hc_⟩ := zV_e hc_
          refine j_callV (pc := 51) hX (ci := 1) mt_X2_tell q1487 q1488 q1489 hi_ ⟨_, rfl, rfl⟩ [vI a2, vA x8] rfl rfl (Nat.le_of_ble_eq_true rfl) (by decide) dX1_contribution_51 (k_X2_tell () _ hc_) ?_
          exact j_return (pc := 54) hX hQ (by cases hf; rfl) dX1_contribution_54
def f_X2_from (n : Nat) (a0 : Option Nat) (a1 : Int32) (w : zWd) : Option ((Option Nat) × zWd) :=
  (gA w 1 0 a0).bind fun x1 =>
  zB2 (f_J10_valueOf n a1 w) fun x3 w2 =>
  zB2 (zV (isC w2 19 x1) (f_J5_get n x1 x3 w2)) fun x5 w4 =>
  some (x5, w4)
theorem mt_X2_from : zMt yX2_from cX2_from 2 (some (.object "java/lang/Object")) 1 := ⟨q1505, q70, ⟨by decide, by decide⟩, by decide +kernel, by decide⟩
set_option maxHeartbeats 4000000 in
theorem k_X2_from {l : Launch} {n : Nat} {a0 : Option Nat} {a1 : Int32} {w : zWd} (r : Option Nat) (w9 : zWd) (hf : f_X2_from n a0 a1 w = some (r, w9)) : zCt l yX2_from cX2_from 2 (some (.object "java/lang/Object")) 6 [vA a0, vI a1] w (.inr (some (vA r), w9)) := by
  refine zCt_of (lv := [some (vA a0), some (vI a1)]) (by decide +kernel) 0 rfl rfl ?_
  intro X hX hI hN hQ
  have hX : zGd X RX2 cX2_from 2 (some (.object "java/lang/Object")) 6 := hX
  unfold f_X2_from at hf
  refine j_aload_n (pc := 0) hX dX2_from_0 rfl ?_
  refine j_getA (pc := 1) hX kX2 (k := 0) (Nat.le_of_ble_eq_true rfl) q218 (Or.inl rfl) dX2_from_1 hf (fun x1 hx_ hf => ?_)
  refine j_iload_n (pc := 4) hX dX2_from_4 rfl ?_
  obtain ⟨x3, w2, hc_, hf⟩ := zB2_e hf
  refine j_callS (pc := 5) hX mt_J10_valueOf q1491 q311 [vI a1] rfl rfl (Nat.le_of_ble_eq_true rfl) (by decide) dX2_from_5 (k_J10_valueOf _ _ hc_) ?_
  obtain ⟨x5, w4, hc_, hf⟩ := zB2_e hf
  obtain ⟨hi_, hc_⟩ := zV_e hc_
  refine j_callV (pc := 8) hX (ci := 19) mt_J5_get q1506 q901 q902 hi_ ⟨_, rfl, rfl⟩ [vA x3] rfl rfl (Nat.le_of_ble_eq_true rfl) (by decide) dX2_from_8 (k_J5_get _ _ hc_) ?_
  exact j_areturn (pc := 11) hX rfl hQ (by cases hf; rfl) dX2_from_11
def f_X13_end (n : Nat) (a0 : Option Nat) (w : zWd) : Option (Int32 × zWd) :=
  (gI w 12 0 a0).bind fun x1 =>
  some (x1, w)
theorem mt_X13_end : zMt yX13_end cX13_end 1 (some .int) 0 := ⟨q1511, q110, ⟨by decide, by decide⟩, by decide +kernel, by decide⟩
set_option maxHeartbeats 4000000 in
theorem k_X13_end {l : Launch} {n : Nat} {a0 : Option Nat} {w : zWd} (r : Int32) (w9 : zWd) (hf : f_X13_end n a0 w = some (r, w9)) : zCt l yX13_end cX13_end 1 (some .int) 1 [vA a0] w (.inr (some (vI r), w9)) := by
  refine zCt_of (lv := [some (vA a0)]) (by decide +kernel) 0 rfl rfl ?_
  intro X hX hI hN hQ
  have hX : zGd X RX13 cX13_end 1 (some .int) 1 := hX
  unfold f_X13_end at hf
  refine j_aload_n (pc := 0) hX dX13_end_0 rfl ?_
  refine j_getI (pc := 1) hX kX13 (k := 0) (Nat.le_of_ble_eq_true rfl) q1517 (Or.inl rfl) dX13_end_1 hf (fun x1 hx_ hf => ?_)
  exact j_ireturn (pc := 4) hX hQ (by cases hf; rfl) dX13_end_4
def f_X13_init (n : Nat) (a0 : Option Nat) (a1 : Int32) (a2 : Int32) (w : zWd) : Option zWd :=
  (zV (decide (a0 ≠ none)) (f_J3_init n a0 w)).bind fun w1 =>
  (pI w1 12 0 a0 a1).bind fun w2 =>
  (pI w2 12 1 a0 a2).bind fun w3 =>
  some w3
theorem mt_X13_init : zMt yX13_init cX13_init 3 none 2 := ⟨q1515, q110, ⟨by decide, by decide⟩, by decide +kernel, by decide⟩
set_option maxHeartbeats 4000000 in
theorem k_X13_init {l : Launch} {n : Nat} {a0 : Option Nat} {a1 : Int32} {a2 : Int32} {w : zWd} (r : Unit) (w9 : zWd) (hf : f_X13_init n a0 a1 a2 w = some w9) : zCt l yX13_init cX13_init 3 none 2 [vA a0, vI a1, vI a2] w (.inr (none, w9)) := by
  refine zCt_of (lv := [some (vA a0), some (vI a1), some (vI a2)]) (by decide +kernel) 0 rfl rfl ?_
  intro X hX hI hN hQ
  have hX : zGd X RX13 cX13_init 3 none 2 := hX
  unfold f_X13_init at hf
  refine j_aload_n (pc := 0) hX dX13_init_0 rfl ?_
  obtain ⟨w1, hc_, hf⟩ := zob hf
  obtain ⟨hi_, hc_⟩ := zV_e hc_
  refine j_callI (pc := 1) hX mt_J3_init q1516 q170 rfl rfl [] rfl rfl (Nat.le_of_ble_eq_true rfl) (by decide) dX13_init_1 (of_decide_eq_true hi_) (k_J3_init () _ hc_) ?_
  refine j_aload_n (pc := 4) hX dX13_init_4 rfl ?_
  refine j_iload_n (pc := 5) hX dX13_init_5 rfl ?_
  refine j_putIF (pc := 6) hX hI kX13 (k := 0) (Nat.le_of_ble_eq_true rfl) q1517 rfl rfl rfl rfl dX13_init_6 hf (fun w2 hf => ?_)
  refine j_aload_n (pc := 9) hX dX13_init_9 rfl ?_
  refine j_iload_n (pc := 10) hX dX13_init_10 rfl ?_
  refine j_putIF (pc := 11) hX hI kX13 (k := 1) (Nat.le_of_ble_eq_true rfl) q1518 rfl rfl rfl rfl dX13_init_11 hf (fun w3 hf => ?_)
  exact j_return (pc := 14) hX hQ (by cases hf; rfl) dX13_init_14
def f_X1_bracket (n : Nat) (a0 : Option Nat) (a1 : Int32) (a2 : Int32) (a3 : Int32) (a4 : Int32) (a5 : Int32) (w : zWd) : Option ((String ⊕ Int32) × zWd) :=
  zBX (f_X1_at n a1 (3 : Int32) w) fun x2 w1 =>
  zBX (f_X1_at n a3 (24 : Int32) w1) fun x4 w3 =>
  zBX (f_X1_in n a2 (0 : Int32) (1 : Int32) w3) fun x6 w5 =>
  zBX (f_X1_in n a4 (1 : Int32) (1000000000 : Int32) w5) fun x8 w7 =>
  zBX (f_X1_in n a5 (0 : Int32) (900 : Int32) w7) fun x10 w9 =>
  (gA w9 0 10 a0).bind fun x11 =>
  zB2 (zV (isC w9 18 x11) (f_J2_get n x11 a1 w9)) fun x13 w12 =>
  (cK w12 [18] x13).bind fun _ =>
  zB2 (zV (isC w12 18 x13) (f_J2_get n x13 a2 w12)) fun x15 w14 =>
  (cK w14 [1] x15).bind fun _ =>
  zB2 (zV (isC w14 1 x15) (f_X2_from n x15 a3 w14)) fun x17 w16 =>
  (cK w16 [18] x17).bind fun _ =>
  zB2 (
    if x17 = none then
      some ((1 : Int32), w16)
    else
      zB2 (zV (isC w16 18 x17) (f_J2_size n x17 w16)) fun x19 w18 =>
      if (4 : Int32) ≤ x19 then
        some ((0 : Int32), w18)
      else
        zB2 (zV (isC w18 18 x17) (f_J2_size n x17 w18)) fun x21 w20 =>
        zB2 (zV (isC w20 18 x17) (f_J2_get n x17 (x21 - (1 : Int32)) w20)) fun x23 w22 =>
        (cK w22 [12] x23).bind fun _ =>
        zB2 (zV (isC w22 12 x23) (f_X13_end n x23 w22)) fun x25 w24 =>
        if a4 ≤ x25 then
          some ((0 : Int32), w24)
        else
          some ((1 : Int32), w24)
    ) fun x26 w27 =>
  zBX (f_X1_must n x26 w27) fun _u w28 =>
  zB2 (
    if x17 = none then
      zB2 (zNew w28 3 (.inr (18, df_J2))) fun x29 w30 =>
      (zV (decide (x29 ≠ none)) (f_J2_init n x29 w30)).bind fun w31 =>
      (zV (isC w31 1 x15) (f_X2_tell n x15 a3 x29 w31)).bind fun w32 =>
      some (x29, w32)
    else
      some (x17, w28)
    ) fun x33 w34 =>
  zB2 (zNew w34 2 (.inr (12, df_X13))) fun x35 w36 =>
  (zV (decide (x35 ≠ none)) (f_X13_init n x35 a4 a5 w36)).bind fun w37 =>
  zB2 (zV (isC w37 18 x33) (f_J2_add n x33 x35 w37)) fun x39 w38 =>
  zB2 (zV (isC w38 18 x33) (f_J2_size n x33 w38)) fun x41 w40 =>
  some (.inr x41, w40)
theorem mt_X1_bracket : zMt yX1_bracket cX1_bracket 9 (some .int) 5 := ⟨q1499, q66, ⟨by decide, by decide⟩, by decide +kernel, by decide⟩
set_option maxHeartbeats 4000000 in
theorem k_X1_bracket {l : Launch} {n : Nat} {a0 : Option Nat} {a1 : Int32} {a2 : Int32} {a3 : Int32} {a4 : Int32} {a5 : Int32} {w : zWd} (r : String ⊕ Int32) (w9 : zWd) (hf : f_X1_bracket n a0 a1 a2 a3 a4 a5 w = some (r, w9)) : zCt l yX1_bracket cX1_bracket 9 (some .int) 9 [vA a0, vI a1, vI a2, vI a3, vI a4, vI a5] w (zXI r w9) := by
  refine zCt_of (lv := [some (vA a0), some (vI a1), some (vI a2), some (vI a3), some (vI a4), some (vI a5), none, none, none]) (by decide +kernel) 3 rfl rfl ?_
  intro X hX hI hN hQ
  have hX : zGd X RX1 cX1_bracket 9 (some .int) 9 := hX
  unfold f_X1_bracket at hf
  refine j_iload_n (pc := 0) hX dX1_bracket_0 rfl ?_
  refine j_iconst (pc := 1) hX (3 : Int32) dX1_bracket_1 rfl ?_
  obtain ⟨⟨q_, w1⟩, hc_, hf⟩ := zob hf
  cases q_ with
  | inl E_ =>
    cases hf
    exact j_callSX (pc := 2) hX mt_X1_at q507 q508 [vI a1, vI (3 : Int32)] rfl rfl (Nat.le_of_ble_eq_true rfl) (by decide) dX1_bracket_2 hN hQ (k_X1_at _ _ hc_)
  | inr x2 =>
    refine j_callS (pc := 2) hX mt_X1_at q507 q508 [vI a1, vI (3 : Int32)] rfl rfl (Nat.le_of_ble_eq_true rfl) (by decide) dX1_bracket_2 (k_X1_at _ _ hc_) ?_
    refine j_pop (pc := 5) hX rfl dX1_bracket_5 ?_
    refine j_iload_n (pc := 6) hX dX1_bracket_6 rfl ?_
    refine j_bipush (pc := 7) hX (24 : Int32) dX1_bracket_7 (by decide +kernel) ?_
    obtain ⟨⟨q_, w3⟩, hc_, hf⟩ := zob hf
    cases q_ with
    | inl E_ =>
      cases hf
      exact j_callSX (pc := 9) hX mt_X1_at q507 q508 [vI a3, vI (24 : Int32)] rfl rfl (Nat.le_of_ble_eq_true rfl) (by decide) dX1_bracket_9 hN hQ (k_X1_at _ _ hc_)
    | inr x4 =>
      refine j_callS (pc := 9) hX mt_X1_at q507 q508 [vI a3, vI (24 : Int32)] rfl rfl (Nat.le_of_ble_eq_true rfl) (by decide) dX1_bracket_9 (k_X1_at _ _ hc_) ?_
      refine j_pop (pc := 12) hX rfl dX1_bracket_12 ?_
      refine j_iload_n (pc := 13) hX dX1_bracket_13 rfl ?_
      refine j_iconst (pc := 14) hX (0 : Int32) dX1_bracket_14 rfl ?_
      refine j_iconst (pc := 15) hX (1 : Int32) dX1_bracket_15 rfl ?_
      obtain ⟨⟨q_, w5⟩, hc_, hf⟩ := zob hf
      cases q_ with
      | inl E_ =>
        cases hf
        exact j_callSX (pc := 16) hX mt_X1_in q523 q524 [vI a2, vI (0 : Int32), vI (1 : Int32)] rfl rfl (Nat.le_of_ble_eq_true rfl) (by decide) dX1_bracket_16 hN hQ (k_X1_in _ _ hc_)
      | inr x6 =>
        refine j_callS (pc := 16) hX mt_X1_in q523 q524 [vI a2, vI (0 : Int32), vI (1 : Int32)] rfl rfl (Nat.le_of_ble_eq_true rfl) (by decide) dX1_bracket_16 (k_X1_in _ _ hc_) ?_
        refine j_pop (pc := 19) hX rfl dX1_bracket_19 ?_
        refine j_iload (pc := 20) hX dX1_bracket_20 rfl ?_
        refine j_iconst (pc := 22) hX (1 : Int32) dX1_bracket_22 rfl ?_
        refine j_ldcw (pc := 23) hX q1500 dX1_bracket_23 ?_
        obtain ⟨⟨q_, w7⟩, hc_, hf⟩ := zob hf
        cases q_ with
        | inl E_ =>
          cases hf
          exact j_callSX (pc := 26) hX mt_X1_in q523 q524 [vI a4, vI (1 : Int32), vI (1000000000 : Int32)] rfl rfl (Nat.le_of_ble_eq_true rfl) (by decide) dX1_bracket_26 hN hQ (k_X1_in _ _ hc_)
        | inr x8 =>
          refine j_callS (pc := 26) hX mt_X1_in q523 q524 [vI a4, vI (1 : Int32), vI (1000000000 : Int32)] rfl rfl (Nat.le_of_ble_eq_true rfl) (by decide) dX1_bracket_26 (k_X1_in _ _ hc_) ?_
          refine j_pop (pc := 29) hX rfl dX1_bracket_29 ?_
          refine j_iload (pc := 30) hX dX1_bracket_30 rfl ?_
          refine j_iconst (pc := 32) hX (0 : Int32) dX1_bracket_32 rfl ?_
          refine j_sipush (pc := 33) hX (900 : Int32) dX1_bracket_33 (by decide +kernel) ?_
          obtain ⟨⟨q_, w9⟩, hc_, hf⟩ := zob hf
          cases q_ with
          | inl E_ =>
            cases hf
            exact j_callSX (pc := 36) hX mt_X1_in q523 q524 [vI a5, vI (0 : Int32), vI (900 : Int32)] rfl rfl (Nat.le_of_ble_eq_true rfl) (by decide) dX1_bracket_36 hN hQ (k_X1_in _ _ hc_)
          | inr x10 =>
            refine j_callS (pc := 36) hX mt_X1_in q523 q524 [vI a5, vI (0 : Int32), vI (900 : Int32)] rfl rfl (Nat.le_of_ble_eq_true rfl) (by decide) dX1_bracket_36 (k_X1_in _ _ hc_) ?_
            refine j_pop (pc := 39) hX rfl dX1_bracket_39 ?_
            refine j_aload_n (pc := 40) hX dX1_bracket_40 rfl ?_
            refine j_getA (pc := 41) hX kX1 (k := 10) (Nat.le_of_ble_eq_true rfl) q349 (Or.inl rfl) dX1_bracket_41 hf (fun x11 hx_ hf => ?_)
            refine j_iload_n (pc := 44) hX dX1_bracket_44 rfl ?_
            obtain ⟨x13, w12, hc_, hf⟩ := zB2_e hf
            obtain ⟨hi_, hc_⟩ := zV_e hc_
            refine j_callF (pc := 45) hX (ci := 18) mt_J2_get q965 q970 q968 (by decide +kernel) rfl hi_ ⟨_, rfl, rfl⟩ [vI a1] rfl rfl (Nat.le_of_ble_eq_true rfl) (by decide) dX1_bracket_45 (k_J2_get _ _ hc_) ?_
            refine j_cast (pc := 50) hX q1501 [18] (zC1 ⟨_, rfl, Or.inr q229⟩) dX1_bracket_50 hf (fun hf => ?_)
            refine j_iload_n (pc := 53) hX dX1_bracket_53 rfl ?_
            obtain ⟨x15, w14, hc_, hf⟩ := zB2_e hf
            obtain ⟨hi_, hc_⟩ := zV_e hc_
            refine j_callF (pc := 54) hX (ci := 18) mt_J2_get q965 q970 q968 (by decide +kernel) rfl hi_ ⟨_, rfl, rfl⟩ [vI a2] rfl rfl (Nat.le_of_ble_eq_true rfl) (by decide) dX1_bracket_54 (k_J2_get _ _ hc_) ?_
            refine j_cast (pc := 59) hX q162 [1] (zC1 ⟨_, rfl, Or.inl rfl⟩) dX1_bracket_59 hf (fun hf => ?_)
            refine j_astore (pc := 62) hX dX1_bracket_62 (by decide) [some (vA a0), some (vI a1), some (vI a2), some (vI a3), some (vI a4), some (vI a5), some (vA x15), none, none] rfl ?_
            refine j_aload (pc := 64) hX dX1_bracket_64 rfl ?_
            refine j_iload_n (pc := 66) hX dX1_bracket_66 rfl ?_
            obtain ⟨x17, w16, hc_, hf⟩ := zB2_e hf
            obtain ⟨hi_, hc_⟩ := zV_e hc_
            refine j_callV (pc := 67) hX (ci := 1) mt_X2_from q1502 q1503 q1504 hi_ ⟨_, rfl, rfl⟩ [vI a3] rfl rfl (Nat.le_of_ble_eq_true rfl) (by decide) dX1_bracket_67 (k_X2_from _ _ hc_) ?_
            refine j_cast (pc := 70) hX q1501 [18] (zC1 ⟨_, rfl, Or.inr q229⟩) dX1_bracket_70 hf (fun hf => ?_)
            refine j_astore (pc := 73) hX dX1_bracket_73 (by decide) [some (vA a0), some (vI a1), some (vI a2), some (vI a3), some (vI a4), some (vI a5), some (vA x15), some (vA x17), none] rfl ?_
            refine j_aload (pc := 75) hX dX1_bracket_75 rfl ?_
            obtain ⟨x26, w27, hm_, hf⟩ := zB2_e hf
            have kj77 : zJ X 123 [none, none, none, some (vI a3), some (vI a4), some (vI a5), some (vA x15), some (vA x17), none] [vI x26] w27 := by
              clear hm_
              refine j_istore (pc := 123) hX dX1_bracket_123 (by decide) [none, none, none, some (vI a3), some (vI a4), some (vI a5), some (vA x15), some (vA x17), some (vI x26)] rfl ?_
              refine j_iload (pc := 125) hX dX1_bracket_125 rfl ?_
              obtain ⟨⟨q_, w28⟩, hc_, hf⟩ := zob hf
              cases q_ with
              | inl E_ =>
                cases hf
                exact j_callSX (pc := 127) hX mt_X1_must q543 q544 [vI x26] rfl rfl (Nat.le_of_ble_eq_true rfl) (by decide) dX1_bracket_127 hN hQ (k_X1_must _ _ hc_)
              | inr u_ =>
                refine j_callS (pc := 127) hX mt_X1_must q543 q544 [vI x26] rfl rfl (Nat.le_of_ble_eq_true rfl) (by decide) dX1_bracket_127 (k_X1_must _ _ hc_) ?_
                refine j_aload (pc := 130) hX dX1_bracket_130 rfl ?_
                obtain ⟨x33, w34, hm_, hf⟩ := zB2_e hf
                have kj132 : zJ X 152 [none, none, none, none, some (vI a4), some (vI a5), none, some (vA x33), none] [] w34 := by
                  clear hm_
                  refine j_aload (pc := 152) hX dX1_bracket_152 rfl ?_
                  refine j_new (pc := 154) hX kX13 q1507 q1512 q110 df_X13 df_X13_ok dX1_bracket_154 hf (fun x35 w36 hf => ?_)
                  refine j_dup (pc := 157) hX rfl dX1_bracket_157 ?_
                  refine j_iload (pc := 158) hX dX1_bracket_158 rfl ?_
                  refine j_iload (pc := 160) hX dX1_bracket_160 rfl ?_
                  obtain ⟨w37, hc_, hf⟩ := zob hf
                  obtain ⟨hi_, hc_⟩ := zV_e hc_
                  refine j_callIN (pc := 162) hX mt_X13_init q1513 q1514 rfl rfl [vI a4, vI a5] rfl rfl (Nat.le_of_ble_eq_true rfl) (by decide) dX1_bracket_162 (of_decide_eq_true hi_) (k_X13_init () _ hc_) ?_
                  obtain ⟨x39, w38, hc_, hf⟩ := zB2_e hf
                  obtain ⟨hi_, hc_⟩ := zV_e hc_
                  refine j_callF (pc := 165) hX (ci := 18) mt_J2_add q226 q232 q230 (by decide +kernel) rfl hi_ ⟨_, rfl, rfl⟩ [vA x35] rfl rfl (Nat.le_of_ble_eq_true rfl) (by decide) dX1_bracket_165 (k_J2_add _ _ hc_) ?_
                  refine j_pop (pc := 170) hX rfl dX1_bracket_170 ?_
                  refine j_aload (pc := 171) hX dX1_bracket_171 rfl ?_
                  obtain ⟨x41, w40, hc_, hf⟩ := zB2_e hf
                  obtain ⟨hi_, hc_⟩ := zV_e hc_
                  refine j_callF (pc := 173) hX (ci := 18) mt_J2_size q413 q418 q416 (by decide +kernel) rfl hi_ ⟨_, rfl, rfl⟩ [] rfl rfl (Nat.le_of_ble_eq_true rfl) (by decide) dX1_bracket_173 (k_J2_size _ _ hc_) ?_
                  exact j_ireturn (pc := 178) hX hQ (by cases hf; rfl) dX1_bracket_178
                have hf := hm_
                refine j_ifnonnull (pc := 132) hX 152 dX1_bracket_132 rfl hf (fun h_ hf => ?_) (fun h_ hf => ?_)
                · refine j_fg [3, 6, 8] [none, none, none, none, some (vI a4), some (vI a5), none, some (vA x17), none] rfl ?_
                  cases hf
                  exact kj132
                · refine j_new (pc := 135) hX kJ2 q126 q127 q69 df_J2 df_J2_ok dX1_bracket_135 hf (fun x29 w30 hf => ?_)
                  refine j_dup (pc := 138) hX rfl dX1_bracket_138 ?_
                  obtain ⟨w31, hc_, hf⟩ := zob hf
                  obtain ⟨hi_, hc_⟩ := zV_e hc_
                  refine j_callI (pc := 139) hX mt_J2_init q128 q129 rfl rfl [] rfl rfl (Nat.le_of_ble_eq_true rfl) (by decide) dX1_bracket_139 (of_decide_eq_true hi_) (k_J2_init () _ hc_) ?_
                  refine j_astore (pc := 142) hX dX1_bracket_142 (by decide) [none, none, none, some (vI a3), some (vI a4), some (vI a5), some (vA x15), some (vA x29), some (vI x26)] rfl ?_
                  refine j_aload (pc := 144) hX dX1_bracket_144 rfl ?_
                  refine j_iload_n (pc := 146) hX dX1_bracket_146 rfl ?_
                  refine j_aload (pc := 147) hX dX1_bracket_147 rfl ?_
                  obtain ⟨w32, hc_, hf⟩ := zob hf
                  obtain ⟨hi_, hc_⟩ := zV_e hc_
                  refine j_callV (pc := 149) hX (ci := 1) mt_X2_tell q1487 q1488 q1489 hi_ ⟨_, rfl, rfl⟩ [vI a3, vA x29] rfl rfl (Nat.le_of_ble_eq_true rfl) (by decide) dX1_bracket_149 (k_X2_tell () _ hc_) ?_
                  refine j_fg [3, 6, 8] [none, none, none, none, some (vI a4), some (vI a5), none, some (vA x29), none] rfl ?_
                  cases hf
                  exact kj132
            have hf := hm_
            refine j_ifnull (pc := 77) hX 118 dX1_bracket_77 rfl hf (fun h_ hf => ?_) (fun h_ hf => ?_)
            · refine j_iconst (pc := 118) hX (1 : Int32) dX1_bracket_118 rfl ?_
              refine j_goto (pc := 119) hX 123 dX1_bracket_119 rfl ?_
              refine j_fg [0, 1, 2] [none, none, none, some (vI a3), some (vI a4), some (vI a5), some (vA x15), some (vA x17), none] rfl ?_
              cases hf
              exact kj77
            · refine j_aload (pc := 80) hX dX1_bracket_80 rfl ?_
              obtain ⟨x19, w18, hc_, hf⟩ := zB2_e hf
              obtain ⟨hi_, hc_⟩ := zV_e hc_
              refine j_callF (pc := 82) hX (ci := 18) mt_J2_size q413 q418 q416 (by decide +kernel) rfl hi_ ⟨_, rfl, rfl⟩ [] rfl rfl (Nat.le_of_ble_eq_true rfl) (by decide) dX1_bracket_82 (k_J2_size _ _ hc_) ?_
              refine j_iconst (pc := 87) hX (4 : Int32) dX1_bracket_87 rfl ?_
              refine j_icmp_ge (pc := 88) hX 122 dX1_bracket_88 rfl hf (fun h_ hf => ?_) (fun h_ hf => ?_)
              · refine j_iconst (pc := 122) hX (0 : Int32) dX1_bracket_122 rfl ?_
                refine j_fg [0, 1, 2] [none, none, none, some (vI a3), some (vI a4), some (vI a5), some (vA x15), some (vA x17), none] rfl ?_
                cases hf
                exact kj77
              · refine j_aload (pc := 91) hX dX1_bracket_91 rfl ?_
                refine j_aload (pc := 93) hX dX1_bracket_93 rfl ?_
                obtain ⟨x21, w20, hc_, hf⟩ := zB2_e hf
                obtain ⟨hi_, hc_⟩ := zV_e hc_
                refine j_callF (pc := 95) hX (ci := 18) mt_J2_size q413 q418 q416 (by decide +kernel) rfl hi_ ⟨_, rfl, rfl⟩ [] rfl rfl (Nat.le_of_ble_eq_true rfl) (by decide) dX1_bracket_95 (k_J2_size _ _ hc_) ?_
                refine j_iconst (pc := 100) hX (1 : Int32) dX1_bracket_100 rfl ?_
                refine j_isub (pc := 101) hX dX1_bracket_101 ?_
                obtain ⟨x23, w22, hc_, hf⟩ := zB2_e hf
                obtain ⟨hi_, hc_⟩ := zV_e hc_
                refine j_callF (pc := 102) hX (ci := 18) mt_J2_get q965 q970 q968 (by decide +kernel) rfl hi_ ⟨_, rfl, rfl⟩ [vI (x21 - (1 : Int32))] rfl rfl (Nat.le_of_ble_eq_true rfl) (by decide) dX1_bracket_102 (k_J2_get _ _ hc_) ?_
                refine j_cast (pc := 107) hX q1507 [12] (zC1 ⟨_, rfl, Or.inl rfl⟩) dX1_bracket_107 hf (fun hf => ?_)
                obtain ⟨x25, w24, hc_, hf⟩ := zB2_e hf
                obtain ⟨hi_, hc_⟩ := zV_e hc_
                refine j_callV (pc := 110) hX (ci := 12) mt_X13_end q1508 q1509 q1510 hi_ ⟨_, rfl, rfl⟩ [] rfl rfl (Nat.le_of_ble_eq_true rfl) (by decide) dX1_bracket_110 (k_X13_end _ _ hc_) ?_
                refine j_iload (pc := 113) hX dX1_bracket_113 rfl ?_
                refine j_icmp_ge (pc := 115) hX 122 dX1_bracket_115 rfl hf (fun h_ hf => ?_) (fun h_ hf => ?_)
                · refine j_iconst (pc := 122) hX (0 : Int32) dX1_bracket_122 rfl ?_
                  refine j_fg [0, 1, 2] [none, none, none, some (vI a3), some (vI a4), some (vI a5), some (vA x15), some (vA x17), none] rfl ?_
                  cases hf
                  exact kj77
                · refine j_iconst (pc := 118) hX (1 : Int32) dX1_bracket_118 rfl ?_
                  refine j_goto (pc := 119) hX 123 dX1_bracket_119 rfl ?_
                  refine j_fg [0, 1, 2] [none, none, none, some (vI a3), some (vI a4), some (vI a5), some (vA x15), some (vA x17), none] rfl ?_
                  cases hf
                  exact kj77
def f_X1_state (n : Nat) (a0 : Option Nat) (a1 : Int32) (a2 : Int32) (a3 : Int32) (w : zWd) : Option ((String ⊕ Unit) × zWd) :=
  zBX (f_X1_at n a1 (6 : Int32) w) fun x2 w1 =>
  zBX (f_X1_at n a2 (24 : Int32) w1) fun x4 w3 =>
  (gA w3 0 11 a0).bind fun x5 =>
  zB2 (zV (isC w3 18 x5) (f_J2_get n x5 a1 w3)) fun x7 w6 =>
  (cK w6 [1] x7).bind fun _ =>
  zBX (f_X1_in n a3 (0 : Int32) (1 : Int32) w6) fun x9 w8 =>
  zB2 (f_J10_valueOf n x9 w8) fun x11 w10 =>
  (zV (isC w10 1 x7) (f_X2_tell n x7 a2 x11 w10)).bind fun w12 =>
  some (.inr (), w12)
theorem mt_X1_state : zMt yX1_state cX1_state 4 none 3 := ⟨q1530, q66, ⟨by decide, by decide⟩, by decide +kernel, by decide⟩
set_option maxHeartbeats 4000000 in
theorem k_X1_state {l : Launch} {n : Nat} {a0 : Option Nat} {a1 : Int32} {a2 : Int32} {a3 : Int32} {w : zWd} (r : String ⊕ Unit) (w9 : zWd) (hf : f_X1_state n a0 a1 a2 a3 w = some (r, w9)) : zCt l yX1_state cX1_state 4 none 9 [vA a0, vI a1, vI a2, vI a3] w (zXU r w9) := by
  refine zCt_of (lv := [some (vA a0), some (vI a1), some (vI a2), some (vI a3)]) (by decide +kernel) 0 rfl rfl ?_
  intro X hX hI hN hQ
  have hX : zGd X RX1 cX1_state 4 none 9 := hX
  unfold f_X1_state at hf
  refine j_iload_n (pc := 0) hX dX1_state_0 rfl ?_
  refine j_bipush (pc := 1) hX (6 : Int32) dX1_state_1 (by decide +kernel) ?_
  obtain ⟨⟨q_, w1⟩, hc_, hf⟩ := zob hf
  cases q_ with
  | inl E_ =>
    cases hf
    exact j_callSX (pc := 3) hX mt_X1_at q507 q508 [vI a1, vI (6 : Int32)] rfl rfl (Nat.le_of_ble_eq_true rfl) (by decide) dX1_state_3 hN hQ (k_X1_at _ _ hc_)
  | inr x2 =>
    refine j_callS (pc := 3) hX mt_X1_at q507 q508 [vI a1, vI (6 : Int32)] rfl rfl (Nat.le_of_ble_eq_true rfl) (by decide) dX1_state_3 (k_X1_at _ _ hc_) ?_
    refine j_pop (pc := 6) hX rfl dX1_state_6 ?_
    refine j_iload_n (pc := 7) hX dX1_state_7 rfl ?_
    refine j_bipush (pc := 8) hX (24 : Int32) dX1_state_8 (by decide +kernel) ?_
    obtain ⟨⟨q_, w3⟩, hc_, hf⟩ := zob hf
    cases q_ with
    | inl E_ =>
      cases hf
      exact j_callSX (pc := 10) hX mt_X1_at q507 q508 [vI a2, vI (24 : Int32)] rfl rfl (Nat.le_of_ble_eq_true rfl) (by decide) dX1_state_10 hN hQ (k_X1_at _ _ hc_)
    | inr x4 =>
      refine j_callS (pc := 10) hX mt_X1_at q507 q508 [vI a2, vI (24 : Int32)] rfl rfl (Nat.le_of_ble_eq_true rfl) (by decide) dX1_state_10 (k_X1_at _ _ hc_) ?_
      refine j_pop (pc := 13) hX rfl dX1_state_13 ?_
      refine j_aload_n (pc := 14) hX dX1_state_14 rfl ?_
      refine j_getA (pc := 15) hX kX1 (k := 11) (Nat.le_of_ble_eq_true rfl) q351 (Or.inl rfl) dX1_state_15 hf (fun x5 hx_ hf => ?_)
      refine j_iload_n (pc := 18) hX dX1_state_18 rfl ?_
      obtain ⟨x7, w6, hc_, hf⟩ := zB2_e hf
      obtain ⟨hi_, hc_⟩ := zV_e hc_
      refine j_callF (pc := 19) hX (ci := 18) mt_J2_get q965 q970 q968 (by decide +kernel) rfl hi_ ⟨_, rfl, rfl⟩ [vI a1] rfl rfl (Nat.le_of_ble_eq_true rfl) (by decide) dX1_state_19 (k_J2_get _ _ hc_) ?_
      refine j_cast (pc := 24) hX q162 [1] (zC1 ⟨_, rfl, Or.inl rfl⟩) dX1_state_24 hf (fun hf => ?_)
      refine j_iload_n (pc := 27) hX dX1_state_27 rfl ?_
      refine j_iload_n (pc := 28) hX dX1_state_28 rfl ?_
      refine j_iconst (pc := 29) hX (0 : Int32) dX1_state_29 rfl ?_
      refine j_iconst (pc := 30) hX (1 : Int32) dX1_state_30 rfl ?_
      obtain ⟨⟨q_, w8⟩, hc_, hf⟩ := zob hf
      cases q_ with
      | inl E_ =>
        cases hf
        exact j_callSX (pc := 31) hX mt_X1_in q523 q524 [vI a3, vI (0 : Int32), vI (1 : Int32)] rfl rfl (Nat.le_of_ble_eq_true rfl) (by decide) dX1_state_31 hN hQ (k_X1_in _ _ hc_)
      | inr x9 =>
        refine j_callS (pc := 31) hX mt_X1_in q523 q524 [vI a3, vI (0 : Int32), vI (1 : Int32)] rfl rfl (Nat.le_of_ble_eq_true rfl) (by decide) dX1_state_31 (k_X1_in _ _ hc_) ?_
        obtain ⟨x11, w10, hc_, hf⟩ := zB2_e hf
        refine j_callS (pc := 34) hX mt_J10_valueOf q310 q311 [vI x9] rfl rfl (Nat.le_of_ble_eq_true rfl) (by decide) dX1_state_34 (k_J10_valueOf _ _ hc_) ?_
        obtain ⟨w12, hc_, hf⟩ := zob hf
        obtain ⟨hi_, hc_⟩ := zV_e hc_
        refine j_callV (pc := 37) hX (ci := 1) mt_X2_tell q1487 q1488 q1489 hi_ ⟨_, rfl, rfl⟩ [vI a2, vA x11] rfl rfl (Nat.le_of_ble_eq_true rfl) (by decide) dX1_state_37 (k_X2_tell () _ hc_) ?_
        exact j_return (pc := 40) hX hQ (by cases hf; rfl) dX1_state_40
def f_X1_pension (n : Nat) (a0 : Option Nat) (a1 : Int32) (a2 : Int32) (a3 : Int32) (w : zWd) : Option ((String ⊕ Unit) × zWd) :=
  zBX (f_X1_at n a1 (6 : Int32) w) fun x2 w1 =>
  zBX (f_X1_at n a2 (24 : Int32) w1) fun x4 w3 =>
  (gA w3 0 12 a0).bind fun x5 =>
  zB2 (zV (isC w3 18 x5) (f_J2_get n x5 a1 w3)) fun x7 w6 =>
  (cK w6 [1] x7).bind fun _ =>
  zBX (f_X1_in n a3 (0 : Int32) (200 : Int32) w6) fun x9 w8 =>
  zB2 (f_J10_valueOf n x9 w8) fun x11 w10 =>
  (zV (isC w10 1 x7) (f_X2_tell n x7 a2 x11 w10)).bind fun w12 =>
  some (.inr (), w12)
theorem mt_X1_pension : zMt yX1_pension cX1_pension 4 none 3 := ⟨q1537, q66, ⟨by decide, by decide⟩, by decide +kernel, by decide⟩
set_option maxHeartbeats 4000000 in
theorem k_X1_pension {l : Launch} {n : Nat} {a0 : Option Nat} {a1 : Int32} {a2 : Int32} {a3 : Int32} {w : zWd} (r : String ⊕ Unit) (w9 : zWd) (hf : f_X1_pension n a0 a1 a2 a3 w = some (r, w9)) : zCt l yX1_pension cX1_pension 4 none 9 [vA a0, vI a1, vI a2, vI a3] w (zXU r w9) := by
  refine zCt_of (lv := [some (vA a0), some (vI a1), some (vI a2), some (vI a3)]) (by decide +kernel) 0 rfl rfl ?_
  intro X hX hI hN hQ
  have hX : zGd X RX1 cX1_pension 4 none 9 := hX
  unfold f_X1_pension at hf
  refine j_iload_n (pc := 0) hX dX1_pension_0 rfl ?_
  refine j_bipush (pc := 1) hX (6 : Int32) dX1_pension_1 (by decide +kernel) ?_
  obtain ⟨⟨q_, w1⟩, hc_, hf⟩ := zob hf
  cases q_ with
  | inl E_ =>
    cases hf
    exact j_callSX (pc := 3) hX mt_X1_at q507 q508 [vI a1, vI (6 : Int32)] rfl rfl (Nat.le_of_ble_eq_true rfl) (by decide) dX1_pension_3 hN hQ (k_X1_at _ _ hc_)
  | inr x2 =>
    refine j_callS (pc := 3) hX mt_X1_at q507 q508 [vI a1, vI (6 : Int32)] rfl rfl (Nat.le_of_ble_eq_true rfl) (by decide) dX1_pension_3 (k_X1_at _ _ hc_) ?_
    refine j_pop (pc := 6) hX rfl dX1_pension_6 ?_
    refine j_iload_n (pc := 7) hX dX1_pension_7 rfl ?_
    refine j_bipush (pc := 8) hX (24 : Int32) dX1_pension_8 (by decide +kernel) ?_
    obtain ⟨⟨q_, w3⟩, hc_, hf⟩ := zob hf
    cases q_ with
    | inl E_ =>
      cases hf
      exact j_callSX (pc := 10) hX mt_X1_at q507 q508 [vI a2, vI (24 : Int32)] rfl rfl (Nat.le_of_ble_eq_true rfl) (by decide) dX1_pension_10 hN hQ (k_X1_at _ _ hc_)
    | inr x4 =>
      refine j_callS (pc := 10) hX mt_X1_at q507 q508 [vI a2, vI (24 : Int32)] rfl rfl (Nat.le_of_ble_eq_true rfl) (by decide) dX1_pension_10 (k_X1_at _ _ hc_) ?_
      refine j_pop (pc := 13) hX rfl dX1_pension_13 ?_
      refine j_aload_n (pc := 14) hX dX1_pension_14 rfl ?_
      refine j_getA (pc := 15) hX kX1 (k := 12) (Nat.le_of_ble_eq_true rfl) q353 (Or.inl rfl) dX1_pension_15 hf (fun x5 hx_ hf => ?_)
      refine j_iload_n (pc := 18) hX dX1_pension_18 rfl ?_
      obtain ⟨x7, w6, hc_, hf⟩ := zB2_e hf
      obtain ⟨hi_, hc_⟩ := zV_e hc_
      refine j_callF (pc := 19) hX (ci := 18) mt_J2_get q965 q970 q968 (by decide +kernel) rfl hi_ ⟨_, rfl, rfl⟩ [vI a1] rfl rfl (Nat.le_of_ble_eq_true rfl) (by decide) dX1_pension_19 (k_J2_get _ _ hc_) ?_
      refine j_cast (pc := 24) hX q162 [1] (zC1 ⟨_, rfl, Or.inl rfl⟩) dX1_pension_24 hf (fun hf => ?_)
      refine j_iload_n (pc := 27) hX dX1_pension_27 rfl ?_
      refine j_iload_n (pc := 28) hX dX1_pension_28 rfl ?_
      refine j_iconst (pc := 29) hX (0 : Int32) dX1_pension_29 rfl ?_
      refine j_sipush (pc := 30) hX (200 : Int32) dX1_pension_30 (by decide +kernel) ?_
      obtain ⟨⟨q_, w8⟩, hc_, hf⟩ := zob hf
      cases q_ with
      | inl E_ =>
        cases hf
        exact j_callSX (pc := 33) hX mt_X1_in q523 q524 [vI a3, vI (0 : Int32), vI (200 : Int32)] rfl rfl (Nat.le_of_ble_eq_true rfl) (by decide) dX1_pension_33 hN hQ (k_X1_in _ _ hc_)
      | inr x9 =>
        refine j_callS (pc := 33) hX mt_X1_in q523 q524 [vI a3, vI (0 : Int32), vI (200 : Int32)] rfl rfl (Nat.le_of_ble_eq_true rfl) (by decide) dX1_pension_33 (k_X1_in _ _ hc_) ?_
        obtain ⟨x11, w10, hc_, hf⟩ := zB2_e hf
        refine j_callS (pc := 36) hX mt_J10_valueOf q310 q311 [vI x9] rfl rfl (Nat.le_of_ble_eq_true rfl) (by decide) dX1_pension_36 (k_J10_valueOf _ _ hc_) ?_
        obtain ⟨w12, hc_, hf⟩ := zob hf
        obtain ⟨hi_, hc_⟩ := zV_e hc_
        refine j_callV (pc := 39) hX (ci := 1) mt_X2_tell q1487 q1488 q1489 hi_ ⟨_, rfl, rfl⟩ [vI a2, vA x11] rfl rfl (Nat.le_of_ble_eq_true rfl) (by decide) dX1_pension_39 (k_X2_tell () _ hc_) ?_
        exact j_return (pc := 42) hX hQ (by cases hf; rfl) dX1_pension_42
def f_J5_getFloorEntry_L68b (n : Nat) (w : zWd) (rec : (Option Nat) → (Option Nat) → Option ((Option Nat))) (v4 : Option Nat) (v5 : Option Nat) : Option ((Option Nat)) :=
  if v4 = none then
    some v4
  else
    (gA w 21 2 v4).bind fun x7 =>
    if v5 = x7 then
      (gA w 21 4 v4).bind fun x8 =>
      rec x8 v4
    else
      some v4
def f_J5_getFloorEntry_L68 (n : Nat) (w : zWd) : Nat → (Option Nat) → (Option Nat) → Option ((Option Nat))
  | 0, _, _ => none
  | k + 1, v4, v5 => f_J5_getFloorEntry_L68b n w (f_J5_getFloorEntry_L68 n w k) v4 v5
def f_J5_getFloorEntry_L5b (n : Nat) (c0 : Option Nat) (c1 : Option Nat) (rec : (Option Nat) → zWd → Option ((Option Nat) × zWd)) (v2 : Option Nat) (w : zWd) : Option ((Option Nat) × zWd) :=
  if v2 = none then
    some (none, w)
  else
    (gA w 21 0 v2).bind fun x2 =>
    zB2 (zV (isC w 19 c0) (f_J5_compare n c0 c1 x2 w)) fun x4 w3 =>
    if x4 ≤ (0 : Int32) then
      if (0 : Int32) ≤ x4 then
        some (v2, w3)
      else
        (gA w3 21 2 v2).bind fun x5 =>
        if x5 = none then
          (gA w3 21 4 v2).bind fun x6 =>
          (f_J5_getFloorEntry_L68 n w3 n x6 v2).bind fun x9 =>
          some (x9, w3)
        else
          (gA w3 21 2 v2).bind fun x10 =>
          rec x10 w3
    else
      (gA w3 21 3 v2).bind fun x11 =>
      if x11 = none then
        some (v2, w3)
      else
        (gA w3 21 3 v2).bind fun x12 =>
        rec x12 w3
def f_J5_getFloorEntry_L5 (n : Nat) (c0 : Option Nat) (c1 : Option Nat) : Nat → (Option Nat) → zWd → Option ((Option Nat) × zWd)
  | 0, _, _ => none
  | k + 1, v2, w => f_J5_getFloorEntry_L5b n c0 c1 (f_J5_getFloorEntry_L5 n c0 c1 k) v2 w
def f_J5_getFloorEntry (n : Nat) (a0 : Option Nat) (a1 : Option Nat) (w : zWd) : Option ((Option Nat) × zWd) :=
  (gA w 19 3 a0).bind fun x1 =>
  f_J5_getFloorEntry_L5 n a0 a1 n x1 w
theorem mt_J5_getFloorEntry : zMt yJ5_getFloorEntry cJ5_getFloorEntry 6 (some (.object "java/util/TreeMap$Entry")) 1 := ⟨q1561, q74, ⟨by decide, by decide⟩, by decide +kernel, by decide⟩
set_option maxHeartbeats 4000000 in
theorem lp_J5_getFloorEntry_L68 {X : zX} (hX : zGd X RJ5 cJ5_getFloorEntry 6 (some (.object "java/util/TreeMap$Entry")) 5) (n : Nat) (w : zWd) : ∀ (k : Nat) (v4 : Option Nat) (v5 : Option Nat) (o4 : Option Nat) , f_J5_getFloorEntry_L68 n w k v4 v5 = some o4 → zJ X 97 [none, none, none, none, some (vA o4), none] [] w → zJ X 68 [none, none, none, none, some (vA v4), some (vA v5)] [] w := by
  intro k
  induction k with
  | zero => intro v4 v5 o4 hf _; exact nomatch (show (none : Option ((Option Nat))) = _ from hf)
  | succ k ih =>
    intro v4 v5 o4 hf kx
    have hf : f_J5_getFloorEntry_L68b n w (f_J5_getFloorEntry_L68 n w k) v4 v5 = _ := hf
    unfold f_J5_getFloorEntry_L68b at hf
    refine j_aload (pc := 68) hX dJ5_getFloorEntry_68 rfl ?_
    refine j_ifnull (pc := 70) hX 97 dJ5_getFloorEntry_70 rfl hf (fun h_ hf => ?_) (fun h_ hf => ?_)
    · refine j_fg [5] [none, none, none, none, some (vA v4), none] rfl ?_
      cases hf
      exact kx
    · refine j_aload (pc := 73) hX dJ5_getFloorEntry_73 rfl ?_
      refine j_aload (pc := 75) hX dJ5_getFloorEntry_75 rfl ?_
      refine j_getA (pc := 77) hX kJ24 (k := 2) (Nat.le_of_ble_eq_true rfl) q846 (Or.inl rfl) dJ5_getFloorEntry_77 hf (fun x7 hx_ hf => ?_)
      refine j_acmp_ne (pc := 80) hX 97 dJ5_getFloorEntry_80 rfl hf (fun h_ hf => ?_) (fun h_ hf => ?_)
      · refine j_fg [5] [none, none, none, none, some (vA v4), none] rfl ?_
        cases hf
        exact kx
      · refine j_aload (pc := 83) hX dJ5_getFloorEntry_83 rfl ?_
        refine j_astore (pc := 85) hX dJ5_getFloorEntry_85 (by decide) [none, none, none, none, some (vA v4), some (vA v4)] rfl ?_
        refine j_aload (pc := 87) hX dJ5_getFloorEntry_87 rfl ?_
        refine j_getA (pc := 89) hX kJ24 (k := 4) (Nat.le_of_ble_eq_true rfl) q849 (Or.inl rfl) dJ5_getFloorEntry_89 hf (fun x8 hx_ hf => ?_)
        refine j_astore (pc := 92) hX dJ5_getFloorEntry_92 (by decide) [none, none, none, none, some (vA x8), some (vA v4)] rfl ?_
        refine j_goto (pc := 94) hX 68 dJ5_getFloorEntry_94 rfl ?_
        exact ih _ _ _ hf kx
set_option maxHeartbeats 4000000 in
theorem lp_J5_getFloorEntry_L5 {X : zX} (hX : zGd X RJ5 cJ5_getFloorEntry 6 (some (.object "java/util/TreeMap$Entry")) 5) (hN : zNh X) {w0 w9 : zWd} {r : Option Nat} (hQ : zFin X w0 (.inr (some (vA r), w9))) (n : Nat) (c0 : Option Nat) (c1 : Option Nat) : ∀ (k : Nat) (v2 : Option Nat) (w : zWd) , f_J5_getFloorEntry_L5 n c0 c1 k v2 w = some (r, w9) → zJ X 5 [some (vA c0), some (vA c1), some (vA v2), none, none, none] [] w := by
  intro k
  induction k with
  | zero => intro v2 w hf; exact nomatch (show (none : Option ((Option Nat) × zWd)) = _ from hf)
  | succ k ih =>
    intro v2 w hf
    have hf : f_J5_getFloorEntry_L5b n c0 c1 (f_J5_getFloorEntry_L5 n c0 c1 k) v2 w = _ := hf
    unfold f_J5_getFloorEntry_L5b at hf
    refine j_aload_n (pc := 5) hX dJ5_getFloorEntry_5 rfl ?_
    refine j_ifnull (pc := 6) hX 105 dJ5_getFloorEntry_6 rfl hf (fun h_ hf => ?_) (fun h_ hf => ?_)
    · refine j_null (pc := 105) hX dJ5_getFloorEntry_105 ?_
      exact j_areturn (pc := 106) hX rfl hQ (by cases hf; rfl) dJ5_getFloorEntry_106
    · refine j_aload_n (pc := 9) hX dJ5_getFloorEntry_9 rfl ?_
      refine j_aload_n (pc := 10) hX dJ5_getFloorEntry_10 rfl ?_
      refine j_aload_n (pc := 11) hX dJ5_getFloorEntry_11 rfl ?_
      refine j_getA (pc := 12) hX kJ24 (k := 0) (Nat.le_of_ble_eq_true rfl) q843 (Or.inl rfl) dJ5_getFloorEntry_12 hf (fun x2 hx_ hf => ?_)
      obtain ⟨x4, w3, hc_, hf⟩ := zB2_e hf
      obtain ⟨hi_, hc_⟩ := zV_e hc_
      refine j_callV (pc := 15) hX (ci := 19) mt_J5_compare q590 q591 q592 hi_ ⟨_, rfl, rfl⟩ [vA c1, vA x2] rfl rfl (Nat.le_of_ble_eq_true rfl) (by decide) dJ5_getFloorEntry_15 (k_J5_compare _ _ hc_) ?_
      refine j_istore_n (pc := 18) hX dJ5_getFloorEntry_18 (by decide) [some (vA c0), some (vA c1), some (vA v2), some (vI x4), none, none] rfl ?_
      refine j_iload_n (pc := 19) hX dJ5_getFloorEntry_19 rfl ?_
      refine j_if_le (pc := 20) hX 40 dJ5_getFloorEntry_20 rfl hf (fun h_ hf => ?_) (fun h_ hf => ?_)
      · refine j_iload_n (pc := 40) hX dJ5_getFloorEntry_40 rfl ?_
        refine j_if_ge (pc := 41) hX 100 dJ5_getFloorEntry_41 rfl hf (fun h_ hf => ?_) (fun h_ hf => ?_)
        · refine j_aload_n (pc := 100) hX dJ5_getFloorEntry_100 rfl ?_
          exact j_areturn (pc := 101) hX rfl hQ (by cases hf; rfl) dJ5_getFloorEntry_101
        · refine j_aload_n (pc := 44) hX dJ5_getFloorEntry_44 rfl ?_
          refine j_getA (pc := 45) hX kJ24 (k := 2) (Nat.le_of_ble_eq_true rfl) q846 (Or.inl rfl) dJ5_getFloorEntry_45 hf (fun x5 hx_ hf => ?_)
          refine j_ifnull (pc := 48) hX 59 dJ5_getFloorEntry_48 rfl hf (fun h_ hf => ?_) (fun h_ hf => ?_)
          · refine j_aload_n (pc := 59) hX dJ5_getFloorEntry_59 rfl ?_
            refine j_getA (pc := 60) hX kJ24 (k := 4) (Nat.le_of_ble_eq_true rfl) q849 (Or.inl rfl) dJ5_getFloorEntry_60 hf (fun x6 hx_ hf => ?_)
            refine j_astore (pc := 63) hX dJ5_getFloorEntry_63 (by decide) [some (vA c0), some (vA c1), some (vA v2), some (vI x4), some (vA x6), none] rfl ?_
            refine j_aload_n (pc := 65) hX dJ5_getFloorEntry_65 rfl ?_
            refine j_astore (pc := 66) hX dJ5_getFloorEntry_66 (by decide) [some (vA c0), some (vA c1), some (vA v2), some (vI x4), some (vA x6), some (vA v2)] rfl ?_
            obtain ⟨x9, hm_, hf⟩ := zob hf
            refine j_fg [0, 1, 2, 3] [none, none, none, none, some (vA x6), some (vA v2)] rfl ?_
            refine lp_J5_getFloorEntry_L68 hX n  _ _ _ _ _ hm_ ?_
            refine j_aload (pc := 97) hX dJ5_getFloorEntry_97 rfl ?_
            exact j_areturn (pc := 99) hX rfl hQ (by cases hf; rfl) dJ5_getFloorEntry_99
          · refine j_aload_n (pc := 51) hX dJ5_getFloorEntry_51 rfl ?_
            refine j_getA (pc := 52) hX kJ24 (k := 2) (Nat.le_of_ble_eq_true rfl) q846 (Or.inl rfl) dJ5_getFloorEntry_52 hf (fun x10 hx_ hf => ?_)
            refine j_astore_n (pc := 55) hX dJ5_getFloorEntry_55 (by decide) [some (vA c0), some (vA c1), some (vA x10), some (vI x4), none, none] rfl ?_
            refine j_goto (pc := 56) hX 102 dJ5_getFloorEntry_56 rfl ?_
            refine j_goto (pc := 102) hX 5 dJ5_getFloorEntry_102 rfl ?_
            refine j_fg [3] [some (vA c0), some (vA c1), some (vA x10), none, none, none] rfl ?_
            exact ih _ _ hf
      · refine j_aload_n (pc := 23) hX dJ5_getFloorEntry_23 rfl ?_
        refine j_getA (pc := 24) hX kJ24 (k := 3) (Nat.le_of_ble_eq_true rfl) q847 (Or.inl rfl) dJ5_getFloorEntry_24 hf (fun x11 hx_ hf => ?_)
        refine j_ifnull (pc := 27) hX 38 dJ5_getFloorEntry_27 rfl hf (fun h_ hf => ?_) (fun h_ hf => ?_)
        · refine j_aload_n (pc := 38) hX dJ5_getFloorEntry_38 rfl ?_
          exact j_areturn (pc := 39) hX rfl hQ (by cases hf; rfl) dJ5_getFloorEntry_39
        · refine j_aload_n (pc := 30) hX dJ5_getFloorEntry_30 rfl ?_
          refine j_getA (pc := 31) hX kJ24 (k := 3) (Nat.le_of_ble_eq_true rfl) q847 (Or.inl rfl) dJ5_getFloorEntry_31 hf (fun x12 hx_ hf => ?_)
          refine j_astore_n (pc := 34) hX dJ5_getFloorEntry_34 (by decide) [some (vA c0), some (vA c1), some (vA x12), some (vI x4), none, none] rfl ?_
          refine j_goto (pc := 35) hX 102 dJ5_getFloorEntry_35 rfl ?_
          refine j_goto (pc := 102) hX 5 dJ5_getFloorEntry_102 rfl ?_
          refine j_fg [3] [some (vA c0), some (vA c1), some (vA x12), none, none, none] rfl ?_
          exact ih _ _ hf
set_option maxHeartbeats 4000000 in
theorem k_J5_getFloorEntry {l : Launch} {n : Nat} {a0 : Option Nat} {a1 : Option Nat} {w : zWd} (r : Option Nat) (w9 : zWd) (hf : f_J5_getFloorEntry n a0 a1 w = some (r, w9)) : zCt l yJ5_getFloorEntry cJ5_getFloorEntry 6 (some (.object "java/util/TreeMap$Entry")) 5 [vA a0, vA a1] w (.inr (some (vA r), w9)) := by
  refine zCt_of (lv := [some (vA a0), some (vA a1), none, none, none, none]) (by decide +kernel) 4 rfl rfl ?_
  intro X hX hI hN hQ
  have hX : zGd X RJ5 cJ5_getFloorEntry 6 (some (.object "java/util/TreeMap$Entry")) 5 := hX
  unfold f_J5_getFloorEntry at hf
  refine j_aload_n (pc := 0) hX dJ5_getFloorEntry_0 rfl ?_
  refine j_getA (pc := 1) hX kJ5 (k := 3) (Nat.le_of_ble_eq_true rfl) q196 (Or.inl rfl) dJ5_getFloorEntry_1 hf (fun x1 hx_ hf => ?_)
  refine j_astore_n (pc := 4) hX dJ5_getFloorEntry_4 (by decide) [some (vA a0), some (vA a1), some (vA x1), none, none, none] rfl ?_
  exact lp_J5_getFloorEntry_L5 hX hN hQ n _ _ _ _ _ hf
def f_J5_keyOrNull (n : Nat) (a0 : Option Nat) (w : zWd) : Option ((Option Nat) × zWd) :=
  (
    if a0 = none then
      some none
    else
      (gA w 21 0 a0).bind fun x1 =>
      some x1
    ).bind fun x2 =>
  some (x2, w)
theorem mt_J5_keyOrNull : zMt yJ5_keyOrNull cJ5_keyOrNull 1 (some (.object "java/lang/Object")) 1 := ⟨q1564, q74, ⟨by decide, by decide⟩, by decide +kernel, by decide⟩
set_option maxHeartbeats 4000000 in
theorem k_J5_keyOrNull {l : Launch} {n : Nat} {a0 : Option Nat} {w : zWd} (r : Option Nat) (w9 : zWd) (hf : f_J5_keyOrNull n a0 w = some (r, w9)) : zCt l yJ5_keyOrNull cJ5_keyOrNull 1 (some (.object "java/lang/Object")) 1 [vA a0] w (.inr (some (vA r), w9)) := by
  refine zCt_of (lv := [some (vA a0)]) (by decide +kernel) 0 rfl rfl ?_
  intro X hX hI hN hQ
  have hX : zGd X RJ5 cJ5_keyOrNull 1 (some (.object "java/lang/Object")) 1 := hX
  unfold f_J5_keyOrNull at hf
  refine j_aload_n (pc := 0) hX dJ5_keyOrNull_0 rfl ?_
  obtain ⟨x2, hm_, hf⟩ := zob hf
  have kj1 : zJ X 12 [none] [vA x2] w := by
    clear hm_
    exact j_areturn (pc := 12) hX rfl hQ (by cases hf; rfl) dJ5_keyOrNull_12
  have hf := hm_
  refine j_ifnonnull (pc := 1) hX 8 dJ5_keyOrNull_1 rfl hf (fun h_ hf => ?_) (fun h_ hf => ?_)
  · refine j_aload_n (pc := 8) hX dJ5_keyOrNull_8 rfl ?_
    refine j_getA (pc := 9) hX kJ24 (k := 0) (Nat.le_of_ble_eq_true rfl) q843 (Or.inl rfl) dJ5_keyOrNull_9 hf (fun x1 hx_ hf => ?_)
    refine j_fg [0] [none] rfl ?_
    cases hf
    exact kj1
  · refine j_null (pc := 4) hX dJ5_keyOrNull_4 ?_
    refine j_goto (pc := 5) hX 12 dJ5_keyOrNull_5 rfl ?_
    refine j_fg [0] [none] rfl ?_
    cases hf
    exact kj1
def f_J5_floorKey (n : Nat) (a0 : Option Nat) (a1 : Option Nat) (w : zWd) : Option ((Option Nat) × zWd) :=
  zB2 (zV (isC w 19 a0) (f_J5_getFloorEntry n a0 a1 w)) fun x2 w1 =>
  zB2 (f_J5_keyOrNull n x2 w1) fun x4 w3 =>
  some (x4, w3)
theorem mt_J5_floorKey : zMt yJ5_floorKey cJ5_floorKey 2 (some (.object "java/lang/Object")) 1 := ⟨q1557, q74, ⟨by decide, by decide⟩, by decide +kernel, by decide⟩
set_option maxHeartbeats 4000000 in
theorem k_J5_floorKey {l : Launch} {n : Nat} {a0 : Option Nat} {a1 : Option Nat} {w : zWd} (r : Option Nat) (w9 : zWd) (hf : f_J5_floorKey n a0 a1 w = some (r, w9)) : zCt l yJ5_floorKey cJ5_floorKey 2 (some (.object "java/lang/Object")) 6 [vA a0, vA a1] w (.inr (some (vA r), w9)) := by
  refine zCt_of (lv := [some (vA a0), some (vA a1)]) (by decide +kernel) 0 rfl rfl ?_
  intro X hX hI hN hQ
  have hX : zGd X RJ5 cJ5_floorKey 2 (some (.object "java/lang/Object")) 6 := hX
  unfold f_J5_floorKey at hf
  refine j_aload_n (pc := 0) hX dJ5_floorKey_0 rfl ?_
  refine j_aload_n (pc := 1) hX dJ5_floorKey_1 rfl ?_
  obtain ⟨x2, w1, hc_, hf⟩ := zB2_e hf
  obtain ⟨hi_, hc_⟩ := zV_e hc_
  refine j_callV (pc := 2) hX (ci := 19) mt_J5_getFloorEntry q1558 q1559 q1560 hi_ ⟨_, rfl, rfl⟩ [vA a1] rfl rfl (Nat.le_of_ble_eq_true rfl) (by decide) dJ5_floorKey_2 (k_J5_getFloorEntry _ _ hc_) ?_
  obtain ⟨x4, w3, hc_, hf⟩ := zB2_e hf
  refine j_callS (pc := 5) hX mt_J5_keyOrNull q1562 q1563 [vA x2] rfl rfl (Nat.le_of_ble_eq_true rfl) (by decide) dJ5_floorKey_5 (k_J5_keyOrNull _ _ hc_) ?_
  exact j_areturn (pc := 8) hX rfl hQ (by cases hf; rfl) dJ5_floorKey_8
def f_X2_at (n : Nat) (a0 : Option Nat) (a1 : Int32) (w : zWd) : Option ((Option Nat) × zWd) :=
  (gA w 1 0 a0).bind fun x1 =>
  zB2 (f_J10_valueOf n a1 w) fun x3 w2 =>
  zB2 (zV (isC w2 19 x1) (f_J5_floorKey n x1 x3 w2)) fun x5 w4 =>
  (cK w4 [20] x5).bind fun _ =>
  zB2 (
    if x5 = none then
      (gA w4 1 1 a0).bind fun x9 =>
      some (x9, w4)
    else
      (gA w4 1 0 a0).bind fun x6 =>
      zB2 (zV (isC w4 19 x6) (f_J5_get n x6 x5 w4)) fun x8 w7 =>
      some (x8, w7)
    ) fun x10 w11 =>
  some (x10, w11)
theorem mt_X2_at : zMt yX2_at cX2_at 3 (some (.object "java/lang/Object")) 1 := ⟨q1553, q70, ⟨by decide, by decide⟩, by decide +kernel, by decide⟩
set_option maxHeartbeats 4000000 in
theorem k_X2_at {l : Launch} {n : Nat} {a0 : Option Nat} {a1 : Int32} {w : zWd} (r : Option Nat) (w9 : zWd) (hf : f_X2_at n a0 a1 w = some (r, w9)) : zCt l yX2_at cX2_at 3 (some (.object "java/lang/Object")) 7 [vA a0, vI a1] w (.inr (some (vA r), w9)) := by
  refine zCt_of (lv := [some (vA a0), some (vI a1), none]) (by decide +kernel) 1 rfl rfl ?_
  intro X hX hI hN hQ
  have hX : zGd X RX2 cX2_at 3 (some (.object "java/lang/Object")) 7 := hX
  unfold f_X2_at at hf
  refine j_aload_n (pc := 0) hX dX2_at_0 rfl ?_
  refine j_getA (pc := 1) hX kX2 (k := 0) (Nat.le_of_ble_eq_true rfl) q218 (Or.inl rfl) dX2_at_1 hf (fun x1 hx_ hf => ?_)
  refine j_iload_n (pc := 4) hX dX2_at_4 rfl ?_
  obtain ⟨x3, w2, hc_, hf⟩ := zB2_e hf
  refine j_callS (pc := 5) hX mt_J10_valueOf q1491 q311 [vI a1] rfl rfl (Nat.le_of_ble_eq_true rfl) (by decide) dX2_at_5 (k_J10_valueOf _ _ hc_) ?_
  obtain ⟨x5, w4, hc_, hf⟩ := zB2_e hf
  obtain ⟨hi_, hc_⟩ := zV_e hc_
  refine j_callV (pc := 8) hX (ci := 19) mt_J5_floorKey q1554 q1555 q1556 hi_ ⟨_, rfl, rfl⟩ [vA x3] rfl rfl (Nat.le_of_ble_eq_true rfl) (by decide) dX2_at_8 (k_J5_floorKey _ _ hc_) ?_
  refine j_cast (pc := 11) hX q1565 [20] (zC1 ⟨_, rfl, Or.inl rfl⟩) dX2_at_11 hf (fun hf => ?_)
  refine j_astore_n (pc := 14) hX dX2_at_14 (by decide) [some (vA a0), some (vI a1), some (vA x5)] rfl ?_
  refine j_aload_n (pc := 15) hX dX2_at_15 rfl ?_
  obtain ⟨x10, w11, hm_, hf⟩ := zB2_e hf
  have kj16 : zJ X 34 [none, none, none] [vA x10] w11 := by
    clear hm_
    exact j_areturn (pc := 34) hX rfl hQ (by cases hf; rfl) dX2_at_34
  have hf := hm_
  refine j_ifnonnull (pc := 16) hX 26 dX2_at_16 rfl hf (fun h_ hf => ?_) (fun h_ hf => ?_)
  · refine j_aload_n (pc := 26) hX dX2_at_26 rfl ?_
    refine j_getA (pc := 27) hX kX2 (k := 0) (Nat.le_of_ble_eq_true rfl) q218 (Or.inl rfl) dX2_at_27 hf (fun x6 hx_ hf => ?_)
    refine j_aload_n (pc := 30) hX dX2_at_30 rfl ?_
    obtain ⟨x8, w7, hc_, hf⟩ := zB2_e hf
    obtain ⟨hi_, hc_⟩ := zV_e hc_
    refine j_callV (pc := 31) hX (ci := 19) mt_J5_get q1506 q901 q902 hi_ ⟨_, rfl, rfl⟩ [vA x5] rfl rfl (Nat.le_of_ble_eq_true rfl) (by decide) dX2_at_31 (k_J5_get _ _ hc_) ?_
    refine j_fg [0, 1, 2] [none, none, none] rfl ?_
    cases hf
    exact kj16
  · refine j_aload_n (pc := 19) hX dX2_at_19 rfl ?_
    refine j_getA (pc := 20) hX kX2 (k := 1) (Nat.le_of_ble_eq_true rfl) q219 (Or.inl rfl) dX2_at_20 hf (fun x9 hx_ hf => ?_)
    refine j_goto (pc := 23) hX 34 dX2_at_23 rfl ?_
    refine j_fg [0, 1, 2] [none, none, none] rfl ?_
    cases hf
    exact kj16
def f_X13_thousandths (n : Nat) (a0 : Option Nat) (w : zWd) : Option (Int32 × zWd) :=
  (gI w 12 1 a0).bind fun x1 =>
  some (x1, w)
theorem mt_X13_thousandths : zMt yX13_thousandths cX13_thousandths 1 (some .int) 0 := ⟨q1571, q110, ⟨by decide, by decide⟩, by decide +kernel, by decide⟩
set_option maxHeartbeats 4000000 in
theorem k_X13_thousandths {l : Launch} {n : Nat} {a0 : Option Nat} {w : zWd} (r : Int32) (w9 : zWd) (hf : f_X13_thousandths n a0 w = some (r, w9)) : zCt l yX13_thousandths cX13_thousandths 1 (some .int) 1 [vA a0] w (.inr (some (vI r), w9)) := by
  refine zCt_of (lv := [some (vA a0)]) (by decide +kernel) 0 rfl rfl ?_
  intro X hX hI hN hQ
  have hX : zGd X RX13 cX13_thousandths 1 (some .int) 1 := hX
  unfold f_X13_thousandths at hf
  refine j_aload_n (pc := 0) hX dX13_thousandths_0 rfl ?_
  refine j_getI (pc := 1) hX kX13 (k := 1) (Nat.le_of_ble_eq_true rfl) q1518 (Or.inl rfl) dX13_thousandths_1 hf (fun x1 hx_ hf => ?_)
  exact j_ireturn (pc := 4) hX hQ (by cases hf; rfl) dX13_thousandths_4
def f_X1_taxOf_L40b (n : Nat) (c4 : Int64) (c6 : Option Nat) (rec : Int64 → Int64 → Int32 → zWd → Option (Int64 × zWd)) (v7 : Int64) (v9 : Int64) (v11 : Int32) (w : zWd) : Option (Int64 × zWd) :=
  zB2 (zV (isC w 18 c6) (f_J2_size n c6 w)) fun x9 w8 =>
  if x9 ≤ v11 then
    some (v7, w8)
  else
    zB2 (zV (isC w8 18 c6) (f_J2_get n c6 v11 w8)) fun x11 w10 =>
    (cK w10 [12] x11).bind fun _ =>
    zB2 (zV (isC w10 12 x11) (f_X13_end n x11 w10)) fun x13 w12 =>
    zB2 (f_J7_min_2 n c4 (Int32.toInt64 x13) w12) fun x15 w14 =>
    zB2 (f_J7_max_2 n (0 : Int64) (x15 - v9) w14) fun x17 w16 =>
    zB2 (zV (isC w16 12 x11) (f_X13_thousandths n x11 w16)) fun x19 w18 =>
    zB2 (zV (isC w18 12 x11) (f_X13_end n x11 w18)) fun x21 w20 =>
    rec (v7 + ((x17 * (Int32.toInt64 x19)) / (1000 : Int64))) (Int32.toInt64 x21) (v11 + (1)) w20
def f_X1_taxOf_L40 (n : Nat) (c4 : Int64) (c6 : Option Nat) : Nat → Int64 → Int64 → Int32 → zWd → Option (Int64 × zWd)
  | 0, _, _, _, _ => none
  | k + 1, v7, v9, v11, w => f_X1_taxOf_L40b n c4 c6 (f_X1_taxOf_L40 n c4 c6 k) v7 v9 v11 w
def f_X1_taxOf (n : Nat) (a0 : Option Nat) (a1 : Int32) (a2 : Int32) (a3 : Int32) (a4 : Int64) (w : zWd) : Option (Int64 × zWd) :=
  (gA w 0 10 a0).bind fun x1 =>
  zB2 (zV (isC w 18 x1) (f_J2_get n x1 a1 w)) fun x3 w2 =>
  (cK w2 [18] x3).bind fun _ =>
  zB2 (zV (isC w2 18 x3) (f_J2_get n x3 a2 w2)) fun x5 w4 =>
  (cK w4 [1] x5).bind fun _ =>
  zB2 (zV (isC w4 1 x5) (f_X2_at n x5 a3 w4)) fun x7 w6 =>
  (cK w6 [18] x7).bind fun _ =>
  zB2 (f_X1_taxOf_L40 n a4 x7 n (0 : Int64) (0 : Int64) (0 : Int32) w6) fun x22 w23 =>
  some (x22, w23)
theorem mt_X1_taxOf : zMt yX1_taxOf cX1_taxOf 15 (some .long) 4 := ⟨q1549, q66, ⟨by decide, by decide⟩, by decide +kernel, by decide⟩
set_option maxHeartbeats 4000000 in
theorem lp_X1_taxOf_L40 {X : zX} (hX : zGd X RX1 cX1_taxOf 15 (some .long) 8) (n : Nat) (c4 : Int64) (c6 : Option Nat) : ∀ (k : Nat) (v7 : Int64) (v9 : Int64) (v11 : Int32) (w : zWd) (o7 : Int64) (w9 : zWd) , f_X1_taxOf_L40 n c4 c6 k v7 v9 v11 w = some (o7, w9) → zJ X 118 [none, none, none, none, some (vL c4), none, some (vA c6), some (vL o7), none, none, none, none, none, none, none] [] w9 → zJ X 40 [none, none, none, none, some (vL c4), none, some (vA c6), some (vL v7), none, some (vL v9), none, some (vI v11), none, none, none] [] w := by
  intro k
  induction k with
  | zero => intro v7 v9 v11 w o7 w9 hf _; exact nomatch (show (none : Option (Int64 × zWd)) = _ from hf)
  | succ k ih =>
    intro v7 v9 v11 w o7 w9 hf kx
    have hf : f_X1_taxOf_L40b n c4 c6 (f_X1_taxOf_L40 n c4 c6 k) v7 v9 v11 w = _ := hf
    unfold f_X1_taxOf_L40b at hf
    refine j_iload (pc := 40) hX dX1_taxOf_40 rfl ?_
    refine j_aload (pc := 42) hX dX1_taxOf_42 rfl ?_
    obtain ⟨x9, w8, hc_, hf⟩ := zB2_e hf
    obtain ⟨hi_, hc_⟩ := zV_e hc_
    refine j_callF (pc := 44) hX (ci := 18) mt_J2_size q413 q418 q416 (by decide +kernel) rfl hi_ ⟨_, rfl, rfl⟩ [] rfl rfl (Nat.le_of_ble_eq_true rfl) (by decide) dX1_taxOf_44 (k_J2_size _ _ hc_) ?_
    refine j_icmp_ge (pc := 49) hX 118 dX1_taxOf_49 rfl hf (fun h_ hf => ?_) (fun h_ hf => ?_)
    · refine j_fg [9, 11] [none, none, none, none, some (vL c4), none, some (vA c6), some (vL v7), none, none, none, none, none, none, none] rfl ?_
      cases hf
      exact kx
    · refine j_aload (pc := 52) hX dX1_taxOf_52 rfl ?_
      refine j_iload (pc := 54) hX dX1_taxOf_54 rfl ?_
      obtain ⟨x11, w10, hc_, hf⟩ := zB2_e hf
      obtain ⟨hi_, hc_⟩ := zV_e hc_
      refine j_callF (pc := 56) hX (ci := 18) mt_J2_get q965 q970 q968 (by decide +kernel) rfl hi_ ⟨_, rfl, rfl⟩ [vI v11] rfl rfl (Nat.le_of_ble_eq_true rfl) (by decide) dX1_taxOf_56 (k_J2_get _ _ hc_) ?_
      refine j_cast (pc := 61) hX q1507 [12] (zC1 ⟨_, rfl, Or.inl rfl⟩) dX1_taxOf_61 hf (fun hf => ?_)
      refine j_astore (pc := 64) hX dX1_taxOf_64 (by decide) [none, none, none, none, some (vL c4), none, some (vA c6), some (vL v7), none, some (vL v9), none, some (vI v11), some (vA x11), none, none] rfl ?_
      refine j_lconst (pc := 66) hX (0 : Int64) dX1_taxOf_66 rfl ?_
      refine j_lload (pc := 67) hX dX1_taxOf_67 rfl ?_
      refine j_aload (pc := 69) hX dX1_taxOf_69 rfl ?_
      obtain ⟨x13, w12, hc_, hf⟩ := zB2_e hf
      obtain ⟨hi_, hc_⟩ := zV_e hc_
      refine j_callV (pc := 71) hX (ci := 12) mt_X13_end q1508 q1509 q1510 hi_ ⟨_, rfl, rfl⟩ [] rfl rfl (Nat.le_of_ble_eq_true rfl) (by decide) dX1_taxOf_71 (k_X13_end _ _ hc_) ?_
      refine j_i2l (pc := 74) hX dX1_taxOf_74 ?_
      obtain ⟨x15, w14, hc_, hf⟩ := zB2_e hf
      refine j_callS (pc := 75) hX mt_J7_min_2 q1566 q1098 [vL c4, vL (Int32.toInt64 x13)] rfl rfl (Nat.le_of_ble_eq_true rfl) (by decide) dX1_taxOf_75 (k_J7_min_2 _ _ hc_) ?_
      refine j_lload (pc := 78) hX dX1_taxOf_78 rfl ?_
      refine j_lsub (pc := 80) hX dX1_taxOf_80 ?_
      obtain ⟨x17, w16, hc_, hf⟩ := zB2_e hf
      refine j_callS (pc := 81) hX mt_J7_max_2 q1567 q1095 [vL (0 : Int64), vL (x15 - v9)] rfl rfl (Nat.le_of_ble_eq_true rfl) (by decide) dX1_taxOf_81 (k_J7_max_2 _ _ hc_) ?_
      refine j_lstore (pc := 84) hX dX1_taxOf_84 (by decide) [none, none, none, none, some (vL c4), none, some (vA c6), some (vL v7), none, some (vL v9), none, some (vI v11), some (vA x11), some (vL x17), none] rfl ?_
      refine j_lload (pc := 86) hX dX1_taxOf_86 rfl ?_
      refine j_lload (pc := 88) hX dX1_taxOf_88 rfl ?_
      refine j_aload (pc := 90) hX dX1_taxOf_90 rfl ?_
      obtain ⟨x19, w18, hc_, hf⟩ := zB2_e hf
      obtain ⟨hi_, hc_⟩ := zV_e hc_
      refine j_callV (pc := 92) hX (ci := 12) mt_X13_thousandths q1568 q1569 q1570 hi_ ⟨_, rfl, rfl⟩ [] rfl rfl (Nat.le_of_ble_eq_true rfl) (by decide) dX1_taxOf_92 (k_X13_thousandths _ _ hc_) ?_
      refine j_i2l (pc := 95) hX dX1_taxOf_95 ?_
      refine j_lmul (pc := 96) hX dX1_taxOf_96 ?_
      refine j_ldc2 (pc := 97) hX q1572 dX1_taxOf_97 ?_
      refine j_ldiv (pc := 100) hX dX1_taxOf_100 (by decide) ?_
      refine j_ladd (pc := 101) hX dX1_taxOf_101 ?_
      refine j_lstore (pc := 102) hX dX1_taxOf_102 (by decide) [none, none, none, none, some (vL c4), none, some (vA c6), some (vL (v7 + ((x17 * (Int32.toInt64 x19)) / (1000 : Int64)))), none, some (vL v9), none, some (vI v11), some (vA x11), some (vL x17), none] rfl ?_
      refine j_aload (pc := 104) hX dX1_taxOf_104 rfl ?_
      obtain ⟨x21, w20, hc_, hf⟩ := zB2_e hf
      obtain ⟨hi_, hc_⟩ := zV_e hc_
      refine j_callV (pc := 106) hX (ci := 12) mt_X13_end q1508 q1509 q1510 hi_ ⟨_, rfl, rfl⟩ [] rfl rfl (Nat.le_of_ble_eq_true rfl) (by decide) dX1_taxOf_106 (k_X13_end _ _ hc_) ?_
      refine j_i2l (pc := 109) hX dX1_taxOf_109 ?_
      refine j_lstore (pc := 110) hX dX1_taxOf_110 (by decide) [none, none, none, none, some (vL c4), none, some (vA c6), some (vL (v7 + ((x17 * (Int32.toInt64 x19)) / (1000 : Int64)))), none, some (vL (Int32.toInt64 x21)), none, some (vI v11), some (vA x11), some (vL x17), none] rfl ?_
      refine j_iinc (pc := 112) hX (1) dX1_taxOf_112 rfl rfl (by decide) [none, none, none, none, some (vL c4), none, some (vA c6), some (vL (v7 + ((x17 * (Int32.toInt64 x19)) / (1000 : Int64)))), none, some (vL (Int32.toInt64 x21)), none, some (vI (v11 + (1))), some (vA x11), some (vL x17), none] rfl ?_
      refine j_goto (pc := 115) hX 40 dX1_taxOf_115 rfl ?_
      refine j_fg [12, 13] [none, none, none, none, some (vL c4), none, some (vA c6), some (vL (v7 + ((x17 * (Int32.toInt64 x19)) / (1000 : Int64)))), none, some (vL (Int32.toInt64 x21)), none, some (vI (v11 + (1))), none, none, none] rfl ?_
      exact ih _ _ _ _ _ _ hf kx
set_option maxHeartbeats 4000000 in
theorem k_X1_taxOf {l : Launch} {n : Nat} {a0 : Option Nat} {a1 : Int32} {a2 : Int32} {a3 : Int32} {a4 : Int64} {w : zWd} (r : Int64) (w9 : zWd) (hf : f_X1_taxOf n a0 a1 a2 a3 a4 w = some (r, w9)) : zCt l yX1_taxOf cX1_taxOf 15 (some .long) 8 [vA a0, vI a1, vI a2, vI a3, vL a4] w (.inr (some (vL r), w9)) := by
  refine zCt_of (lv := [some (vA a0), some (vI a1), some (vI a2), some (vI a3), some (vL a4), none, none, none, none, none, none, none, none, none, none]) (by decide +kernel) 9 rfl rfl ?_
  intro X hX hI hN hQ
  have hX : zGd X RX1 cX1_taxOf 15 (some .long) 8 := hX
  unfold f_X1_taxOf at hf
  refine j_aload_n (pc := 0) hX dX1_taxOf_0 rfl ?_
  refine j_getA (pc := 1) hX kX1 (k := 10) (Nat.le_of_ble_eq_true rfl) q349 (Or.inl rfl) dX1_taxOf_1 hf (fun x1 hx_ hf => ?_)
  refine j_iload_n (pc := 4) hX dX1_taxOf_4 rfl ?_
  obtain ⟨x3, w2, hc_, hf⟩ := zB2_e hf
  obtain ⟨hi_, hc_⟩ := zV_e hc_
  refine j_callF (pc := 5) hX (ci := 18) mt_J2_get q965 q970 q968 (by decide +kernel) rfl hi_ ⟨_, rfl, rfl⟩ [vI a1] rfl rfl (Nat.le_of_ble_eq_true rfl) (by decide) dX1_taxOf_5 (k_J2_get _ _ hc_) ?_
  refine j_cast (pc := 10) hX q1501 [18] (zC1 ⟨_, rfl, Or.inr q229⟩) dX1_taxOf_10 hf (fun hf => ?_)
  refine j_iload_n (pc := 13) hX dX1_taxOf_13 rfl ?_
  obtain ⟨x5, w4, hc_, hf⟩ := zB2_e hf
  obtain ⟨hi_, hc_⟩ := zV_e hc_
  refine j_callF (pc := 14) hX (ci := 18) mt_J2_get q965 q970 q968 (by decide +kernel) rfl hi_ ⟨_, rfl, rfl⟩ [vI a2] rfl rfl (Nat.le_of_ble_eq_true rfl) (by decide) dX1_taxOf_14 (k_J2_get _ _ hc_) ?_
  refine j_cast (pc := 19) hX q162 [1] (zC1 ⟨_, rfl, Or.inl rfl⟩) dX1_taxOf_19 hf (fun hf => ?_)
  refine j_iload_n (pc := 22) hX dX1_taxOf_22 rfl ?_
  obtain ⟨x7, w6, hc_, hf⟩ := zB2_e hf
  obtain ⟨hi_, hc_⟩ := zV_e hc_
  refine j_callV (pc := 23) hX (ci := 1) mt_X2_at q1550 q1551 q1552 hi_ ⟨_, rfl, rfl⟩ [vI a3] rfl rfl (Nat.le_of_ble_eq_true rfl) (by decide) dX1_taxOf_23 (k_X2_at _ _ hc_) ?_
  refine j_cast (pc := 26) hX q1501 [18] (zC1 ⟨_, rfl, Or.inr q229⟩) dX1_taxOf_26 hf (fun hf => ?_)
  refine j_astore (pc := 29) hX dX1_taxOf_29 (by decide) [some (vA a0), some (vI a1), some (vI a2), some (vI a3), some (vL a4), none, some (vA x7), none, none, none, none, none, none, none, none] rfl ?_
  refine j_lconst (pc := 31) hX (0 : Int64) dX1_taxOf_31 rfl ?_
  refine j_lstore (pc := 32) hX dX1_taxOf_32 (by decide) [some (vA a0), some (vI a1), some (vI a2), some (vI a3), some (vL a4), none, some (vA x7), some (vL (0 : Int64)), none, none, none, none, none, none, none] rfl ?_
  refine j_lconst (pc := 34) hX (0 : Int64) dX1_taxOf_34 rfl ?_
  refine j_lstore (pc := 35) hX dX1_taxOf_35 (by decide) [some (vA a0), some (vI a1), some (vI a2), some (vI a3), some (vL a4), none, some (vA x7), some (vL (0 : Int64)), none, some (vL (0 : Int64)), none, none, none, none, none] rfl ?_
  refine j_iconst (pc := 37) hX (0 : Int32) dX1_taxOf_37 rfl ?_
  refine j_istore (pc := 38) hX dX1_taxOf_38 (by decide) [some (vA a0), some (vI a1), some (vI a2), some (vI a3), some (vL a4), none, some (vA x7), some (vL (0 : Int64)), none, some (vL (0 : Int64)), none, some (vI (0 : Int32)), none, none, none] rfl ?_
  obtain ⟨x22, w23, hm_, hf⟩ := zB2_e hf
  refine j_fg [0, 1, 2, 3] [none, none, none, none, some (vL a4), none, some (vA x7), some (vL (0 : Int64)), none, some (vL (0 : Int64)), none, some (vI (0 : Int32)), none, none, none] rfl ?_
  refine lp_X1_taxOf_L40 hX n _ _ _ _ _ _ _ _ _ hm_ ?_
  refine j_lload (pc := 118) hX dX1_taxOf_118 rfl ?_
  exact j_lreturn (pc := 120) hX hQ (by cases hf; rfl) dX1_taxOf_120
def f_X1_yearTax (n : Nat) (a0 : Option Nat) (a1 : Int32) (a2 : Int32) (a3 : Int32) (a4 : Int64) (w : zWd) : Option ((String ⊕ Int64) × zWd) :=
  zBX (f_X1_at n a1 (3 : Int32) w) fun x2 w1 =>
  zBX (f_X1_at n a3 (24 : Int32) w1) fun x4 w3 =>
  zBX (f_X1_in n a2 (0 : Int32) (1 : Int32) w3) fun x6 w5 =>
  if (lg_cmp a4 (0 : Int64)) < (0 : Int32) then
    zThr "java/lang/IllegalArgumentException" w5
  else
    if (lg_cmp a4 (10000000000 : Int64)) ≤ (0 : Int32) then
      zB2 (zV (isC w5 0 a0) (f_X1_taxOf n a0 a1 a2 a3 a4 w5)) fun x8 w7 =>
      some (.inr x8, w7)
    else
      zThr "java/lang/IllegalArgumentException" w5
theorem mt_X1_yearTax : zMt yX1_yearTax cX1_yearTax 6 (some .long) 4 := ⟨q1544, q66, ⟨by decide, by decide⟩, by decide +kernel, by decide⟩
set_option maxHeartbeats 4000000 in
theorem k_X1_yearTax {l : Launch} {n : Nat} {a0 : Option Nat} {a1 : Int32} {a2 : Int32} {a3 : Int32} {a4 : Int64} {w : zWd} (r : String ⊕ Int64) (w9 : zWd) (hf : f_X1_yearTax n a0 a1 a2 a3 a4 w = some (r, w9)) : zCt l yX1_yearTax cX1_yearTax 6 (some .long) 9 [vA a0, vI a1, vI a2, vI a3, vL a4] w (zXL r w9) := by
  refine zCt_of (lv := [some (vA a0), some (vI a1), some (vI a2), some (vI a3), some (vL a4), none]) (by decide +kernel) 0 rfl rfl ?_
  intro X hX hI hN hQ
  have hX : zGd X RX1 cX1_yearTax 6 (some .long) 9 := hX
  unfold f_X1_yearTax at hf
  refine j_iload_n (pc := 0) hX dX1_yearTax_0 rfl ?_
  refine j_iconst (pc := 1) hX (3 : Int32) dX1_yearTax_1 rfl ?_
  obtain ⟨⟨q_, w1⟩, hc_, hf⟩ := zob hf
  cases q_ with
  | inl E_ =>
    cases hf
    exact j_callSX (pc := 2) hX mt_X1_at q507 q508 [vI a1, vI (3 : Int32)] rfl rfl (Nat.le_of_ble_eq_true rfl) (by decide) dX1_yearTax_2 hN hQ (k_X1_at _ _ hc_)
  | inr x2 =>
    refine j_callS (pc := 2) hX mt_X1_at q507 q508 [vI a1, vI (3 : Int32)] rfl rfl (Nat.le_of_ble_eq_true rfl) (by decide) dX1_yearTax_2 (k_X1_at _ _ hc_) ?_
    refine j_pop (pc := 5) hX rfl dX1_yearTax_5 ?_
    refine j_iload_n (pc := 6) hX dX1_yearTax_6 rfl ?_
    refine j_bipush (pc := 7) hX (24 : Int32) dX1_yearTax_7 (by decide +kernel) ?_
    obtain ⟨⟨q_, w3⟩, hc_, hf⟩ := zob hf
    cases q_ with
    | inl E_ =>
      cases hf
      exact j_callSX (pc := 9) hX mt_X1_at q507 q508 [vI a3, vI (24 : Int32)] rfl rfl (Nat.le_of_ble_eq_true rfl) (by decide) dX1_yearTax_9 hN hQ (k_X1_at _ _ hc_)
    | inr x4 =>
      refine j_callS (pc := 9) hX mt_X1_at q507 q508 [vI a3, vI (24 : Int32)] rfl rfl (Nat.le_of_ble_eq_true rfl) (by decide) dX1_yearTax_9 (k_X1_at _ _ hc_) ?_
      refine j_pop (pc := 12) hX rfl dX1_yearTax_12 ?_
      refine j_iload_n (pc := 13) hX dX1_yearTax_13 rfl ?_
      refine j_iconst (pc := 14) hX (0 : Int32) dX1_yearTax_14 rfl ?_
      refine j_iconst (pc := 15) hX (1 : Int32) dX1_yearTax_15 rfl ?_
      obtain ⟨⟨q_, w5⟩, hc_, hf⟩ := zob hf
      cases q_ with
      | inl E_ =>
        cases hf
        exact j_callSX (pc := 16) hX mt_X1_in q523 q524 [vI a2, vI (0 : Int32), vI (1 : Int32)] rfl rfl (Nat.le_of_ble_eq_true rfl) (by decide) dX1_yearTax_16 hN hQ (k_X1_in _ _ hc_)
      | inr x6 =>
        refine j_callS (pc := 16) hX mt_X1_in q523 q524 [vI a2, vI (0 : Int32), vI (1 : Int32)] rfl rfl (Nat.le_of_ble_eq_true rfl) (by decide) dX1_yearTax_16 (k_X1_in _ _ hc_) ?_
        refine j_pop (pc := 19) hX rfl dX1_yearTax_19 ?_
        refine j_lload (pc := 20) hX dX1_yearTax_20 rfl ?_
        refine j_lconst (pc := 22) hX (0 : Int64) dX1_yearTax_22 rfl ?_
        refine j_lcmp (pc := 23) hX dX1_yearTax_23 ?_
        refine j_if_lt (pc := 24) hX 36 dX1_yearTax_24 rfl hf (fun h_ hf => ?_) (fun h_ hf => ?_)
        · obtain ⟨hr_, hf⟩ := zThr_e hf
          cases hf
          exact j_throwS (pc := 36) (E := "java/lang/IllegalArgumentException") (names := ["java/lang/RuntimeException", "java/lang/Exception"]) hX hN hQ 1 rfl (by decide +kernel) (by decide +kernel) q526 q89 zth_245_1 zth_245_2 zth_245_3 dX1_yearTax_36 dX1_yearTax_39 (Or.inl dX1_yearTax_40) dX1_yearTax_42 dX1_yearTax_45 (by decide) (Nat.le_of_ble_eq_true rfl) hr_
        · refine j_lload (pc := 27) hX dX1_yearTax_27 rfl ?_
          refine j_ldc2 (pc := 29) hX q1545 dX1_yearTax_29 ?_
          refine j_lcmp (pc := 32) hX dX1_yearTax_32 ?_
          refine j_if_le (pc := 33) hX 46 dX1_yearTax_33 rfl hf (fun h_ hf => ?_) (fun h_ hf => ?_)
          · refine j_aload_n (pc := 46) hX dX1_yearTax_46 rfl ?_
            refine j_iload_n (pc := 47) hX dX1_yearTax_47 rfl ?_
            refine j_iload_n (pc := 48) hX dX1_yearTax_48 rfl ?_
            refine j_iload_n (pc := 49) hX dX1_yearTax_49 rfl ?_
            refine j_lload (pc := 50) hX dX1_yearTax_50 rfl ?_
            obtain ⟨x8, w7, hc_, hf⟩ := zB2_e hf
            obtain ⟨hi_, hc_⟩ := zV_e hc_
            refine j_callV (pc := 52) hX (ci := 0) mt_X1_taxOf q1546 q1548 qs19 hi_ ⟨_, rfl, rfl⟩ [vI a1, vI a2, vI a3, vL a4] rfl rfl (Nat.le_of_ble_eq_true rfl) (by decide) dX1_yearTax_52 (k_X1_taxOf _ _ hc_) ?_
            exact j_lreturn (pc := 55) hX hQ (by cases hf; rfl) dX1_yearTax_55
          · obtain ⟨hr_, hf⟩ := zThr_e hf
            cases hf
            exact j_throwS (pc := 36) (E := "java/lang/IllegalArgumentException") (names := ["java/lang/RuntimeException", "java/lang/Exception"]) hX hN hQ 1 rfl (by decide +kernel) (by decide +kernel) q526 q89 zth_245_1 zth_245_2 zth_245_3 dX1_yearTax_36 dX1_yearTax_39 (Or.inl dX1_yearTax_40) dX1_yearTax_42 dX1_yearTax_45 (by decide) (Nat.le_of_ble_eq_true rfl) hr_
def f_X5_hasDayIn (n : Nat) (a0 : Option Nat) (a1 : Int32) (w : zWd) : Option (Int32 × zWd) :=
  (gI w 4 2 a0).bind fun x1 =>
  (
    if ((a1 + (1 : Int32)) * (30 : Int32)) ≤ x1 then
      some (0 : Int32)
    else
      (gI w 4 3 a0).bind fun x2 =>
      if x2 < (a1 * (30 : Int32)) then
        some (0 : Int32)
      else
        some (1 : Int32)
    ).bind fun x3 =>
  zRz x3 w
theorem mt_X5_hasDayIn : zMt yX5_hasDayIn cX5_hasDayIn 2 (some .boolean) 1 := ⟨q1601, q91, ⟨by decide, by decide⟩, by decide +kernel, by decide⟩
set_option maxHeartbeats 4000000 in
theorem k_X5_hasDayIn {l : Launch} {n : Nat} {a0 : Option Nat} {a1 : Int32} {w : zWd} (r : Int32) (w9 : zWd) (hf : f_X5_hasDayIn n a0 a1 w = some (r, w9)) : zCt l yX5_hasDayIn cX5_hasDayIn 2 (some .boolean) 1 [vA a0, vI a1] w (.inr (some (vI r), w9)) := by
  refine zCt_of (lv := [some (vA a0), some (vI a1)]) (by decide +kernel) 0 rfl rfl ?_
  intro X hX hI hN hQ
  have hX : zGd X RX5 cX5_hasDayIn 2 (some .boolean) 1 := hX
  unfold f_X5_hasDayIn at hf
  refine j_aload_n (pc := 0) hX dX5_hasDayIn_0 rfl ?_
  refine j_getI (pc := 1) hX kX5 (k := 2) (Nat.le_of_ble_eq_true rfl) q922 (Or.inl rfl) dX5_hasDayIn_1 hf (fun x1 hx_ hf => ?_)
  refine j_iload_n (pc := 4) hX dX5_hasDayIn_4 rfl ?_
  refine j_iconst (pc := 5) hX (1 : Int32) dX5_hasDayIn_5 rfl ?_
  refine j_iadd (pc := 6) hX dX5_hasDayIn_6 ?_
  refine j_bipush (pc := 7) hX (30 : Int32) dX5_hasDayIn_7 (by decide +kernel) ?_
  refine j_imul (pc := 9) hX dX5_hasDayIn_9 ?_
  obtain ⟨x3, hm_, hf⟩ := zob hf
  have kj10 : zJ X 29 [none, none] [vI x3] w := by
    clear hm_
    obtain ⟨hz_, hf⟩ := zRz_e hf
    exact j_zreturn (pc := 29) hX hQ hz_ (by cases hf; rfl) dX5_hasDayIn_29
  have hf := hm_
  refine j_icmp_ge (pc := 10) hX 28 dX5_hasDayIn_10 rfl hf (fun h_ hf => ?_) (fun h_ hf => ?_)
  · refine j_iconst (pc := 28) hX (0 : Int32) dX5_hasDayIn_28 rfl ?_
    refine j_fg [0, 1] [none, none] rfl ?_
    cases hf
    exact kj10
  · refine j_aload_n (pc := 13) hX dX5_hasDayIn_13 rfl ?_
    refine j_getI (pc := 14) hX kX5 (k := 3) (Nat.le_of_ble_eq_true rfl) q923 (Or.inl rfl) dX5_hasDayIn_14 hf (fun x2 hx_ hf => ?_)
    refine j_iload_n (pc := 17) hX dX5_hasDayIn_17 rfl ?_
    refine j_bipush (pc := 18) hX (30 : Int32) dX5_hasDayIn_18 (by decide +kernel) ?_
    refine j_imul (pc := 20) hX dX5_hasDayIn_20 ?_
    refine j_icmp_lt (pc := 21) hX 28 dX5_hasDayIn_21 rfl hf (fun h_ hf => ?_) (fun h_ hf => ?_)
    · refine j_iconst (pc := 28) hX (0 : Int32) dX5_hasDayIn_28 rfl ?_
      refine j_fg [0, 1] [none, none] rfl ?_
      cases hf
      exact kj10
    · refine j_iconst (pc := 24) hX (1 : Int32) dX5_hasDayIn_24 rfl ?_
      refine j_goto (pc := 25) hX 29 dX5_hasDayIn_25 rfl ?_
      refine j_fg [0, 1] [none, none] rfl ?_
      cases hf
      exact kj10
def f_X12_isFor (n : Nat) (a0 : Option Nat) (a1 : Int32) (w : zWd) : Option (Int32 × zWd) :=
  (gI w 11 1 a0).bind fun x1 =>
  (
    if ((x1 >>> (a1 &&& 31)) &&& (1 : Int32)) = (0 : Int32) then
      some (0 : Int32)
    else
      some (1 : Int32)
    ).bind fun x2 =>
  zRz x2 w
theorem mt_X12_isFor : zMt yX12_isFor cX12_isFor 2 (some .boolean) 1 := ⟨q1609, q107, ⟨by decide, by decide⟩, by decide +kernel, by decide⟩
set_option maxHeartbeats 4000000 in
theorem k_X12_isFor {l : Launch} {n : Nat} {a0 : Option Nat} {a1 : Int32} {w : zWd} (r : Int32) (w9 : zWd) (hf : f_X12_isFor n a0 a1 w = some (r, w9)) : zCt l yX12_isFor cX12_isFor 2 (some .boolean) 1 [vA a0, vI a1] w (.inr (some (vI r), w9)) := by
  refine zCt_of (lv := [some (vA a0), some (vI a1)]) (by decide +kernel) 0 rfl rfl ?_
  intro X hX hI hN hQ
  have hX : zGd X RX12 cX12_isFor 2 (some .boolean) 1 := hX
  unfold f_X12_isFor at hf
  refine j_aload_n (pc := 0) hX dX12_isFor_0 rfl ?_
  refine j_getI (pc := 1) hX kX12 (k := 1) (Nat.le_of_ble_eq_true rfl) q1342 (Or.inl rfl) dX12_isFor_1 hf (fun x1 hx_ hf => ?_)
  refine j_iload_n (pc := 4) hX dX12_isFor_4 rfl ?_
  refine j_ishr (pc := 5) hX dX12_isFor_5 ?_
  refine j_iconst (pc := 6) hX (1 : Int32) dX12_isFor_6 rfl ?_
  refine j_iand (pc := 7) hX dX12_isFor_7 ?_
  obtain ⟨x2, hm_, hf⟩ := zob hf
  have kj8 : zJ X 16 [none, none] [vI x2] w := by
    clear hm_
    obtain ⟨hz_, hf⟩ := zRz_e hf
    exact j_zreturn (pc := 16) hX hQ hz_ (by cases hf; rfl) dX12_isFor_16
  have hf := hm_
  refine j_if_eq (pc := 8) hX 15 dX12_isFor_8 rfl hf (fun h_ hf => ?_) (fun h_ hf => ?_)
  · refine j_iconst (pc := 15) hX (0 : Int32) dX12_isFor_15 rfl ?_
    refine j_fg [0, 1] [none, none] rfl ?_
    cases hf
    exact kj8
  · refine j_iconst (pc := 11) hX (1 : Int32) dX12_isFor_11 rfl ?_
    refine j_goto (pc := 12) hX 16 dX12_isFor_12 rfl ?_
    refine j_fg [0, 1] [none, none] rfl ?_
    cases hf
    exact kj8
def f_X11_number (n : Nat) (a0 : Option Nat) (w : zWd) : Option (Int32 × zWd) :=
  (gI w 10 0 a0).bind fun x1 =>
  some (x1, w)
theorem mt_X11_number : zMt yX11_number cX11_number 1 (some .int) 0 := ⟨q1620, q106, ⟨by decide, by decide⟩, by decide +kernel, by decide⟩
set_option maxHeartbeats 4000000 in
theorem k_X11_number {l : Launch} {n : Nat} {a0 : Option Nat} {w : zWd} (r : Int32) (w9 : zWd) (hf : f_X11_number n a0 w = some (r, w9)) : zCt l yX11_number cX11_number 1 (some .int) 1 [vA a0] w (.inr (some (vI r), w9)) := by
  refine zCt_of (lv := [some (vA a0)]) (by decide +kernel) 0 rfl rfl ?_
  intro X hX hI hN hQ
  have hX : zGd X RX11 cX11_number 1 (some .int) 1 := hX
  unfold f_X11_number at hf
  refine j_aload_n (pc := 0) hX dX11_number_0 rfl ?_
  refine j_getI (pc := 1) hX kX11 (k := 0) (Nat.le_of_ble_eq_true rfl) q1278 (Or.inl rfl) dX11_number_1 hf (fun x1 hx_ hf => ?_)
  exact j_ireturn (pc := 4) hX hQ (by cases hf; rfl) dX11_number_4
def f_X1_bounded (n : Nat) (a0 : Int64) (w : zWd) : Option (Int64 × zWd) :=
  zB2 (f_J7_min_2 n (100000000 : Int64) a0 w) fun x2 w1 =>
  zB2 (f_J7_max_2 n (-100000000 : Int64) x2 w1) fun x4 w3 =>
  some (x4, w3)
theorem mt_X1_bounded : zMt yX1_bounded cX1_bounded 2 (some .long) 1 := ⟨q1623, q66, ⟨by decide, by decide⟩, by decide +kernel, by decide⟩
set_option maxHeartbeats 4000000 in
theorem k_X1_bounded {l : Launch} {n : Nat} {a0 : Int64} {w : zWd} (r : Int64) (w9 : zWd) (hf : f_X1_bounded n a0 w = some (r, w9)) : zCt l yX1_bounded cX1_bounded 2 (some .long) 2 [vL a0] w (.inr (some (vL r), w9)) := by
  refine zCt_of (lv := [some (vL a0), none]) (by decide +kernel) 0 rfl rfl ?_
  intro X hX hI hN hQ
  have hX : zGd X RX1 cX1_bounded 2 (some .long) 2 := hX
  unfold f_X1_bounded at hf
  refine j_ldc2 (pc := 0) hX q1624 dX1_bounded_0 ?_
  refine j_ldc2 (pc := 3) hX q1625 dX1_bounded_3 ?_
  refine j_lload_n (pc := 6) hX dX1_bounded_6 rfl ?_
  obtain ⟨x2, w1, hc_, hf⟩ := zB2_e hf
  refine j_callS (pc := 7) hX mt_J7_min_2 q1566 q1098 [vL (100000000 : Int64), vL a0] rfl rfl (Nat.le_of_ble_eq_true rfl) (by decide) dX1_bounded_7 (k_J7_min_2 _ _ hc_) ?_
  obtain ⟨x4, w3, hc_, hf⟩ := zB2_e hf
  refine j_callS (pc := 10) hX mt_J7_max_2 q1567 q1095 [vL (-100000000 : Int64), vL x2] rfl rfl (Nat.le_of_ble_eq_true rfl) (by decide) dX1_bounded_10 (k_J7_max_2 _ _ hc_) ?_
  exact j_lreturn (pc := 13) hX hQ (by cases hf; rfl) dX1_bounded_13
def f_X1_nameOf (n : Nat) (a0 : Int32) (w : zWd) : Option ((Option Nat) × zWd) :=
  if a0 = (4 : Int32) then
    (stA w 14).bind fun x1 =>
    some (x1, w)
  else
  if a0 = (5 : Int32) then
    (stA w 15).bind fun x2 =>
    some (x2, w)
  else
  if a0 = (6 : Int32) then
    (stA w 16).bind fun x3 =>
    some (x3, w)
  else
  if a0 = (7 : Int32) then
    (stA w 17).bind fun x4 =>
    some (x4, w)
  else
  if a0 = (8 : Int32) then
    (stA w 18).bind fun x5 =>
    some (x5, w)
  else
    (stA w 19).bind fun x6 =>
    some (x6, w)
theorem mt_X1_nameOf : zMt yX1_nameOf cX1_nameOf 1 (some (.object "java/lang/String")) 1 := ⟨q1630, q66, ⟨by decide, by decide⟩, by decide +kernel, by decide⟩
set_option maxHeartbeats 4000000 in
theorem k_X1_nameOf {l : Launch} {n : Nat} {a0 : Int32} {w : zWd} (r : Option Nat) (w9 : zWd) (hf : f_X1_nameOf n a0 w = some (r, w9)) : zCt l yX1_nameOf cX1_nameOf 1 (some (.object "java/lang/String")) 1 [vI a0] w (.inr (some (vA r), w9)) := by
  refine zCt_of (lv := [some (vI a0)]) (by decide +kernel) 0 rfl rfl ?_
  intro X hX hI hN hQ
  have hX : zGd X RX1 cX1_nameOf 1 (some (.object "java/lang/String")) 1 := hX
  unfold f_X1_nameOf at hf
  refine j_iload_n (pc := 0) hX dX1_nameOf_0 rfl ?_
  change (if a0 = (4 : Int32) then _ else _) = _ at hf
  by_cases h_4 : a0 = (4 : Int32)
  · rw [if_pos h_4] at hf
    refine j_tsIn (pc := 1) hX 36 dX1_nameOf_1 0 (by rw [h_4]; rfl) (by decide) rfl rfl ?_
    refine j_ldcS (pc := 36) hX 4 rfl dX1_nameOf_36 hf (fun x1 hx_ hf => ?_)
    exact j_areturn (pc := 38) hX rfl hQ (by cases hf; rfl) dX1_nameOf_38
  rw [if_neg h_4] at hf
  by_cases h_5 : a0 = (5 : Int32)
  · rw [if_pos h_5] at hf
    refine j_tsIn (pc := 1) hX 39 dX1_nameOf_1 1 (by rw [h_5]; rfl) (by decide) rfl rfl ?_
    refine j_ldcS (pc := 39) hX 5 rfl dX1_nameOf_39 hf (fun x2 hx_ hf => ?_)
    exact j_areturn (pc := 41) hX rfl hQ (by cases hf; rfl) dX1_nameOf_41
  rw [if_neg h_5] at hf
  by_cases h_6 : a0 = (6 : Int32)
  · rw [if_pos h_6] at hf
    refine j_tsIn (pc := 1) hX 42 dX1_nameOf_1 2 (by rw [h_6]; rfl) (by decide) rfl rfl ?_
    refine j_ldcS (pc := 42) hX 6 rfl dX1_nameOf_42 hf (fun x3 hx_ hf => ?_)
    exact j_areturn (pc := 44) hX rfl hQ (by cases hf; rfl) dX1_nameOf_44
  rw [if_neg h_6] at hf
  by_cases h_7 : a0 = (7 : Int32)
  · rw [if_pos h_7] at hf
    refine j_tsIn (pc := 1) hX 45 dX1_nameOf_1 3 (by rw [h_7]; rfl) (by decide) rfl rfl ?_
    refine j_ldcS (pc := 45) hX 7 rfl dX1_nameOf_45 hf (fun x4 hx_ hf => ?_)
    exact j_areturn (pc := 47) hX rfl hQ (by cases hf; rfl) dX1_nameOf_47
  rw [if_neg h_7] at hf
  by_cases h_8 : a0 = (8 : Int32)
  · rw [if_pos h_8] at hf
    refine j_tsIn (pc := 1) hX 48 dX1_nameOf_1 4 (by rw [h_8]; rfl) (by decide) rfl rfl ?_
    refine j_ldcS (pc := 48) hX 8 rfl dX1_nameOf_48 hf (fun x5 hx_ hf => ?_)
    exact j_areturn (pc := 50) hX rfl hQ (by cases hf; rfl) dX1_nameOf_50
  rw [if_neg h_8] at hf
  refine j_tsOut (pc := 1) hX 51 dX1_nameOf_1 (fun k_ h1_ h2_ => by
    have h3_ : k_ = 4 ∨ k_ = 5 ∨ k_ = 6 ∨ k_ = 7 ∨ k_ = 8 := by omega
    rcases h3_ with rfl | rfl | rfl | rfl | rfl <;> first | exact h_4 | exact h_5 | exact h_6 | exact h_7 | exact h_8) (by decide) rfl ?_
  refine j_ldcS (pc := 51) hX 9 rfl dX1_nameOf_51 hf (fun x6 hx_ hf => ?_)
  exact j_areturn (pc := 53) hX rfl hQ (by cases hf; rfl) dX1_nameOf_53
def f_J16_hashCode (n : Nat) (a0 : Option Nat) (w : zWd) : Option (Int32 × zWd) :=
  (gI w 24 2 a0).bind fun x1 =>
  (
    if x1 = (0 : Int32) then
      (gI w 24 3 a0).bind fun x2 =>
      if x2 = (0 : Int32) then
        none
      else
        some ()
    else
      some ()
    ).bind fun _ =>
  some (x1, w)
theorem mt_J16_hashCode : zMt yJ16_hashCode cJ16_hashCode 2 (some .int) 0 := ⟨q1643, q88, ⟨by decide, by decide⟩, by decide +kernel, by decide⟩
set_option maxHeartbeats 4000000 in
theorem k_J16_hashCode {l : Launch} {n : Nat} {a0 : Option Nat} {w : zWd} (r : Int32) (w9 : zWd) (hf : f_J16_hashCode n a0 w = some (r, w9)) : zCt l yJ16_hashCode cJ16_hashCode 2 (some .int) 1 [vA a0] w (.inr (some (vI r), w9)) := by
  refine zCt_of (lv := [some (vA a0), none]) (by decide +kernel) 1 rfl rfl ?_
  intro X hX hI hN hQ
  have hX : zGd X RJ16 cJ16_hashCode 2 (some .int) 1 := hX
  unfold f_J16_hashCode at hf
  refine j_aload_n (pc := 0) hX dJ16_hashCode_0 rfl ?_
  refine j_getI (pc := 1) hX kJ16 (k := 2) (Nat.le_of_ble_eq_true rfl) q1880 (Or.inl rfl) dJ16_hashCode_1 hf (fun x1 hx_ hf => ?_)
  refine j_istore_n (pc := 4) hX dJ16_hashCode_4 (by decide) [some (vA a0), some (vI x1)] rfl ?_
  refine j_iload_n (pc := 5) hX dJ16_hashCode_5 rfl ?_
  obtain ⟨_, hm_, hf⟩ := zob hf
  have kj6 : zJ X 58 [none, some (vI x1)] [] w := by
    clear hm_
    refine j_iload_n (pc := 58) hX dJ16_hashCode_58 rfl ?_
    exact j_ireturn (pc := 59) hX hQ (by cases hf; rfl) dJ16_hashCode_59
  have hf := hm_
  refine j_if_ne (pc := 6) hX 58 dJ16_hashCode_6 rfl hf (fun h_ hf => ?_) (fun h_ hf => ?_)
  · refine j_fg [0] [none, some (vI x1)] rfl ?_
    cases hf
    exact kj6
  · refine j_aload_n (pc := 9) hX dJ16_hashCode_9 rfl ?_
    refine j_getI (pc := 10) hX kJ16 (k := 3) (Nat.le_of_ble_eq_true rfl) q1881 (Or.inl rfl) dJ16_hashCode_10 hf (fun x2 hx_ hf => ?_)
    refine j_if_ne (pc := 13) hX 58 dJ16_hashCode_13 rfl hf (fun h_ hf => ?_) (fun h_ hf => ?_)
    · refine j_fg [0] [none, some (vI x1)] rfl ?_
      cases hf
      exact kj6
    · refine j_aload_n (pc := 16) hX dJ16_hashCode_16 rfl ?_
      cases hf
def f_J16_equals (n : Nat) (a0 : Option Nat) (a1 : Option Nat) (w : zWd) : Option (Int32 × zWd) :=
  if a0 = a1 then
    zRz (1 : Int32) w
  else
    (iO w 24 a1).bind fun x1 =>
    (
      if x1 = (0 : Int32) then
        some ()
      else
        (cK w [24] a1).bind fun _ =>
        (stI w 3).bind fun x2 =>
        if x2 = (0 : Int32) then
          (gA w 24 0 a0).bind fun x3 =>
          (gA w 24 0 a1).bind fun x4 =>
          none
        else
          (gI w 24 1 a0).bind fun x5 =>
          (gI w 24 1 a1).bind fun x6 =>
          if x5 = x6 then
            (gA w 24 0 a0).bind fun x7 =>
            (gA w 24 0 a1).bind fun x8 =>
            none
          else
            some ()
      ).bind fun _ =>
    zRz (0 : Int32) w
theorem mt_J16_equals : zMt yJ16_equals cJ16_equals 3 (some .boolean) 1 := ⟨q1895, q88, ⟨by decide, by decide⟩, by decide +kernel, by decide⟩
set_option maxHeartbeats 4000000 in
theorem k_J16_equals {l : Launch} {n : Nat} {a0 : Option Nat} {a1 : Option Nat} {w : zWd} (r : Int32) (w9 : zWd) (hf : f_J16_equals n a0 a1 w = some (r, w9)) : zCt l yJ16_equals cJ16_equals 3 (some .boolean) 1 [vA a0, vA a1] w (.inr (some (vI r), w9)) := by
  refine zCt_of (lv := [some (vA a0), some (vA a1), none]) (by decide +kernel) 1 rfl rfl ?_
  intro X hX hI hN hQ
  have hX : zGd X RJ16 cJ16_equals 3 (some .boolean) 1 := hX
  unfold f_J16_equals at hf
  refine j_aload_n (pc := 0) hX dJ16_equals_0 rfl ?_
  refine j_aload_n (pc := 1) hX dJ16_equals_1 rfl ?_
  refine j_acmp_ne (pc := 2) hX 7 dJ16_equals_2 rfl hf (fun h_ hf => ?_) (fun h_ hf => ?_)
  · refine j_aload_n (pc := 7) hX dJ16_equals_7 rfl ?_
    refine j_inst (pc := 8) hX q618 24 ⟨_, rfl, rfl⟩ dJ16_equals_8 hf (fun x1 hx_ hf => ?_)
    obtain ⟨_, hm_, hf⟩ := zob hf
    have kj11 : zJ X 55 [none, none, none] [vI (0 : Int32)] w := by
      clear hm_
      obtain ⟨hz_, hf⟩ := zRz_e hf
      exact j_zreturn (pc := 55) hX hQ hz_ (by cases hf; rfl) dJ16_equals_55
    have hf := hm_
    refine j_if_eq (pc := 11) hX 54 dJ16_equals_11 rfl hf (fun h_ hf => ?_) (fun h_ hf => ?_)
    · refine j_iconst (pc := 54) hX (0 : Int32) dJ16_equals_54 rfl ?_
      refine j_fg [0, 1] [none, none, none] rfl ?_
      cases hf
      exact kj11
    · refine j_aload_n (pc := 14) hX dJ16_equals_14 rfl ?_
      refine j_cast (pc := 15) hX q618 [24] (zC1 ⟨_, rfl, Or.inl rfl⟩) dJ16_equals_15 hf (fun hf => ?_)
      refine j_astore_n (pc := 18) hX dJ16_equals_18 (by decide) [some (vA a0), some (vA a1), some (vA a1)] rfl ?_
      refine j_gets3 (pc := 19) hX q627 dJ16_equals_19 hf (fun x2 hx_ hf => ?_)
      refine j_if_eq (pc := 22) hX 36 dJ16_equals_22 rfl hf (fun h_ hf => ?_) (fun h_ hf => ?_)
      · refine j_aload_n (pc := 36) hX dJ16_equals_36 rfl ?_
        refine j_getA (pc := 37) hX kJ16 (k := 0) (Nat.le_of_ble_eq_true rfl) q1878 (Or.inl rfl) dJ16_equals_37 hf (fun x3 hx_ hf => ?_)
        refine j_aload_n (pc := 40) hX dJ16_equals_40 rfl ?_
        refine j_getA (pc := 41) hX kJ16 (k := 0) (Nat.le_of_ble_eq_true rfl) q1878 (Or.inl rfl) dJ16_equals_41 hf (fun x4 hx_ hf => ?_)
        cases hf
      · refine j_aload_n (pc := 25) hX dJ16_equals_25 rfl ?_
        refine j_getI (pc := 26) hX kJ16 (k := 1) (Nat.le_of_ble_eq_true rfl) q1879 (Or.inl rfl) dJ16_equals_26 hf (fun x5 hx_ hf => ?_)
        refine j_aload_n (pc := 29) hX dJ16_equals_29 rfl ?_
        refine j_getI (pc := 30) hX kJ16 (k := 1) (Nat.le_of_ble_eq_true rfl) q1879 (Or.inl rfl) dJ16_equals_30 hf (fun x6 hx_ hf => ?_)
        refine j_icmp_ne (pc := 33) hX 54 dJ16_equals_33 rfl hf (fun h_ hf => ?_) (fun h_ hf => ?_)
        · refine j_iconst (pc := 54) hX (0 : Int32) dJ16_equals_54 rfl ?_
          refine j_fg [0, 1, 2] [none, none, none] rfl ?_
          cases hf
          exact kj11
        · refine j_aload_n (pc := 36) hX dJ16_equals_36 rfl ?_
          refine j_getA (pc := 37) hX kJ16 (k := 0) (Nat.le_of_ble_eq_true rfl) q1878 (Or.inl rfl) dJ16_equals_37 hf (fun x7 hx_ hf => ?_)
          refine j_aload_n (pc := 40) hX dJ16_equals_40 rfl ?_
          refine j_getA (pc := 41) hX kJ16 (k := 0) (Nat.le_of_ble_eq_true rfl) q1878 (Or.inl rfl) dJ16_equals_41 hf (fun x8 hx_ hf => ?_)
          cases hf
  · refine j_iconst (pc := 5) hX (1 : Int32) dJ16_equals_5 rfl ?_
    obtain ⟨hz_, hf⟩ := zRz_e hf
    exact j_zreturn (pc := 6) hX hQ hz_ (by cases hf; rfl) dJ16_equals_6
def f_X1_join (n : Nat) (a0 : Option Nat) (a1 : Int64) (a2 : Int64) (w : zWd) : Option (Int64 × zWd) :=
  zB2 (zV (isC w 24 a0) (f_J16_hashCode n a0 w)) fun x2 w1 =>
  zB2 (
    if x2 = (-1106203642 : Int32) then
      (stA w1 18).bind fun x3 =>
      zB2 (zV (isC w1 24 a0) (f_J16_equals n a0 x3 w1)) fun x5 w4 =>
      if x5 = (0 : Int32) then
        some ((-1 : Int32), w4)
      else
        some ((4 : Int32), w4)
    else
    if x2 = (3444122 : Int32) then
      (stA w1 14).bind fun x6 =>
      zB2 (zV (isC w1 24 a0) (f_J16_equals n a0 x6 w1)) fun x8 w7 =>
      if x8 = (0 : Int32) then
        some ((-1 : Int32), w7)
      else
        some ((0 : Int32), w7)
    else
    if x2 = (103901296 : Int32) then
      (stA w1 15).bind fun x9 =>
      zB2 (zV (isC w1 24 a0) (f_J16_equals n a0 x9 w1)) fun x11 w10 =>
      if x11 = (0 : Int32) then
        some ((-1 : Int32), w10)
      else
        some ((1 : Int32), w10)
    else
    if x2 = (110364486 : Int32) then
      (stA w1 16).bind fun x12 =>
      zB2 (zV (isC w1 24 a0) (f_J16_equals n a0 x12 w1)) fun x14 w13 =>
      if x14 = (0 : Int32) then
        some ((-1 : Int32), w13)
      else
        some ((2 : Int32), w13)
    else
    if x2 = (437442764 : Int32) then
      (stA w1 17).bind fun x15 =>
      zB2 (zV (isC w1 24 a0) (f_J16_equals n a0 x15 w1)) fun x17 w16 =>
      if x17 = (0 : Int32) then
        some ((-1 : Int32), w16)
      else
        some ((3 : Int32), w16)
    else
      some ((-1 : Int32), w1)
    ) fun x18 w19 =>
  if x18 = (0 : Int32) then
    some ((a1 + a2), w19)
  else
  if x18 = (1 : Int32) then
    some ((a1 - a2), w19)
  else
  if x18 = (2 : Int32) then
    some ((a1 * a2), w19)
  else
  if x18 = (3 : Int32) then
    zB2 (f_X1_rounded n (a1 * a2) (1000 : Int64) w19) fun x21 w20 =>
    some (x21, w20)
  else
  if x18 = (4 : Int32) then
    zB2 (f_J7_min_2 n a1 a2 w19) fun x23 w22 =>
    some (x23, w22)
  else
    zB2 (f_J7_max_2 n a1 a2 w19) fun x25 w24 =>
    some (x25, w24)
theorem mt_X1_join : zMt yX1_join cX1_join 7 (some .long) 3 := ⟨q1639, q66, ⟨by decide, by decide⟩, by decide +kernel, by decide⟩
set_option maxHeartbeats 4000000 in
theorem k_X1_join {l : Launch} {n : Nat} {a0 : Option Nat} {a1 : Int64} {a2 : Int64} {w : zWd} (r : Int64) (w9 : zWd) (hf : f_X1_join n a0 a1 a2 w = some (r, w9)) : zCt l yX1_join cX1_join 7 (some .long) 3 [vA a0, vL a1, vL a2] w (.inr (some (vL r), w9)) := by
  refine zCt_of (lv := [some (vA a0), some (vL a1), none, some (vL a2), none, none, none]) (by decide +kernel) 2 rfl rfl ?_
  intro X hX hI hN hQ
  have hX : zGd X RX1 cX1_join 7 (some .long) 3 := hX
  unfold f_X1_join at hf
  refine j_aload_n (pc := 0) hX dX1_join_0 rfl ?_
  refine j_astore (pc := 1) hX dX1_join_1 (by decide) [some (vA a0), some (vL a1), none, some (vL a2), none, some (vA a0), none] rfl ?_
  refine j_iconst (pc := 3) hX (-1 : Int32) dX1_join_3 rfl ?_
  refine j_istore (pc := 4) hX dX1_join_4 (by decide) [some (vA a0), some (vL a1), none, some (vL a2), none, some (vA a0), some (vI (-1 : Int32))] rfl ?_
  refine j_aload (pc := 6) hX dX1_join_6 rfl ?_
  obtain ⟨x2, w1, hc_, hf⟩ := zB2_e hf
  obtain ⟨hi_, hc_⟩ := zV_e hc_
  refine j_callV (pc := 8) hX (ci := 24) mt_J16_hashCode q1640 q1641 q1642 hi_ ⟨_, rfl, rfl⟩ [] rfl rfl (Nat.le_of_ble_eq_true rfl) (by decide) dX1_join_8 (k_J16_hashCode _ _ hc_) ?_
  obtain ⟨x18, w19, hm_, hf⟩ := zB2_e hf
  have kj11 : zJ X 137 [none, some (vL a1), none, some (vL a2), none, none, some (vI x18)] [] w19 := by
    clear hm_
    refine j_iload (pc := 137) hX dX1_join_137 rfl ?_
    change (if x18 = (0 : Int32) then _ else _) = _ at hf
    by_cases h_0 : x18 = (0 : Int32)
    · rw [if_pos h_0] at hf
      refine j_tsIn (pc := 139) hX 172 dX1_join_139 0 (by rw [h_0]; rfl) (by decide) rfl rfl ?_
      refine j_lload_n (pc := 172) hX dX1_join_172 rfl ?_
      refine j_lload_n (pc := 173) hX dX1_join_173 rfl ?_
      refine j_ladd (pc := 174) hX dX1_join_174 ?_
      exact j_lreturn (pc := 175) hX hQ (by cases hf; rfl) dX1_join_175
    rw [if_neg h_0] at hf
    by_cases h_1 : x18 = (1 : Int32)
    · rw [if_pos h_1] at hf
      refine j_tsIn (pc := 139) hX 176 dX1_join_139 1 (by rw [h_1]; rfl) (by decide) rfl rfl ?_
      refine j_lload_n (pc := 176) hX dX1_join_176 rfl ?_
      refine j_lload_n (pc := 177) hX dX1_join_177 rfl ?_
      refine j_lsub (pc := 178) hX dX1_join_178 ?_
      exact j_lreturn (pc := 179) hX hQ (by cases hf; rfl) dX1_join_179
    rw [if_neg h_1] at hf
    by_cases h_2 : x18 = (2 : Int32)
    · rw [if_pos h_2] at hf
      refine j_tsIn (pc := 139) hX 180 dX1_join_139 2 (by rw [h_2]; rfl) (by decide) rfl rfl ?_
      refine j_lload_n (pc := 180) hX dX1_join_180 rfl ?_
      refine j_lload_n (pc := 181) hX dX1_join_181 rfl ?_
      refine j_lmul (pc := 182) hX dX1_join_182 ?_
      exact j_lreturn (pc := 183) hX hQ (by cases hf; rfl) dX1_join_183
    rw [if_neg h_2] at hf
    by_cases h_3 : x18 = (3 : Int32)
    · rw [if_pos h_3] at hf
      refine j_tsIn (pc := 139) hX 184 dX1_join_139 3 (by rw [h_3]; rfl) (by decide) rfl rfl ?_
      refine j_lload_n (pc := 184) hX dX1_join_184 rfl ?_
      refine j_lload_n (pc := 185) hX dX1_join_185 rfl ?_
      refine j_lmul (pc := 186) hX dX1_join_186 ?_
      refine j_ldc2 (pc := 187) hX q1572 dX1_join_187 ?_
      obtain ⟨x21, w20, hc_, hf⟩ := zB2_e hf
      refine j_callS (pc := 190) hX mt_X1_rounded q1899 q1186 [vL (a1 * a2), vL (1000 : Int64)] rfl rfl (Nat.le_of_ble_eq_true rfl) (by decide) dX1_join_190 (k_X1_rounded _ _ hc_) ?_
      exact j_lreturn (pc := 193) hX hQ (by cases hf; rfl) dX1_join_193
    rw [if_neg h_3] at hf
    by_cases h_4 : x18 = (4 : Int32)
    · rw [if_pos h_4] at hf
      refine j_tsIn (pc := 139) hX 194 dX1_join_139 4 (by rw [h_4]; rfl) (by decide) rfl rfl ?_
      refine j_lload_n (pc := 194) hX dX1_join_194 rfl ?_
      refine j_lload_n (pc := 195) hX dX1_join_195 rfl ?_
      obtain ⟨x23, w22, hc_, hf⟩ := zB2_e hf
      refine j_callS (pc := 196) hX mt_J7_min_2 q1566 q1098 [vL a1, vL a2] rfl rfl (Nat.le_of_ble_eq_true rfl) (by decide) dX1_join_196 (k_J7_min_2 _ _ hc_) ?_
      exact j_lreturn (pc := 199) hX hQ (by cases hf; rfl) dX1_join_199
    rw [if_neg h_4] at hf
    refine j_tsOut (pc := 139) hX 200 dX1_join_139 (fun k_ h1_ h2_ => by
      have h3_ : k_ = 0 ∨ k_ = 1 ∨ k_ = 2 ∨ k_ = 3 ∨ k_ = 4 := by omega
      rcases h3_ with rfl | rfl | rfl | rfl | rfl <;> first | exact h_0 | exact h_1 | exact h_2 | exact h_3 | exact h_4) (by decide) rfl ?_
    refine j_lload_n (pc := 200) hX dX1_join_200 rfl ?_
    refine j_lload_n (pc := 201) hX dX1_join_201 rfl ?_
    obtain ⟨x25, w24, hc_, hf⟩ := zB2_e hf
    refine j_callS (pc := 202) hX mt_J7_max_2 q1567 q1095 [vL a1, vL a2] rfl rfl (Nat.le_of_ble_eq_true rfl) (by decide) dX1_join_202 (k_J7_max_2 _ _ hc_) ?_
    exact j_lreturn (pc := 205) hX hQ (by cases hf; rfl) dX1_join_205
  have hf := hm_
  change (if x2 = (-1106203642 : Int32) then _ else _) = _ at hf
  by_cases h_m1106203642 : x2 = (-1106203642 : Int32)
  · rw [if_pos h_m1106203642] at hf
    refine j_lsw (pc := 11) hX 124 dX1_join_11 (by decide) (by first | (rw [h_m1106203642]; done) | (rw [h_m1106203642]; rfl)) rfl ?_
    refine j_aload (pc := 124) hX dX1_join_124 rfl ?_
    refine j_ldcS (pc := 126) hX 8 rfl dX1_join_126 hf (fun x3 hx_ hf => ?_)
    obtain ⟨x5, w4, hc_, hf⟩ := zB2_e hf
    obtain ⟨hi_, hc_⟩ := zV_e hc_
    refine j_callV (pc := 128) hX (ci := 24) mt_J16_equals q1892 q1893 q1894 hi_ ⟨_, rfl, rfl⟩ [vA x3] rfl rfl (Nat.le_of_ble_eq_true rfl) (by decide) dX1_join_128 (k_J16_equals _ _ hc_) ?_
    refine j_if_eq (pc := 131) hX 137 dX1_join_131 rfl hf (fun h_ hf => ?_) (fun h_ hf => ?_)
    · refine j_fg [0, 5] [none, some (vL a1), none, some (vL a2), none, none, some (vI (-1 : Int32))] rfl ?_
      simp only [Option.some.injEq, Prod.mk.injEq] at hf
      obtain ⟨rfl, rfl⟩ := hf
      exact kj11
    · refine j_iconst (pc := 134) hX (4 : Int32) dX1_join_134 rfl ?_
      refine j_istore (pc := 135) hX dX1_join_135 (by decide) [some (vA a0), some (vL a1), none, some (vL a2), none, some (vA a0), some (vI (4 : Int32))] rfl ?_
      refine j_fg [0, 5] [none, some (vL a1), none, some (vL a2), none, none, some (vI (4 : Int32))] rfl ?_
      cases hf
      exact kj11
  rw [if_neg h_m1106203642] at hf
  by_cases h_3444122 : x2 = (3444122 : Int32)
  · rw [if_pos h_3444122] at hf
    refine j_lsw (pc := 11) hX 60 dX1_join_11 (by decide) (by first | (rw [h_3444122]; done) | (rw [h_3444122]; rfl)) rfl ?_
    refine j_aload (pc := 60) hX dX1_join_60 rfl ?_
    refine j_ldcS (pc := 62) hX 4 rfl dX1_join_62 hf (fun x6 hx_ hf => ?_)
    obtain ⟨x8, w7, hc_, hf⟩ := zB2_e hf
    obtain ⟨hi_, hc_⟩ := zV_e hc_
    refine j_callV (pc := 64) hX (ci := 24) mt_J16_equals q1892 q1893 q1894 hi_ ⟨_, rfl, rfl⟩ [vA x6] rfl rfl (Nat.le_of_ble_eq_true rfl) (by decide) dX1_join_64 (k_J16_equals _ _ hc_) ?_
    refine j_if_eq (pc := 67) hX 137 dX1_join_67 rfl hf (fun h_ hf => ?_) (fun h_ hf => ?_)
    · refine j_fg [0, 5] [none, some (vL a1), none, some (vL a2), none, none, some (vI (-1 : Int32))] rfl ?_
      simp only [Option.some.injEq, Prod.mk.injEq] at hf
      obtain ⟨rfl, rfl⟩ := hf
      exact kj11
    · refine j_iconst (pc := 70) hX (0 : Int32) dX1_join_70 rfl ?_
      refine j_istore (pc := 71) hX dX1_join_71 (by decide) [some (vA a0), some (vL a1), none, some (vL a2), none, some (vA a0), some (vI (0 : Int32))] rfl ?_
      refine j_goto (pc := 73) hX 137 dX1_join_73 rfl ?_
      refine j_fg [0, 5] [none, some (vL a1), none, some (vL a2), none, none, some (vI (0 : Int32))] rfl ?_
      cases hf
      exact kj11
  rw [if_neg h_3444122] at hf
  by_cases h_103901296 : x2 = (103901296 : Int32)
  · rw [if_pos h_103901296] at hf
    refine j_lsw (pc := 11) hX 76 dX1_join_11 (by decide) (by first | (rw [h_103901296]; done) | (rw [h_103901296]; rfl)) rfl ?_
    refine j_aload (pc := 76) hX dX1_join_76 rfl ?_
    refine j_ldcS (pc := 78) hX 5 rfl dX1_join_78 hf (fun x9 hx_ hf => ?_)
    obtain ⟨x11, w10, hc_, hf⟩ := zB2_e hf
    obtain ⟨hi_, hc_⟩ := zV_e hc_
    refine j_callV (pc := 80) hX (ci := 24) mt_J16_equals q1892 q1893 q1894 hi_ ⟨_, rfl, rfl⟩ [vA x9] rfl rfl (Nat.le_of_ble_eq_true rfl) (by decide) dX1_join_80 (k_J16_equals _ _ hc_) ?_
    refine j_if_eq (pc := 83) hX 137 dX1_join_83 rfl hf (fun h_ hf => ?_) (fun h_ hf => ?_)
    · refine j_fg [0, 5] [none, some (vL a1), none, some (vL a2), none, none, some (vI (-1 : Int32))] rfl ?_
      simp only [Option.some.injEq, Prod.mk.injEq] at hf
      obtain ⟨rfl, rfl⟩ := hf
      exact kj11
    · refine j_iconst (pc := 86) hX (1 : Int32) dX1_join_86 rfl ?_
      refine j_istore (pc := 87) hX dX1_join_87 (by decide) [some (vA a0), some (vL a1), none, some (vL a2), none, some (vA a0), some (vI (1 : Int32))] rfl ?_
      refine j_goto (pc := 89) hX 137 dX1_join_89 rfl ?_
      refine j_fg [0, 5] [none, some (vL a1), none, some (vL a2), none, none, some (vI (1 : Int32))] rfl ?_
      cases hf
      exact kj11
  rw [if_neg h_103901296] at hf
  by_cases h_110364486 : x2 = (110364486 : Int32)
  · rw [if_pos h_110364486] at hf
    refine j_lsw (pc := 11) hX 92 dX1_join_11 (by decide) (by first | (rw [h_110364486]; done) | (rw [h_110364486]; rfl)) rfl ?_
    refine j_aload (pc := 92) hX dX1_join_92 rfl ?_
    refine j_ldcS (pc := 94) hX 6 rfl dX1_join_94 hf (fun x12 hx_ hf => ?_)
    obtain ⟨x14, w13, hc_, hf⟩ := zB2_e hf
    obtain ⟨hi_, hc_⟩ := zV_e hc_
    refine j_callV (pc := 96) hX (ci := 24) mt_J16_equals q1892 q1893 q1894 hi_ ⟨_, rfl, rfl⟩ [vA x12] rfl rfl (Nat.le_of_ble_eq_true rfl) (by decide) dX1_join_96 (k_J16_equals _ _ hc_) ?_
    refine j_if_eq (pc := 99) hX 137 dX1_join_99 rfl hf (fun h_ hf => ?_) (fun h_ hf => ?_)
    · refine j_fg [0, 5] [none, some (vL a1), none, some (vL a2), none, none, some (vI (-1 : Int32))] rfl ?_
      simp only [Option.some.injEq, Prod.mk.injEq] at hf
      obtain ⟨rfl, rfl⟩ := hf
      exact kj11
    · refine j_iconst (pc := 102) hX (2 : Int32) dX1_join_102 rfl ?_
      refine j_istore (pc := 103) hX dX1_join_103 (by decide) [some (vA a0), some (vL a1), none, some (vL a2), none, some (vA a0), some (vI (2 : Int32))] rfl ?_
      refine j_goto (pc := 105) hX 137 dX1_join_105 rfl ?_
      refine j_fg [0, 5] [none, some (vL a1), none, some (vL a2), none, none, some (vI (2 : Int32))] rfl ?_
      cases hf
      exact kj11
  rw [if_neg h_110364486] at hf
  by_cases h_437442764 : x2 = (437442764 : Int32)
  · rw [if_pos h_437442764] at hf
    refine j_lsw (pc := 11) hX 108 dX1_join_11 (by decide) (by first | (rw [h_437442764]; done) | (rw [h_437442764]; rfl)) rfl ?_
    refine j_aload (pc := 108) hX dX1_join_108 rfl ?_
    refine j_ldcS (pc := 110) hX 7 rfl dX1_join_110 hf (fun x15 hx_ hf => ?_)
    obtain ⟨x17, w16, hc_, hf⟩ := zB2_e hf
    obtain ⟨hi_, hc_⟩ := zV_e hc_
    refine j_callV (pc := 112) hX (ci := 24) mt_J16_equals q1892 q1893 q1894 hi_ ⟨_, rfl, rfl⟩ [vA x15] rfl rfl (Nat.le_of_ble_eq_true rfl) (by decide) dX1_join_112 (k_J16_equals _ _ hc_) ?_
    refine j_if_eq (pc := 115) hX 137 dX1_join_115 rfl hf (fun h_ hf => ?_) (fun h_ hf => ?_)
    · refine j_fg [0, 5] [none, some (vL a1), none, some (vL a2), none, none, some (vI (-1 : Int32))] rfl ?_
      simp only [Option.some.injEq, Prod.mk.injEq] at hf
      obtain ⟨rfl, rfl⟩ := hf
      exact kj11
    · refine j_iconst (pc := 118) hX (3 : Int32) dX1_join_118 rfl ?_
      refine j_istore (pc := 119) hX dX1_join_119 (by decide) [some (vA a0), some (vL a1), none, some (vL a2), none, some (vA a0), some (vI (3 : Int32))] rfl ?_
      refine j_goto (pc := 121) hX 137 dX1_join_121 rfl ?_
      refine j_fg [0, 5] [none, some (vL a1), none, some (vL a2), none, none, some (vI (3 : Int32))] rfl ?_
      cases hf
      exact kj11
  rw [if_neg h_437442764] at hf
  refine j_lsw (pc := 11) hX 137 dX1_join_11 (by decide) ((lv_osw (a := -1106203642) h_m1106203642 (by decide +kernel)).trans ((lv_osw (a := 3444122) h_3444122 (by decide +kernel)).trans ((lv_osw (a := 103901296) h_103901296 (by decide +kernel)).trans ((lv_osw (a := 110364486) h_110364486 (by decide +kernel)).trans ((lv_osw (a := 437442764) h_437442764 (by decide +kernel)).trans rfl))))) rfl ?_
  refine j_fg [0, 5] [none, some (vL a1), none, some (vL a2), none, none, some (vI (-1 : Int32))] rfl ?_
  simp only [Option.some.injEq, Prod.mk.injEq] at hf
  obtain ⟨rfl, rfl⟩ := hf
  exact kj11
def f_X12_value_L6b (n : Nat) (c0 : Option Nat) (c1 : Int64) (c3 : Int64) (c5 : Option Nat) (c6 : Int32) (c7 : Option Nat) (rec : Int32 → Int32 → zWd → Option (zWd)) (v8 : Int32) (v9 : Int32) (w : zWd) : Option (zWd) :=
  (gA w 11 0 c0).bind fun x1 =>
  zB2 (zV (isC w 18 x1) (f_J2_size n x1 w)) fun x3 w2 =>
  if x3 ≤ v9 then
    some w2
  else
    (gA w2 11 0 c0).bind fun x4 =>
    zB2 (zV (isC w2 18 x4) (f_J2_get n x4 v9 w2)) fun x6 w5 =>
    (cK w5 [8, 9, 10] x6).bind fun _ =>
    (iO w5 10 x6).bind fun x7 =>
    zB2 (
      if x7 = (0 : Int32) then
        (iO w5 9 x6).bind fun x8 =>
        if x8 = (0 : Int32) then
          (iO w5 8 x6).bind fun x9 =>
          if x9 = (0 : Int32) then
            (iO w5 8 x6).bind fun x10 =>
            if x10 = (0 : Int32) then
              some (v8, w5)
            else
              (cK w5 [8] x6).bind fun _ =>
              zB2 (zV (isC w5 8 x6) (f_X9_what n x6 w5)) fun x12 w11 =>
              (
                if x12 = (0 : Int32) then
                  some c1
                else
                  some c3
                ).bind fun x13 =>
              zB2 (f_X1_bounded n x13 w11) fun x15 w14 =>
              (sL w14 c5 v8 x15).bind fun w16 =>
              some ((v8 + (1)), w16)
          else
            (cK w5 [8] x6).bind fun _ =>
            zB2 (zV (isC w5 8 x6) (f_X9_what n x6 w5)) fun x18 w17 =>
            if x18 < (4 : Int32) then
              (iO w17 8 x6).bind fun x19 =>
              if x19 = (0 : Int32) then
                some (v8, w17)
              else
                (cK w17 [8] x6).bind fun _ =>
                zB2 (zV (isC w17 8 x6) (f_X9_what n x6 w17)) fun x21 w20 =>
                (
                  if x21 = (0 : Int32) then
                    some c1
                  else
                    some c3
                  ).bind fun x22 =>
                zB2 (f_X1_bounded n x22 w20) fun x24 w23 =>
                (sL w23 c5 v8 x24).bind fun w25 =>
                some ((v8 + (1)), w25)
            else
              zB2 (zV (isC w17 8 x6) (f_X9_what n x6 w17)) fun x27 w26 =>
              zB2 (f_X1_nameOf n x27 w26) fun x29 w28 =>
              (aL w28 c5 ((v8 + (-1)) - (1 : Int32))).bind fun x30 =>
              (aL w28 c5 (v8 + (-1))).bind fun x31 =>
              zB2 (f_X1_join n x29 x30 x31 w28) fun x33 w32 =>
              zB2 (f_X1_bounded n x33 w32) fun x35 w34 =>
              (sL w34 c5 ((v8 + (-1)) - (1 : Int32)) x35).bind fun w36 =>
              some ((v8 + (-1)), w36)
        else
          (cK w5 [9] x6).bind fun _ =>
          zB2 (zV (isC w5 9 x6) (f_X10_element n x6 w5)) fun x38 w37 =>
          (aL w37 c7 (c6 + x38)).bind fun x39 =>
          (sL w37 c5 v8 x39).bind fun w40 =>
          some ((v8 + (1)), w40)
      else
        (cK w5 [10] x6).bind fun _ =>
        zB2 (zV (isC w5 10 x6) (f_X11_number n x6 w5)) fun x42 w41 =>
        zB2 (f_X1_bounded n (Int32.toInt64 x42) w41) fun x44 w43 =>
        (sL w43 c5 v8 x44).bind fun w45 =>
        some ((v8 + (1)), w45)
      ) fun x46 w47 =>
    rec x46 (v9 + (1)) w47
def f_X12_value_L6 (n : Nat) (c0 : Option Nat) (c1 : Int64) (c3 : Int64) (c5 : Option Nat) (c6 : Int32) (c7 : Option Nat) : Nat → Int32 → Int32 → zWd → Option (zWd)
  | 0, _, _, _ => none
  | k + 1, v8, v9, w => f_X12_value_L6b n c0 c1 c3 c5 c6 c7 (f_X12_value_L6 n c0 c1 c3 c5 c6 c7 k) v8 v9 w
def f_X12_value (n : Nat) (a0 : Option Nat) (a1 : Int64) (a2 : Int64) (a3 : Option Nat) (a4 : Int32) (a5 : Option Nat) (w : zWd) : Option (Int64 × zWd) :=
  (f_X12_value_L6 n a0 a1 a2 a3 a4 a5 n (0 : Int32) (0 : Int32) w).bind fun w48 =>
  (aL w48 a3 (0 : Int32)).bind fun x49 =>
  some (x49, w48)
theorem mt_X12_value : zMt yX12_value cX12_value 15 (some .long) 5 := ⟨q1614, q107, ⟨by decide, by decide⟩, by decide +kernel, by decide⟩
set_option maxHeartbeats 4000000 in
theorem lp_X12_value_L6 {X : zX} (hX : zGd X RX12 cX12_value 15 (some .long) 4) (n : Nat) (c0 : Option Nat) (c1 : Int64) (c3 : Int64) (c5 : Option Nat) (c6 : Int32) (c7 : Option Nat) : ∀ (k : Nat) (v8 : Int32) (v9 : Int32) (w : zWd) (w9 : zWd) , f_X12_value_L6 n c0 c1 c3 c5 c6 c7 k v8 v9 w = some w9 → zJ X 216 [some (vA c0), some (vL c1), none, some (vL c3), none, some (vA c5), some (vI c6), some (vA c7), none, none, none, none, none, none, none] [] w9 → zJ X 6 [some (vA c0), some (vL c1), none, some (vL c3), none, some (vA c5), some (vI c6), some (vA c7), some (vI v8), some (vI v9), none, none, none, none, none] [] w := by
  intro k
  induction k with
  | zero => intro v8 v9 w w9 hf _; exact nomatch (show (none : Option (zWd)) = _ from hf)
  | succ k ih =>
    intro v8 v9 w w9 hf kx
    have hf : f_X12_value_L6b n c0 c1 c3 c5 c6 c7 (f_X12_value_L6 n c0 c1 c3 c5 c6 c7 k) v8 v9 w = _ := hf
    unfold f_X12_value_L6b at hf
    refine j_iload (pc := 6) hX dX12_value_6 rfl ?_
    refine j_aload_n (pc := 8) hX dX12_value_8 rfl ?_
    refine j_getA (pc := 9) hX kX12 (k := 0) (Nat.le_of_ble_eq_true rfl) q1341 (Or.inl rfl) dX12_value_9 hf (fun x1 hx_ hf => ?_)
    obtain ⟨x3, w2, hc_, hf⟩ := zB2_e hf
    obtain ⟨hi_, hc_⟩ := zV_e hc_
    refine j_callF (pc := 12) hX (ci := 18) mt_J2_size q1402 q418 q416 (by decide +kernel) rfl hi_ ⟨_, rfl, rfl⟩ [] rfl rfl (Nat.le_of_ble_eq_true rfl) (by decide) dX12_value_12 (k_J2_size _ _ hc_) ?_
    refine j_icmp_ge (pc := 17) hX 216 dX12_value_17 rfl hf (fun h_ hf => ?_) (fun h_ hf => ?_)
    · refine j_fg [8, 9] [some (vA c0), some (vL c1), none, some (vL c3), none, some (vA c5), some (vI c6), some (vA c7), none, none, none, none, none, none, none] rfl ?_
      cases hf
      exact kx
    · refine j_aload_n (pc := 20) hX dX12_value_20 rfl ?_
      refine j_getA (pc := 21) hX kX12 (k := 0) (Nat.le_of_ble_eq_true rfl) q1341 (Or.inl rfl) dX12_value_21 hf (fun x4 hx_ hf => ?_)
      refine j_iload (pc := 24) hX dX12_value_24 rfl ?_
      obtain ⟨x6, w5, hc_, hf⟩ := zB2_e hf
      obtain ⟨hi_, hc_⟩ := zV_e hc_
      refine j_callF (pc := 26) hX (ci := 18) mt_J2_get q1404 q970 q968 (by decide +kernel) rfl hi_ ⟨_, rfl, rfl⟩ [vI v9] rfl rfl (Nat.le_of_ble_eq_true rfl) (by decide) dX12_value_26 (k_J2_get _ _ hc_) ?_
      refine j_cast (pc := 31) hX q1615 [8, 9, 10] (zC3 ⟨_, rfl, Or.inr q2788⟩ ⟨_, rfl, Or.inr q2787⟩ ⟨_, rfl, Or.inr q2789⟩) dX12_value_31 hf (fun hf => ?_)
      refine j_astore (pc := 34) hX dX12_value_34 (by decide) [some (vA c0), some (vL c1), none, some (vL c3), none, some (vA c5), some (vI c6), some (vA c7), some (vI v8), some (vI v9), some (vA x6), none, none, none, none] rfl ?_
      refine j_aload (pc := 36) hX dX12_value_36 rfl ?_
      refine j_inst (pc := 38) hX q1616 10 ⟨_, rfl, rfl⟩ dX12_value_38 hf (fun x7 hx_ hf => ?_)
      obtain ⟨x46, w47, hm_, hf⟩ := zB2_e hf
      have kj41 : zJ X 210 [some (vA c0), some (vL c1), none, some (vL c3), none, some (vA c5), some (vI c6), some (vA c7), some (vI x46), some (vI v9), none, none, none, none, none] [] w47 := by
        clear hm_
        refine j_iinc (pc := 210) hX (1) dX12_value_210 rfl rfl (by decide) [some (vA c0), some (vL c1), none, some (vL c3), none, some (vA c5), some (vI c6), some (vA c7), some (vI x46), some (vI (v9 + (1))), none, none, none, none, none] rfl ?_
        refine j_goto (pc := 213) hX 6 dX12_value_213 rfl ?_
        exact ih _ _ _ _ hf kx
      have hf := hm_
      refine j_if_eq (pc := 41) hX 71 dX12_value_41 rfl hf (fun h_ hf => ?_) (fun h_ hf => ?_)
      · refine j_aload (pc := 71) hX dX12_value_71 rfl ?_
        refine j_inst (pc := 73) hX q1405 9 ⟨_, rfl, rfl⟩ dX12_value_73 hf (fun x8 hx_ hf => ?_)
        refine j_if_eq (pc := 76) hX 108 dX12_value_76 rfl hf (fun h_ hf => ?_) (fun h_ hf => ?_)
        · refine j_aload (pc := 108) hX dX12_value_108 rfl ?_
          refine j_inst (pc := 110) hX q1626 8 ⟨_, rfl, rfl⟩ dX12_value_110 hf (fun x9 hx_ hf => ?_)
          refine j_if_eq (pc := 113) hX 171 dX12_value_113 rfl hf (fun h_ hf => ?_) (fun h_ hf => ?_)
          · refine j_aload (pc := 171) hX dX12_value_171 rfl ?_
            refine j_inst (pc := 173) hX q1626 8 ⟨_, rfl, rfl⟩ dX12_value_173 hf (fun x10 hx_ hf => ?_)
            refine j_if_eq (pc := 176) hX 210 dX12_value_176 rfl hf (fun h_ hf => ?_) (fun h_ hf => ?_)
            · refine j_fg [10] [some (vA c0), some (vL c1), none, some (vL c3), none, some (vA c5), some (vI c6), some (vA c7), some (vI v8), some (vI v9), none, none, none, none, none] rfl ?_
              cases hf
              exact kj41
            · refine j_aload (pc := 179) hX dX12_value_179 rfl ?_
              refine j_cast (pc := 181) hX q1626 [8] (zC1 ⟨_, rfl, Or.inl rfl⟩) dX12_value_181 hf (fun hf => ?_)
              refine j_astore (pc := 184) hX dX12_value_184 (by decide) [some (vA c0), some (vL c1), none, some (vL c3), none, some (vA c5), some (vI c6), some (vA c7), some (vI v8), some (vI v9), some (vA x6), none, none, none, some (vA x6)] rfl ?_
              refine j_aload (pc := 186) hX dX12_value_186 rfl ?_
              refine j_iload (pc := 188) hX dX12_value_188 rfl ?_
              refine j_iinc (pc := 190) hX (1) dX12_value_190 rfl rfl (by decide) [some (vA c0), some (vL c1), none, some (vL c3), none, some (vA c5), some (vI c6), some (vA c7), some (vI (v8 + (1))), some (vI v9), some (vA x6), none, none, none, some (vA x6)] rfl ?_
              refine j_aload (pc := 193) hX dX12_value_193 rfl ?_
              obtain ⟨x12, w11, hc_, hf⟩ := zB2_e hf
              obtain ⟨hi_, hc_⟩ := zV_e hc_
              refine j_callV (pc := 195) hX (ci := 8) mt_X9_what q1627 q1297 q1298 hi_ ⟨_, rfl, rfl⟩ [] rfl rfl (Nat.le_of_ble_eq_true rfl) (by decide) dX12_value_195 (k_X9_what _ _ hc_) ?_
              obtain ⟨x13, hm_, hf⟩ := zob hf
              have kj198 : zJ X 206 [some (vA c0), some (vL c1), none, some (vL c3), none, some (vA c5), some (vI c6), some (vA c7), some (vI (v8 + (1))), some (vI v9), none, none, none, none, none] [vL x13, vI v8, vA c5] w11 := by
                clear hm_
                obtain ⟨x15, w14, hc_, hf⟩ := zB2_e hf
                refine j_callSN (pc := 206) hX mt_X1_bounded q1621 q1622 [vL x13] rfl rfl (Nat.le_of_ble_eq_true rfl) (by decide) dX12_value_206 (k_X1_bounded _ _ hc_) ?_
                refine j_lastore (pc := 209) hX dX12_value_209 hf (fun w16 hf => ?_)
                cases hf
                exact kj41
              have hf := hm_
              refine j_if_ne (pc := 198) hX 205 dX12_value_198 rfl hf (fun h_ hf => ?_) (fun h_ hf => ?_)
              · refine j_lload_n (pc := 205) hX dX12_value_205 rfl ?_
                refine j_fg [10, 14] [some (vA c0), some (vL c1), none, some (vL c3), none, some (vA c5), some (vI c6), some (vA c7), some (vI (v8 + (1))), some (vI v9), none, none, none, none, none] rfl ?_
                cases hf
                exact kj198
              · refine j_lload_n (pc := 201) hX dX12_value_201 rfl ?_
                refine j_goto (pc := 202) hX 206 dX12_value_202 rfl ?_
                refine j_fg [10, 14] [some (vA c0), some (vL c1), none, some (vL c3), none, some (vA c5), some (vI c6), some (vA c7), some (vI (v8 + (1))), some (vI v9), none, none, none, none, none] rfl ?_
                cases hf
                exact kj198
          · refine j_aload (pc := 116) hX dX12_value_116 rfl ?_
            refine j_cast (pc := 118) hX q1626 [8] (zC1 ⟨_, rfl, Or.inl rfl⟩) dX12_value_118 hf (fun hf => ?_)
            refine j_astore (pc := 121) hX dX12_value_121 (by decide) [some (vA c0), some (vL c1), none, some (vL c3), none, some (vA c5), some (vI c6), some (vA c7), some (vI v8), some (vI v9), some (vA x6), none, none, some (vA x6), none] rfl ?_
            refine j_aload (pc := 123) hX dX12_value_123 rfl ?_
            obtain ⟨x18, w17, hc_, hf⟩ := zB2_e hf
            obtain ⟨hi_, hc_⟩ := zV_e hc_
            refine j_callV (pc := 125) hX (ci := 8) mt_X9_what q1627 q1297 q1298 hi_ ⟨_, rfl, rfl⟩ [] rfl rfl (Nat.le_of_ble_eq_true rfl) (by decide) dX12_value_125 (k_X9_what _ _ hc_) ?_
            refine j_iconst (pc := 128) hX (4 : Int32) dX12_value_128 rfl ?_
            refine j_icmp_lt (pc := 129) hX 171 dX12_value_129 rfl hf (fun h_ hf => ?_) (fun h_ hf => ?_)
            · refine j_aload (pc := 171) hX dX12_value_171 rfl ?_
              refine j_inst (pc := 173) hX q1626 8 ⟨_, rfl, rfl⟩ dX12_value_173 hf (fun x19 hx_ hf => ?_)
              refine j_if_eq (pc := 176) hX 210 dX12_value_176 rfl hf (fun h_ hf => ?_) (fun h_ hf => ?_)
              · refine j_fg [10, 13] [some (vA c0), some (vL c1), none, some (vL c3), none, some (vA c5), some (vI c6), some (vA c7), some (vI v8), some (vI v9), none, none, none, none, none] rfl ?_
                cases hf
                exact kj41
              · refine j_aload (pc := 179) hX dX12_value_179 rfl ?_
                refine j_cast (pc := 181) hX q1626 [8] (zC1 ⟨_, rfl, Or.inl rfl⟩) dX12_value_181 hf (fun hf => ?_)
                refine j_astore (pc := 184) hX dX12_value_184 (by decide) [some (vA c0), some (vL c1), none, some (vL c3), none, some (vA c5), some (vI c6), some (vA c7), some (vI v8), some (vI v9), some (vA x6), none, none, some (vA x6), some (vA x6)] rfl ?_
                refine j_aload (pc := 186) hX dX12_value_186 rfl ?_
                refine j_iload (pc := 188) hX dX12_value_188 rfl ?_
                refine j_iinc (pc := 190) hX (1) dX12_value_190 rfl rfl (by decide) [some (vA c0), some (vL c1), none, some (vL c3), none, some (vA c5), some (vI c6), some (vA c7), some (vI (v8 + (1))), some (vI v9), some (vA x6), none, none, some (vA x6), some (vA x6)] rfl ?_
                refine j_aload (pc := 193) hX dX12_value_193 rfl ?_
                obtain ⟨x21, w20, hc_, hf⟩ := zB2_e hf
                obtain ⟨hi_, hc_⟩ := zV_e hc_
                refine j_callV (pc := 195) hX (ci := 8) mt_X9_what q1627 q1297 q1298 hi_ ⟨_, rfl, rfl⟩ [] rfl rfl (Nat.le_of_ble_eq_true rfl) (by decide) dX12_value_195 (k_X9_what _ _ hc_) ?_
                obtain ⟨x22, hm_, hf⟩ := zob hf
                have kj198 : zJ X 206 [some (vA c0), some (vL c1), none, some (vL c3), none, some (vA c5), some (vI c6), some (vA c7), some (vI (v8 + (1))), some (vI v9), none, none, none, none, none] [vL x22, vI v8, vA c5] w20 := by
                  clear hm_
                  obtain ⟨x24, w23, hc_, hf⟩ := zB2_e hf
                  refine j_callSN (pc := 206) hX mt_X1_bounded q1621 q1622 [vL x22] rfl rfl (Nat.le_of_ble_eq_true rfl) (by decide) dX12_value_206 (k_X1_bounded _ _ hc_) ?_
                  refine j_lastore (pc := 209) hX dX12_value_209 hf (fun w25 hf => ?_)
                  cases hf
                  exact kj41
                have hf := hm_
                refine j_if_ne (pc := 198) hX 205 dX12_value_198 rfl hf (fun h_ hf => ?_) (fun h_ hf => ?_)
                · refine j_lload_n (pc := 205) hX dX12_value_205 rfl ?_
                  refine j_fg [10, 13, 14] [some (vA c0), some (vL c1), none, some (vL c3), none, some (vA c5), some (vI c6), some (vA c7), some (vI (v8 + (1))), some (vI v9), none, none, none, none, none] rfl ?_
                  cases hf
                  exact kj198
                · refine j_lload_n (pc := 201) hX dX12_value_201 rfl ?_
                  refine j_goto (pc := 202) hX 206 dX12_value_202 rfl ?_
                  refine j_fg [10, 13, 14] [some (vA c0), some (vL c1), none, some (vL c3), none, some (vA c5), some (vI c6), some (vA c7), some (vI (v8 + (1))), some (vI v9), none, none, none, none, none] rfl ?_
                  cases hf
                  exact kj198
            · refine j_iinc (pc := 132) hX (-1) dX12_value_132 rfl rfl (by decide) [some (vA c0), some (vL c1), none, some (vL c3), none, some (vA c5), some (vI c6), some (vA c7), some (vI (v8 + (-1))), some (vI v9), some (vA x6), none, none, some (vA x6), none] rfl ?_
              refine j_aload (pc := 135) hX dX12_value_135 rfl ?_
              refine j_iload (pc := 137) hX dX12_value_137 rfl ?_
              refine j_iconst (pc := 139) hX (1 : Int32) dX12_value_139 rfl ?_
              refine j_isub (pc := 140) hX dX12_value_140 ?_
              refine j_aload (pc := 141) hX dX12_value_141 rfl ?_
              obtain ⟨x27, w26, hc_, hf⟩ := zB2_e hf
              obtain ⟨hi_, hc_⟩ := zV_e hc_
              refine j_callV (pc := 143) hX (ci := 8) mt_X9_what q1627 q1297 q1298 hi_ ⟨_, rfl, rfl⟩ [] rfl rfl (Nat.le_of_ble_eq_true rfl) (by decide) dX12_value_143 (k_X9_what _ _ hc_) ?_
              obtain ⟨x29, w28, hc_, hf⟩ := zB2_e hf
              refine j_callSN (pc := 146) hX mt_X1_nameOf q1628 q1629 [vI x27] rfl rfl (Nat.le_of_ble_eq_true rfl) (by decide) dX12_value_146 (k_X1_nameOf _ _ hc_) ?_
              refine j_aload (pc := 149) hX dX12_value_149 rfl ?_
              refine j_iload (pc := 151) hX dX12_value_151 rfl ?_
              refine j_iconst (pc := 153) hX (1 : Int32) dX12_value_153 rfl ?_
              refine j_isub (pc := 154) hX dX12_value_154 ?_
              refine j_laload (pc := 155) hX dX12_value_155 hf (fun x30 hx_ hf => ?_)
              refine j_aload (pc := 156) hX dX12_value_156 rfl ?_
              refine j_iload (pc := 158) hX dX12_value_158 rfl ?_
              refine j_laload (pc := 160) hX dX12_value_160 hf (fun x31 hx_ hf => ?_)
              obtain ⟨x33, w32, hc_, hf⟩ := zB2_e hf
              refine j_callSN (pc := 161) hX mt_X1_join q1637 q1638 [vA x29, vL x30, vL x31] rfl rfl (Nat.le_of_ble_eq_true rfl) (by decide) dX12_value_161 (k_X1_join _ _ hc_) ?_
              obtain ⟨x35, w34, hc_, hf⟩ := zB2_e hf
              refine j_callSN (pc := 164) hX mt_X1_bounded q1621 q1622 [vL x33] rfl rfl (Nat.le_of_ble_eq_true rfl) (by decide) dX12_value_164 (k_X1_bounded _ _ hc_) ?_
              refine j_lastore (pc := 167) hX dX12_value_167 hf (fun w36 hf => ?_)
              refine j_goto (pc := 168) hX 210 dX12_value_168 rfl ?_
              refine j_fg [10, 13] [some (vA c0), some (vL c1), none, some (vL c3), none, some (vA c5), some (vI c6), some (vA c7), some (vI (v8 + (-1))), some (vI v9), none, none, none, none, none] rfl ?_
              simp only [Option.some.injEq, Prod.mk.injEq] at hf
              obtain ⟨rfl, rfl⟩ := hf
              exact kj41
        · refine j_aload (pc := 79) hX dX12_value_79 rfl ?_
          refine j_cast (pc := 81) hX q1405 [9] (zC1 ⟨_, rfl, Or.inl rfl⟩) dX12_value_81 hf (fun hf => ?_)
          refine j_astore (pc := 84) hX dX12_value_84 (by decide) [some (vA c0), some (vL c1), none, some (vL c3), none, some (vA c5), some (vI c6), some (vA c7), some (vI v8), some (vI v9), some (vA x6), none, some (vA x6), none, none] rfl ?_
          refine j_aload (pc := 86) hX dX12_value_86 rfl ?_
          refine j_iload (pc := 88) hX dX12_value_88 rfl ?_
          refine j_iinc (pc := 90) hX (1) dX12_value_90 rfl rfl (by decide) [some (vA c0), some (vL c1), none, some (vL c3), none, some (vA c5), some (vI c6), some (vA c7), some (vI (v8 + (1))), some (vI v9), some (vA x6), none, some (vA x6), none, none] rfl ?_
          refine j_aload (pc := 93) hX dX12_value_93 rfl ?_
          refine j_iload (pc := 95) hX dX12_value_95 rfl ?_
          refine j_aload (pc := 97) hX dX12_value_97 rfl ?_
          obtain ⟨x38, w37, hc_, hf⟩ := zB2_e hf
          obtain ⟨hi_, hc_⟩ := zV_e hc_
          refine j_callV (pc := 99) hX (ci := 9) mt_X10_element q1406 q1407 q1408 hi_ ⟨_, rfl, rfl⟩ [] rfl rfl (Nat.le_of_ble_eq_true rfl) (by decide) dX12_value_99 (k_X10_element _ _ hc_) ?_
          refine j_iadd (pc := 102) hX dX12_value_102 ?_
          refine j_laload (pc := 103) hX dX12_value_103 hf (fun x39 hx_ hf => ?_)
          refine j_lastore (pc := 104) hX dX12_value_104 hf (fun w40 hf => ?_)
          refine j_goto (pc := 105) hX 210 dX12_value_105 rfl ?_
          refine j_fg [10, 12] [some (vA c0), some (vL c1), none, some (vL c3), none, some (vA c5), some (vI c6), some (vA c7), some (vI (v8 + (1))), some (vI v9), none, none, none, none, none] rfl ?_
          cases hf
          exact kj41
      · refine j_aload (pc := 44) hX dX12_value_44 rfl ?_
        refine j_cast (pc := 46) hX q1616 [10] (zC1 ⟨_, rfl, Or.inl rfl⟩) dX12_value_46 hf (fun hf => ?_)
        refine j_astore (pc := 49) hX dX12_value_49 (by decide) [some (vA c0), some (vL c1), none, some (vL c3), none, some (vA c5), some (vI c6), some (vA c7), some (vI v8), some (vI v9), some (vA x6), some (vA x6), none, none, none] rfl ?_
        refine j_aload (pc := 51) hX dX12_value_51 rfl ?_
        refine j_iload (pc := 53) hX dX12_value_53 rfl ?_
        refine j_iinc (pc := 55) hX (1) dX12_value_55 rfl rfl (by decide) [some (vA c0), some (vL c1), none, some (vL c3), none, some (vA c5), some (vI c6), some (vA c7), some (vI (v8 + (1))), some (vI v9), some (vA x6), some (vA x6), none, none, none] rfl ?_
        refine j_aload (pc := 58) hX dX12_value_58 rfl ?_
        obtain ⟨x42, w41, hc_, hf⟩ := zB2_e hf
        obtain ⟨hi_, hc_⟩ := zV_e hc_
        refine j_callV (pc := 60) hX (ci := 10) mt_X11_number q1617 q1618 q1619 hi_ ⟨_, rfl, rfl⟩ [] rfl rfl (Nat.le_of_ble_eq_true rfl) (by decide) dX12_value_60 (k_X11_number _ _ hc_) ?_
        refine j_i2l (pc := 63) hX dX12_value_63 ?_
        obtain ⟨x44, w43, hc_, hf⟩ := zB2_e hf
        refine j_callSN (pc := 64) hX mt_X1_bounded q1621 q1622 [vL (Int32.toInt64 x42)] rfl rfl (Nat.le_of_ble_eq_true rfl) (by decide) dX12_value_64 (k_X1_bounded _ _ hc_) ?_
        refine j_lastore (pc := 67) hX dX12_value_67 hf (fun w45 hf => ?_)
        refine j_goto (pc := 68) hX 210 dX12_value_68 rfl ?_
        refine j_fg [10, 11] [some (vA c0), some (vL c1), none, some (vL c3), none, some (vA c5), some (vI c6), some (vA c7), some (vI (v8 + (1))), some (vI v9), none, none, none, none, none] rfl ?_
        cases hf
        exact kj41
set_option maxHeartbeats 4000000 in
theorem k_X12_value {l : Launch} {n : Nat} {a0 : Option Nat} {a1 : Int64} {a2 : Int64} {a3 : Option Nat} {a4 : Int32} {a5 : Option Nat} {w : zWd} (r : Int64) (w9 : zWd) (hf : f_X12_value n a0 a1 a2 a3 a4 a5 w = some (r, w9)) : zCt l yX12_value cX12_value 15 (some .long) 4 [vA a0, vL a1, vL a2, vA a3, vI a4, vA a5] w (.inr (some (vL r), w9)) := by
  refine zCt_of (lv := [some (vA a0), some (vL a1), none, some (vL a2), none, some (vA a3), some (vI a4), some (vA a5), none, none, none, none, none, none, none]) (by decide +kernel) 7 rfl rfl ?_
  intro X hX hI hN hQ
  have hX : zGd X RX12 cX12_value 15 (some .long) 4 := hX
  unfold f_X12_value at hf
  refine j_iconst (pc := 0) hX (0 : Int32) dX12_value_0 rfl ?_
  refine j_istore (pc := 1) hX dX12_value_1 (by decide) [some (vA a0), some (vL a1), none, some (vL a2), none, some (vA a3), some (vI a4), some (vA a5), some (vI (0 : Int32)), none, none, none, none, none, none] rfl ?_
  refine j_iconst (pc := 3) hX (0 : Int32) dX12_value_3 rfl ?_
  refine j_istore (pc := 4) hX dX12_value_4 (by decide) [some (vA a0), some (vL a1), none, some (vL a2), none, some (vA a3), some (vI a4), some (vA a5), some (vI (0 : Int32)), some (vI (0 : Int32)), none, none, none, none, none] rfl ?_
  obtain ⟨w48, hm_, hf⟩ := zob hf
  refine lp_X12_value_L6 hX n _ _ _ _ _ _ _ _ _ _ _ hm_ ?_
  refine j_aload (pc := 216) hX dX12_value_216 rfl ?_
  refine j_iconst (pc := 218) hX (0 : Int32) dX12_value_218 rfl ?_
  refine j_laload (pc := 219) hX dX12_value_219 hf (fun x49 hx_ hf => ?_)
  exact j_lreturn (pc := 220) hX hQ (by cases hf; rfl) dX12_value_220
def f_X14_findPlain_L131b (n : Nat) (c0 : Option Nat) (c1 : Int32) (c2 : Option Nat) (c3 : Option Nat) (c4 : Int64) (c8 : Int32) (c9 : Int32) (c10 : Option Nat) (w : zWd) (rec : Int64 → Int32 → Option (Int64)) (v6 : Int64) (v13 : Int32) : Option (Int64) :=
  if ((c1 + (1 : Int32)) * (30 : Int32)) ≤ v13 then
    some v6
  else
    (gA w 4 9 c10).bind fun x23 =>
    (aI w x23 v13).bind fun x24 =>
    rec (v6 + (Int32.toInt64 x24)) (v13 + (1))
def f_X14_findPlain_L131 (n : Nat) (c0 : Option Nat) (c1 : Int32) (c2 : Option Nat) (c3 : Option Nat) (c4 : Int64) (c8 : Int32) (c9 : Int32) (c10 : Option Nat) (w : zWd) : Nat → Int64 → Int32 → Option (Int64)
  | 0, _, _ => none
  | k + 1, v6, v13 => f_X14_findPlain_L131b n c0 c1 c2 c3 c4 c8 c9 c10 w (f_X14_findPlain_L131 n c0 c1 c2 c3 c4 c8 c9 c10 w k) v6 v13
def f_X14_findPlain_L12b (n : Nat) (c0 : Option Nat) (c1 : Int32) (c2 : Option Nat) (c3 : Option Nat) (rec : Int64 → Int64 → Int32 → Int32 → zWd → Option (Int64 × Int64 × Int32 × zWd)) (v4 : Int64) (v6 : Int64) (v8 : Int32) (v9 : Int32) (w : zWd) : Option (Int64 × Int64 × Int32 × zWd) :=
  (gA w 13 17 c0).bind fun x1 =>
  (gA w 0 0 x1).bind fun x2 =>
  zB2 (zV (isC w 18 x2) (f_J2_size n x2 w)) fun x4 w3 =>
  if x4 ≤ v9 then
    some (v4, v6, v8, w3)
  else
    (gA w3 13 17 c0).bind fun x5 =>
    (gA w3 0 0 x5).bind fun x6 =>
    zB2 (zV (isC w3 18 x6) (f_J2_get n x6 v9 w3)) fun x8 w7 =>
    (cK w7 [4] x8).bind fun _ =>
    (gI w7 4 0 x8).bind fun x9 =>
    (gI w7 13 0 c0).bind fun x10 =>
    zB4 (
      if x9 = x10 then
        (gA w7 13 17 c0).bind fun x11 =>
        zB2 (zV (isC w7 0 x11) (f_X1_baseOf n x11 x8 c1 w7)) fun x13 w12 =>
        (gA w12 13 1 c0).bind fun x14 =>
        (gI w12 4 1 x8).bind fun x15 =>
        (aL w12 x14 ((c1 * (3 : Int32)) + x15)).bind fun x16 =>
        (sL w12 x14 ((c1 * (3 : Int32)) + x15) (x16 + x13)).bind fun w17 =>
        zB2 (
          if v8 = (-1 : Int32) then
            zB2 (zV (isC w17 4 x8) (f_X5_hasDayIn n x8 c1 w17)) fun x19 w18 =>
            if x19 = (0 : Int32) then
              some (v8, w18)
            else
              (gI w18 4 1 x8).bind fun x20 =>
              some (x20, w18)
          else
            some (v8, w17)
          ) fun x21 w22 =>
        (f_X14_findPlain_L131 n c0 c1 c2 c3 (v4 + x13) x21 v9 x8 w22 n v6 (c1 * (30 : Int32))).bind fun x25 =>
        some ((v4 + x13), x25, x21, w22)
      else
        some (v4, v6, v8, w7)
      ) fun x26 x27 x28 w29 =>
    rec x26 x27 x28 (v9 + (1)) w29
def f_X14_findPlain_L12 (n : Nat) (c0 : Option Nat) (c1 : Int32) (c2 : Option Nat) (c3 : Option Nat) : Nat → Int64 → Int64 → Int32 → Int32 → zWd → Option (Int64 × Int64 × Int32 × zWd)
  | 0, _, _, _, _, _ => none
  | k + 1, v4, v6, v8, v9, w => f_X14_findPlain_L12b n c0 c1 c2 c3 (f_X14_findPlain_L12 n c0 c1 c2 c3 k) v4 v6 v8 v9 w
def f_X14_findPlain_L189b (n : Nat) (c0 : Option Nat) (c1 : Int32) (c2 : Option Nat) (c3 : Option Nat) (c4 : Int64) (c6 : Int64) (c9 : Int32) (rec : Int32 → zWd → Option (zWd)) (v10 : Int32) (w : zWd) : Option (zWd) :=
  zB2 (zV (isC w 18 c2) (f_J2_size n c2 w)) fun x39 w38 =>
  if x39 ≤ v10 then
    some w38
  else
    zB2 (zV (isC w38 18 c2) (f_J2_get n c2 v10 w38)) fun x41 w40 =>
    (cK w40 [20] x41).bind fun _ =>
    zB2 (zV (isC w40 20 x41) (f_J10_intValue n x41 w40)) fun x43 w42 =>
    (gA w42 13 17 c0).bind fun x44 =>
    (gA w42 0 7 x44).bind fun x45 =>
    zB2 (zV (isC w42 18 x45) (f_J2_get n x45 x43 w42)) fun x47 w46 =>
    (cK w46 [11] x47).bind fun _ =>
    (gA w46 13 2 c0).bind fun x48 =>
    (gI w46 13 0 c0).bind fun x49 =>
    zB2 (zV (isC w46 11 x47) (f_X12_isFor n x47 x49 w46)) fun x51 w50 =>
    zB2 (
      if x51 = (0 : Int32) then
        some ((0 : Int64), w50)
      else
        (gA w50 13 2 c0).bind fun x52 =>
        zB2 (zV (isC w50 11 x47) (f_X12_value n x47 c4 (c6 / (60 : Int64)) c3 c9 x52 w50)) fun x54 w53 =>
        some (x54, w53)
      ) fun x55 w56 =>
    (sL w56 x48 (c9 + x43) x55).bind fun w57 =>
    (gA w57 13 1 c0).bind fun x58 =>
    (gA w57 13 3 c0).bind fun x59 =>
    (aI w57 x59 c1).bind fun x60 =>
    (aL w57 x58 ((c1 * (3 : Int32)) + x60)).bind fun x61 =>
    (gA w57 13 2 c0).bind fun x62 =>
    (aL w57 x62 (c9 + x43)).bind fun x63 =>
    (sL w57 x58 ((c1 * (3 : Int32)) + x60) (x61 + x63)).bind fun w64 =>
    rec (v10 + (1)) w64
def f_X14_findPlain_L189 (n : Nat) (c0 : Option Nat) (c1 : Int32) (c2 : Option Nat) (c3 : Option Nat) (c4 : Int64) (c6 : Int64) (c9 : Int32) : Nat → Int32 → zWd → Option (zWd)
  | 0, _, _ => none
  | k + 1, v10, w => f_X14_findPlain_L189b n c0 c1 c2 c3 c4 c6 c9 (f_X14_findPlain_L189 n c0 c1 c2 c3 c4 c6 c9 k) v10 w
def f_X14_findPlain (n : Nat) (a0 : Option Nat) (a1 : Int32) (a2 : Option Nat) (a3 : Option Nat) (w : zWd) : Option zWd :=
  zB4 (f_X14_findPlain_L12 n a0 a1 a2 a3 n (0 : Int64) (0 : Int64) (-1 : Int32) (0 : Int32) w) fun x30 x31 x32 w33 =>
  (gA w33 13 3 a0).bind fun x34 =>
  zB2 (f_J7_max n (0 : Int32) x32 w33) fun x36 w35 =>
  (sI w35 x34 a1 x36).bind fun w37 =>
  (f_X14_findPlain_L189 n a0 a1 a2 a3 x30 x31 (a1 * (6 : Int32)) n (0 : Int32) w37).bind fun w65 =>
  some w65
theorem mt_X14_findPlain : zMt yX14_findPlain cX14_findPlain 14 none 3 := ⟨q1591, q111, ⟨by decide, by decide⟩, by decide +kernel, by decide⟩
set_option maxHeartbeats 4000000 in
theorem lp_X14_findPlain_L131 {X : zX} (hX : zGd X RX14 cX14_findPlain 14 none 6) (n : Nat) (c0 : Option Nat) (c1 : Int32) (c2 : Option Nat) (c3 : Option Nat) (c4 : Int64) (c8 : Int32) (c9 : Int32) (c10 : Option Nat) (w : zWd) : ∀ (k : Nat) (v6 : Int64) (v13 : Int32) (o6 : Int64) , f_X14_findPlain_L131 n c0 c1 c2 c3 c4 c8 c9 c10 w k v6 v13 = some o6 → zJ X 162 [some (vA c0), some (vI c1), some (vA c2), some (vA c3), some (vL c4), none, some (vL o6), none, some (vI c8), some (vI c9), some (vA c10), none, none, none] [] w → zJ X 131 [some (vA c0), some (vI c1), some (vA c2), some (vA c3), some (vL c4), none, some (vL v6), none, some (vI c8), some (vI c9), some (vA c10), none, none, some (vI v13)] [] w := by
  intro k
  induction k with
  | zero => intro v6 v13 o6 hf _; exact nomatch (show (none : Option (Int64)) = _ from hf)
  | succ k ih =>
    intro v6 v13 o6 hf kx
    have hf : f_X14_findPlain_L131b n c0 c1 c2 c3 c4 c8 c9 c10 w (f_X14_findPlain_L131 n c0 c1 c2 c3 c4 c8 c9 c10 w k) v6 v13 = _ := hf
    unfold f_X14_findPlain_L131b at hf
    refine j_iload (pc := 131) hX dX14_findPlain_131 rfl ?_
    refine j_iload_n (pc := 133) hX dX14_findPlain_133 rfl ?_
    refine j_iconst (pc := 134) hX (1 : Int32) dX14_findPlain_134 rfl ?_
    refine j_iadd (pc := 135) hX dX14_findPlain_135 ?_
    refine j_bipush (pc := 136) hX (30 : Int32) dX14_findPlain_136 (by decide +kernel) ?_
    refine j_imul (pc := 138) hX dX14_findPlain_138 ?_
    refine j_icmp_ge (pc := 139) hX 162 dX14_findPlain_139 rfl hf (fun h_ hf => ?_) (fun h_ hf => ?_)
    · refine j_fg [13] [some (vA c0), some (vI c1), some (vA c2), some (vA c3), some (vL c4), none, some (vL v6), none, some (vI c8), some (vI c9), some (vA c10), none, none, none] rfl ?_
      cases hf
      exact kx
    · refine j_lload (pc := 142) hX dX14_findPlain_142 rfl ?_
      refine j_aload (pc := 144) hX dX14_findPlain_144 rfl ?_
      refine j_getAN (pc := 146) hX kX5 (k := 9) (Nat.le_of_ble_eq_true rfl) q930 rfl dX14_findPlain_146 hf (fun x23 hx_ hf => ?_)
      refine j_iload (pc := 149) hX dX14_findPlain_149 rfl ?_
      refine j_iaload (pc := 151) hX dX14_findPlain_151 hf (fun x24 hx_ hf => ?_)
      refine j_i2l (pc := 152) hX dX14_findPlain_152 ?_
      refine j_ladd (pc := 153) hX dX14_findPlain_153 ?_
      refine j_lstore (pc := 154) hX dX14_findPlain_154 (by decide) [some (vA c0), some (vI c1), some (vA c2), some (vA c3), some (vL c4), none, some (vL (v6 + (Int32.toInt64 x24))), none, some (vI c8), some (vI c9), some (vA c10), none, none, some (vI v13)] rfl ?_
      refine j_iinc (pc := 156) hX (1) dX14_findPlain_156 rfl rfl (by decide) [some (vA c0), some (vI c1), some (vA c2), some (vA c3), some (vL c4), none, some (vL (v6 + (Int32.toInt64 x24))), none, some (vI c8), some (vI c9), some (vA c10), none, none, some (vI (v13 + (1)))] rfl ?_
      refine j_goto (pc := 159) hX 131 dX14_findPlain_159 rfl ?_
      exact ih _ _ _ hf kx
set_option maxHeartbeats 4000000 in
theorem lp_X14_findPlain_L12 {X : zX} (hX : zGd X RX14 cX14_findPlain 14 none 6) (n : Nat) (c0 : Option Nat) (c1 : Int32) (c2 : Option Nat) (c3 : Option Nat) : ∀ (k : Nat) (v4 : Int64) (v6 : Int64) (v8 : Int32) (v9 : Int32) (w : zWd) (o4 : Int64) (o6 : Int64) (o8 : Int32) (w9 : zWd) , f_X14_findPlain_L12 n c0 c1 c2 c3 k v4 v6 v8 v9 w = some (o4, o6, o8, w9) → zJ X 168 [some (vA c0), some (vI c1), some (vA c2), some (vA c3), some (vL o4), none, some (vL o6), none, some (vI o8), none, none, none, none, none] [] w9 → zJ X 12 [some (vA c0), some (vI c1), some (vA c2), some (vA c3), some (vL v4), none, some (vL v6), none, some (vI v8), some (vI v9), none, none, none, none] [] w := by
  intro k
  induction k with
  | zero => intro v4 v6 v8 v9 w o4 o6 o8 w9 hf _; exact nomatch (show (none : Option (Int64 × Int64 × Int32 × zWd)) = _ from hf)
  | succ k ih =>
    intro v4 v6 v8 v9 w o4 o6 o8 w9 hf kx
    have hf : f_X14_findPlain_L12b n c0 c1 c2 c3 (f_X14_findPlain_L12 n c0 c1 c2 c3 k) v4 v6 v8 v9 w = _ := hf
    unfold f_X14_findPlain_L12b at hf
    refine j_iload (pc := 12) hX dX14_findPlain_12 rfl ?_
    refine j_aload_n (pc := 14) hX dX14_findPlain_14 rfl ?_
    refine j_getA (pc := 15) hX kX14 (k := 17) (Nat.le_of_ble_eq_true rfl) q1978 (Or.inl rfl) dX14_findPlain_15 hf (fun x1 hx_ hf => ?_)
    refine j_getAN (pc := 18) hX kX1 (k := 0) (Nat.le_of_ble_eq_true rfl) q331 rfl dX14_findPlain_18 hf (fun x2 hx_ hf => ?_)
    obtain ⟨x4, w3, hc_, hf⟩ := zB2_e hf
    obtain ⟨hi_, hc_⟩ := zV_e hc_
    refine j_callF (pc := 21) hX (ci := 18) mt_J2_size q1593 q418 q416 (by decide +kernel) rfl hi_ ⟨_, rfl, rfl⟩ [] rfl rfl (Nat.le_of_ble_eq_true rfl) (by decide) dX14_findPlain_21 (k_J2_size _ _ hc_) ?_
    refine j_icmp_ge (pc := 26) hX 168 dX14_findPlain_26 rfl hf (fun h_ hf => ?_) (fun h_ hf => ?_)
    · refine j_fg [9] [some (vA c0), some (vI c1), some (vA c2), some (vA c3), some (vL v4), none, some (vL v6), none, some (vI v8), none, none, none, none, none] rfl ?_
      cases hf
      exact kx
    · refine j_aload_n (pc := 29) hX dX14_findPlain_29 rfl ?_
      refine j_getA (pc := 30) hX kX14 (k := 17) (Nat.le_of_ble_eq_true rfl) q1978 (Or.inl rfl) dX14_findPlain_30 hf (fun x5 hx_ hf => ?_)
      refine j_getAN (pc := 33) hX kX1 (k := 0) (Nat.le_of_ble_eq_true rfl) q331 rfl dX14_findPlain_33 hf (fun x6 hx_ hf => ?_)
      refine j_iload (pc := 36) hX dX14_findPlain_36 rfl ?_
      obtain ⟨x8, w7, hc_, hf⟩ := zB2_e hf
      obtain ⟨hi_, hc_⟩ := zV_e hc_
      refine j_callF (pc := 38) hX (ci := 18) mt_J2_get q1595 q970 q968 (by decide +kernel) rfl hi_ ⟨_, rfl, rfl⟩ [vI v9] rfl rfl (Nat.le_of_ble_eq_true rfl) (by decide) dX14_findPlain_38 (k_J2_get _ _ hc_) ?_
      refine j_cast (pc := 43) hX q1596 [4] (zC1 ⟨_, rfl, Or.inl rfl⟩) dX14_findPlain_43 hf (fun hf => ?_)
      refine j_astore (pc := 46) hX dX14_findPlain_46 (by decide) [some (vA c0), some (vI c1), some (vA c2), some (vA c3), some (vL v4), none, some (vL v6), none, some (vI v8), some (vI v9), some (vA x8), none, none, none] rfl ?_
      refine j_aload (pc := 48) hX dX14_findPlain_48 rfl ?_
      refine j_getIN (pc := 50) hX kX5 (k := 0) (Nat.le_of_ble_eq_true rfl) q918 rfl dX14_findPlain_50 hf (fun x9 hx_ hf => ?_)
      refine j_aload_n (pc := 53) hX dX14_findPlain_53 rfl ?_
      refine j_getI (pc := 54) hX kX14 (k := 0) (Nat.le_of_ble_eq_true rfl) q1953 (Or.inl rfl) dX14_findPlain_54 hf (fun x10 hx_ hf => ?_)
      obtain ⟨x26, x27, x28, w29, hm_, hf⟩ := zB4_e hf
      have kj57 : zJ X 162 [some (vA c0), some (vI c1), some (vA c2), some (vA c3), some (vL x26), none, some (vL x27), none, some (vI x28), some (vI v9), none, none, none, none] [] w29 := by
        clear hm_
        refine j_iinc (pc := 162) hX (1) dX14_findPlain_162 rfl rfl (by decide) [some (vA c0), some (vI c1), some (vA c2), some (vA c3), some (vL x26), none, some (vL x27), none, some (vI x28), some (vI (v9 + (1))), none, none, none, none] rfl ?_
        refine j_goto (pc := 165) hX 12 dX14_findPlain_165 rfl ?_
        exact ih _ _ _ _ _ _ _ _ _ hf kx
      have hf := hm_
      refine j_icmp_ne (pc := 57) hX 162 dX14_findPlain_57 rfl hf (fun h_ hf => ?_) (fun h_ hf => ?_)
      · refine j_fg [10] [some (vA c0), some (vI c1), some (vA c2), some (vA c3), some (vL v4), none, some (vL v6), none, some (vI v8), some (vI v9), none, none, none, none] rfl ?_
        cases hf
        exact kj57
      · refine j_aload_n (pc := 60) hX dX14_findPlain_60 rfl ?_
        refine j_getA (pc := 61) hX kX14 (k := 17) (Nat.le_of_ble_eq_true rfl) q1978 (Or.inl rfl) dX14_findPlain_61 hf (fun x11 hx_ hf => ?_)
        refine j_aload (pc := 64) hX dX14_findPlain_64 rfl ?_
        refine j_iload_n (pc := 66) hX dX14_findPlain_66 rfl ?_
        obtain ⟨x13, w12, hc_, hf⟩ := zB2_e hf
        obtain ⟨hi_, hc_⟩ := zV_e hc_
        refine j_callVN (pc := 67) hX (ci := 0) mt_X1_baseOf q1597 q1176 qs14 hi_ ⟨_, rfl, rfl⟩ [vA x8, vI c1] rfl rfl (Nat.le_of_ble_eq_true rfl) (by decide) dX14_findPlain_67 (k_X1_baseOf _ _ hc_) ?_
        refine j_lstore (pc := 70) hX dX14_findPlain_70 (by decide) [some (vA c0), some (vI c1), some (vA c2), some (vA c3), some (vL v4), none, some (vL v6), none, some (vI v8), some (vI v9), some (vA x8), some (vL x13), none, none] rfl ?_
        refine j_lload (pc := 72) hX dX14_findPlain_72 rfl ?_
        refine j_lload (pc := 74) hX dX14_findPlain_74 rfl ?_
        refine j_ladd (pc := 76) hX dX14_findPlain_76 ?_
        refine j_lstore (pc := 77) hX dX14_findPlain_77 (by decide) [some (vA c0), some (vI c1), some (vA c2), some (vA c3), some (vL (v4 + x13)), none, some (vL v6), none, some (vI v8), some (vI v9), some (vA x8), some (vL x13), none, none] rfl ?_
        refine j_aload_n (pc := 79) hX dX14_findPlain_79 rfl ?_
        refine j_getA (pc := 80) hX kX14 (k := 1) (Nat.le_of_ble_eq_true rfl) q1954 (Or.inl rfl) dX14_findPlain_80 hf (fun x14 hx_ hf => ?_)
        refine j_iload_n (pc := 83) hX dX14_findPlain_83 rfl ?_
        refine j_iconst (pc := 84) hX (3 : Int32) dX14_findPlain_84 rfl ?_
        refine j_imul (pc := 85) hX dX14_findPlain_85 ?_
        refine j_aload (pc := 86) hX dX14_findPlain_86 rfl ?_
        refine j_getIN (pc := 88) hX kX5 (k := 1) (Nat.le_of_ble_eq_true rfl) q921 rfl dX14_findPlain_88 hf (fun x15 hx_ hf => ?_)
        refine j_iadd (pc := 91) hX dX14_findPlain_91 ?_
        refine j_dup2 (pc := 92) hX rfl rfl dX14_findPlain_92 ?_
        refine j_laload (pc := 93) hX dX14_findPlain_93 hf (fun x16 hx_ hf => ?_)
        refine j_lload (pc := 94) hX dX14_findPlain_94 rfl ?_
        refine j_ladd (pc := 96) hX dX14_findPlain_96 ?_
        refine j_lastore (pc := 97) hX dX14_findPlain_97 hf (fun w17 hf => ?_)
        refine j_iload (pc := 98) hX dX14_findPlain_98 rfl ?_
        refine j_iconst (pc := 100) hX (-1 : Int32) dX14_findPlain_100 rfl ?_
        obtain ⟨x21, w22, hm_, hf⟩ := zB2_e hf
        have kj101 : zJ X 123 [some (vA c0), some (vI c1), some (vA c2), some (vA c3), some (vL (v4 + x13)), none, some (vL v6), none, none, some (vI v9), some (vA x8), none, none, none] [vI x21] w22 := by
          clear hm_
          refine j_istore (pc := 123) hX dX14_findPlain_123 (by decide) [some (vA c0), some (vI c1), some (vA c2), some (vA c3), some (vL (v4 + x13)), none, some (vL v6), none, some (vI x21), some (vI v9), some (vA x8), none, none, none] rfl ?_
          refine j_iload_n (pc := 125) hX dX14_findPlain_125 rfl ?_
          refine j_bipush (pc := 126) hX (30 : Int32) dX14_findPlain_126 (by decide +kernel) ?_
          refine j_imul (pc := 128) hX dX14_findPlain_128 ?_
          refine j_istore (pc := 129) hX dX14_findPlain_129 (by decide) [some (vA c0), some (vI c1), some (vA c2), some (vA c3), some (vL (v4 + x13)), none, some (vL v6), none, some (vI x21), some (vI v9), some (vA x8), none, none, some (vI (c1 * (30 : Int32)))] rfl ?_
          obtain ⟨x25, hm_, hf⟩ := zob hf
          refine lp_X14_findPlain_L131 hX n _ _ _ _ _ _ _ _ _ _ _ _ _ hm_ ?_
          refine j_fg [10] [some (vA c0), some (vI c1), some (vA c2), some (vA c3), some (vL (v4 + x13)), none, some (vL x25), none, some (vI x21), some (vI v9), none, none, none, none] rfl ?_
          cases hf
          exact kj57
        have hf := hm_
        refine j_icmp_ne (pc := 101) hX 121 dX14_findPlain_101 rfl hf (fun h_ hf => ?_) (fun h_ hf => ?_)
        · refine j_iload (pc := 121) hX dX14_findPlain_121 rfl ?_
          refine j_fg [8, 11] [some (vA c0), some (vI c1), some (vA c2), some (vA c3), some (vL (v4 + x13)), none, some (vL v6), none, none, some (vI v9), some (vA x8), none, none, none] rfl ?_
          cases hf
          exact kj101
        · refine j_aload (pc := 104) hX dX14_findPlain_104 rfl ?_
          refine j_iload_n (pc := 106) hX dX14_findPlain_106 rfl ?_
          obtain ⟨x19, w18, hc_, hf⟩ := zB2_e hf
          obtain ⟨hi_, hc_⟩ := zV_e hc_
          refine j_callV (pc := 107) hX (ci := 4) mt_X5_hasDayIn q1598 q1599 q1600 hi_ ⟨_, rfl, rfl⟩ [vI c1] rfl rfl (Nat.le_of_ble_eq_true rfl) (by decide) dX14_findPlain_107 (k_X5_hasDayIn _ _ hc_) ?_
          refine j_if_eq (pc := 110) hX 121 dX14_findPlain_110 rfl hf (fun h_ hf => ?_) (fun h_ hf => ?_)
          · refine j_iload (pc := 121) hX dX14_findPlain_121 rfl ?_
            refine j_fg [8, 11] [some (vA c0), some (vI c1), some (vA c2), some (vA c3), some (vL (v4 + x13)), none, some (vL v6), none, none, some (vI v9), some (vA x8), none, none, none] rfl ?_
            cases hf
            exact kj101
          · refine j_aload (pc := 113) hX dX14_findPlain_113 rfl ?_
            refine j_getIN (pc := 115) hX kX5 (k := 1) (Nat.le_of_ble_eq_true rfl) q921 rfl dX14_findPlain_115 hf (fun x20 hx_ hf => ?_)
            refine j_goto (pc := 118) hX 123 dX14_findPlain_118 rfl ?_
            refine j_fg [8, 11] [some (vA c0), some (vI c1), some (vA c2), some (vA c3), some (vL (v4 + x13)), none, some (vL v6), none, none, some (vI v9), some (vA x8), none, none, none] rfl ?_
            cases hf
            exact kj101
set_option maxHeartbeats 4000000 in
theorem lp_X14_findPlain_L189 {X : zX} (hX : zGd X RX14 cX14_findPlain 14 none 6) (n : Nat) (c0 : Option Nat) (c1 : Int32) (c2 : Option Nat) (c3 : Option Nat) (c4 : Int64) (c6 : Int64) (c9 : Int32) : ∀ (k : Nat) (v10 : Int32) (w : zWd) (w9 : zWd) , f_X14_findPlain_L189 n c0 c1 c2 c3 c4 c6 c9 k v10 w = some w9 → zJ X 315 [some (vA c0), some (vI c1), some (vA c2), some (vA c3), some (vL c4), none, some (vL c6), none, none, some (vI c9), none, none, none, none] [] w9 → zJ X 189 [some (vA c0), some (vI c1), some (vA c2), some (vA c3), some (vL c4), none, some (vL c6), none, none, some (vI c9), some (vI v10), none, none, none] [] w := by
  intro k
  induction k with
  | zero => intro v10 w w9 hf _; exact nomatch (show (none : Option (zWd)) = _ from hf)
  | succ k ih =>
    intro v10 w w9 hf kx
    have hf : f_X14_findPlain_L189b n c0 c1 c2 c3 c4 c6 c9 (f_X14_findPlain_L189 n c0 c1 c2 c3 c4 c6 c9 k) v10 w = _ := hf
    unfold f_X14_findPlain_L189b at hf
    refine j_iload (pc := 189) hX dX14_findPlain_189 rfl ?_
    refine j_aload_n (pc := 191) hX dX14_findPlain_191 rfl ?_
    obtain ⟨x39, w38, hc_, hf⟩ := zB2_e hf
    obtain ⟨hi_, hc_⟩ := zV_e hc_
    refine j_callF (pc := 192) hX (ci := 18) mt_J2_size q1593 q418 q416 (by decide +kernel) rfl hi_ ⟨_, rfl, rfl⟩ [] rfl rfl (Nat.le_of_ble_eq_true rfl) (by decide) dX14_findPlain_192 (k_J2_size _ _ hc_) ?_
    refine j_icmp_ge (pc := 197) hX 315 dX14_findPlain_197 rfl hf (fun h_ hf => ?_) (fun h_ hf => ?_)
    · refine j_fg [10] [some (vA c0), some (vI c1), some (vA c2), some (vA c3), some (vL c4), none, some (vL c6), none, none, some (vI c9), none, none, none, none] rfl ?_
      cases hf
      exact kx
    · refine j_aload_n (pc := 200) hX dX14_findPlain_200 rfl ?_
      refine j_iload (pc := 201) hX dX14_findPlain_201 rfl ?_
      obtain ⟨x41, w40, hc_, hf⟩ := zB2_e hf
      obtain ⟨hi_, hc_⟩ := zV_e hc_
      refine j_callF (pc := 203) hX (ci := 18) mt_J2_get q1595 q970 q968 (by decide +kernel) rfl hi_ ⟨_, rfl, rfl⟩ [vI v10] rfl rfl (Nat.le_of_ble_eq_true rfl) (by decide) dX14_findPlain_203 (k_J2_get _ _ hc_) ?_
      refine j_cast (pc := 208) hX q1603 [20] (zC1 ⟨_, rfl, Or.inl rfl⟩) dX14_findPlain_208 hf (fun hf => ?_)
      obtain ⟨x43, w42, hc_, hf⟩ := zB2_e hf
      obtain ⟨hi_, hc_⟩ := zV_e hc_
      refine j_callV (pc := 211) hX (ci := 20) mt_J10_intValue q1604 q913 q914 hi_ ⟨_, rfl, rfl⟩ [] rfl rfl (Nat.le_of_ble_eq_true rfl) (by decide) dX14_findPlain_211 (k_J10_intValue _ _ hc_) ?_
      refine j_istore (pc := 214) hX dX14_findPlain_214 (by decide) [some (vA c0), some (vI c1), some (vA c2), some (vA c3), some (vL c4), none, some (vL c6), none, none, some (vI c9), some (vI v10), some (vI x43), none, none] rfl ?_
      refine j_aload_n (pc := 216) hX dX14_findPlain_216 rfl ?_
      refine j_getA (pc := 217) hX kX14 (k := 17) (Nat.le_of_ble_eq_true rfl) q1978 (Or.inl rfl) dX14_findPlain_217 hf (fun x44 hx_ hf => ?_)
      refine j_getAN (pc := 220) hX kX1 (k := 7) (Nat.le_of_ble_eq_true rfl) q343 rfl dX14_findPlain_220 hf (fun x45 hx_ hf => ?_)
      refine j_iload (pc := 223) hX dX14_findPlain_223 rfl ?_
      obtain ⟨x47, w46, hc_, hf⟩ := zB2_e hf
      obtain ⟨hi_, hc_⟩ := zV_e hc_
      refine j_callF (pc := 225) hX (ci := 18) mt_J2_get q1595 q970 q968 (by decide +kernel) rfl hi_ ⟨_, rfl, rfl⟩ [vI x43] rfl rfl (Nat.le_of_ble_eq_true rfl) (by decide) dX14_findPlain_225 (k_J2_get _ _ hc_) ?_
      refine j_cast (pc := 230) hX q1605 [11] (zC1 ⟨_, rfl, Or.inl rfl⟩) dX14_findPlain_230 hf (fun hf => ?_)
      refine j_astore (pc := 233) hX dX14_findPlain_233 (by decide) [some (vA c0), some (vI c1), some (vA c2), some (vA c3), some (vL c4), none, some (vL c6), none, none, some (vI c9), some (vI v10), some (vI x43), some (vA x47), none] rfl ?_
      refine j_aload_n (pc := 235) hX dX14_findPlain_235 rfl ?_
      refine j_getA (pc := 236) hX kX14 (k := 2) (Nat.le_of_ble_eq_true rfl) q1955 (Or.inl rfl) dX14_findPlain_236 hf (fun x48 hx_ hf => ?_)
      refine j_iload (pc := 239) hX dX14_findPlain_239 rfl ?_
      refine j_iload (pc := 241) hX dX14_findPlain_241 rfl ?_
      refine j_iadd (pc := 243) hX dX14_findPlain_243 ?_
      refine j_aload (pc := 244) hX dX14_findPlain_244 rfl ?_
      refine j_aload_n (pc := 246) hX dX14_findPlain_246 rfl ?_
      refine j_getI (pc := 247) hX kX14 (k := 0) (Nat.le_of_ble_eq_true rfl) q1953 (Or.inl rfl) dX14_findPlain_247 hf (fun x49 hx_ hf => ?_)
      obtain ⟨x51, w50, hc_, hf⟩ := zB2_e hf
      obtain ⟨hi_, hc_⟩ := zV_e hc_
      refine j_callV (pc := 250) hX (ci := 11) mt_X12_isFor q1606 q1607 q1608 hi_ ⟨_, rfl, rfl⟩ [vI x49] rfl rfl (Nat.le_of_ble_eq_true rfl) (by decide) dX14_findPlain_250 (k_X12_isFor _ _ hc_) ?_
      obtain ⟨x55, w56, hm_, hf⟩ := zB2_e hf
      have kj253 : zJ X 280 [some (vA c0), some (vI c1), some (vA c2), some (vA c3), some (vL c4), none, some (vL c6), none, none, some (vI c9), some (vI v10), some (vI x43), none, none] [vL x55, vI (c9 + x43), vA x48] w56 := by
        clear hm_
        refine j_lastore (pc := 280) hX dX14_findPlain_280 hf (fun w57 hf => ?_)
        refine j_aload_n (pc := 281) hX dX14_findPlain_281 rfl ?_
        refine j_getA (pc := 282) hX kX14 (k := 1) (Nat.le_of_ble_eq_true rfl) q1954 (Or.inl rfl) dX14_findPlain_282 hf (fun x58 hx_ hf => ?_)
        refine j_iload_n (pc := 285) hX dX14_findPlain_285 rfl ?_
        refine j_iconst (pc := 286) hX (3 : Int32) dX14_findPlain_286 rfl ?_
        refine j_imul (pc := 287) hX dX14_findPlain_287 ?_
        refine j_aload_n (pc := 288) hX dX14_findPlain_288 rfl ?_
        refine j_getA (pc := 289) hX kX14 (k := 3) (Nat.le_of_ble_eq_true rfl) q1957 (Or.inl rfl) dX14_findPlain_289 hf (fun x59 hx_ hf => ?_)
        refine j_iload_n (pc := 292) hX dX14_findPlain_292 rfl ?_
        refine j_iaload (pc := 293) hX dX14_findPlain_293 hf (fun x60 hx_ hf => ?_)
        refine j_iadd (pc := 294) hX dX14_findPlain_294 ?_
        refine j_dup2 (pc := 295) hX rfl rfl dX14_findPlain_295 ?_
        refine j_laload (pc := 296) hX dX14_findPlain_296 hf (fun x61 hx_ hf => ?_)
        refine j_aload_n (pc := 297) hX dX14_findPlain_297 rfl ?_
        refine j_getA (pc := 298) hX kX14 (k := 2) (Nat.le_of_ble_eq_true rfl) q1955 (Or.inl rfl) dX14_findPlain_298 hf (fun x62 hx_ hf => ?_)
        refine j_iload (pc := 301) hX dX14_findPlain_301 rfl ?_
        refine j_iload (pc := 303) hX dX14_findPlain_303 rfl ?_
        refine j_iadd (pc := 305) hX dX14_findPlain_305 ?_
        refine j_laload (pc := 306) hX dX14_findPlain_306 hf (fun x63 hx_ hf => ?_)
        refine j_ladd (pc := 307) hX dX14_findPlain_307 ?_
        refine j_lastore (pc := 308) hX dX14_findPlain_308 hf (fun w64 hf => ?_)
        refine j_iinc (pc := 309) hX (1) dX14_findPlain_309 rfl rfl (by decide) [some (vA c0), some (vI c1), some (vA c2), some (vA c3), some (vL c4), none, some (vL c6), none, none, some (vI c9), some (vI (v10 + (1))), some (vI x43), none, none] rfl ?_
        refine j_goto (pc := 312) hX 189 dX14_findPlain_312 rfl ?_
        refine j_fg [11] [some (vA c0), some (vI c1), some (vA c2), some (vA c3), some (vL c4), none, some (vL c6), none, none, some (vI c9), some (vI (v10 + (1))), none, none, none] rfl ?_
        exact ih _ _ _ hf kx
      have hf := hm_
      refine j_if_eq (pc := 253) hX 279 dX14_findPlain_253 rfl hf (fun h_ hf => ?_) (fun h_ hf => ?_)
      · refine j_lconst (pc := 279) hX (0 : Int64) dX14_findPlain_279 rfl ?_
        refine j_fg [12] [some (vA c0), some (vI c1), some (vA c2), some (vA c3), some (vL c4), none, some (vL c6), none, none, some (vI c9), some (vI v10), some (vI x43), none, none] rfl ?_
        cases hf
        exact kj253
      · refine j_aload (pc := 256) hX dX14_findPlain_256 rfl ?_
        refine j_lload (pc := 258) hX dX14_findPlain_258 rfl ?_
        refine j_lload (pc := 260) hX dX14_findPlain_260 rfl ?_
        refine j_ldc2 (pc := 262) hX q1610 dX14_findPlain_262 ?_
        refine j_ldiv (pc := 265) hX dX14_findPlain_265 (by decide) ?_
        refine j_aload_n (pc := 266) hX dX14_findPlain_266 rfl ?_
        refine j_iload (pc := 267) hX dX14_findPlain_267 rfl ?_
        refine j_aload_n (pc := 269) hX dX14_findPlain_269 rfl ?_
        refine j_getA (pc := 270) hX kX14 (k := 2) (Nat.le_of_ble_eq_true rfl) q1955 (Or.inl rfl) dX14_findPlain_270 hf (fun x52 hx_ hf => ?_)
        obtain ⟨x54, w53, hc_, hf⟩ := zB2_e hf
        obtain ⟨hi_, hc_⟩ := zV_e hc_
        refine j_callV (pc := 273) hX (ci := 11) mt_X12_value q1611 q1612 q1613 hi_ ⟨_, rfl, rfl⟩ [vL c4, vL (c6 / (60 : Int64)), vA c3, vI c9, vA x52] rfl rfl (Nat.le_of_ble_eq_true rfl) (by decide) dX14_findPlain_273 (k_X12_value _ _ hc_) ?_
        refine j_goto (pc := 276) hX 280 dX14_findPlain_276 rfl ?_
        refine j_fg [12] [some (vA c0), some (vI c1), some (vA c2), some (vA c3), some (vL c4), none, some (vL c6), none, none, some (vI c9), some (vI v10), some (vI x43), none, none] rfl ?_
        cases hf
        exact kj253
set_option maxHeartbeats 4000000 in
theorem k_X14_findPlain {l : Launch} {n : Nat} {a0 : Option Nat} {a1 : Int32} {a2 : Option Nat} {a3 : Option Nat} {w : zWd} (r : Unit) (w9 : zWd) (hf : f_X14_findPlain n a0 a1 a2 a3 w = some w9) : zCt l yX14_findPlain cX14_findPlain 14 none 6 [vA a0, vI a1, vA a2, vA a3] w (.inr (none, w9)) := by
  refine zCt_of (lv := [some (vA a0), some (vI a1), some (vA a2), some (vA a3), none, none, none, none, none, none, none, none, none, none]) (by decide +kernel) 10 rfl rfl ?_
  intro X hX hI hN hQ
  have hX : zGd X RX14 cX14_findPlain 14 none 6 := hX
  unfold f_X14_findPlain at hf
  refine j_lconst (pc := 0) hX (0 : Int64) dX14_findPlain_0 rfl ?_
  refine j_lstore (pc := 1) hX dX14_findPlain_1 (by decide) [some (vA a0), some (vI a1), some (vA a2), some (vA a3), some (vL (0 : Int64)), none, none, none, none, none, none, none, none, none] rfl ?_
  refine j_lconst (pc := 3) hX (0 : Int64) dX14_findPlain_3 rfl ?_
  refine j_lstore (pc := 4) hX dX14_findPlain_4 (by decide) [some (vA a0), some (vI a1), some (vA a2), some (vA a3), some (vL (0 : Int64)), none, some (vL (0 : Int64)), none, none, none, none, none, none, none] rfl ?_
  refine j_iconst (pc := 6) hX (-1 : Int32) dX14_findPlain_6 rfl ?_
  refine j_istore (pc := 7) hX dX14_findPlain_7 (by decide) [some (vA a0), some (vI a1), some (vA a2), some (vA a3), some (vL (0 : Int64)), none, some (vL (0 : Int64)), none, some (vI (-1 : Int32)), none, none, none, none, none] rfl ?_
  refine j_iconst (pc := 9) hX (0 : Int32) dX14_findPlain_9 rfl ?_
  refine j_istore (pc := 10) hX dX14_findPlain_10 (by decide) [some (vA a0), some (vI a1), some (vA a2), some (vA a3), some (vL (0 : Int64)), none, some (vL (0 : Int64)), none, some (vI (-1 : Int32)), some (vI (0 : Int32)), none, none, none, none] rfl ?_
  obtain ⟨x30, x31, x32, w33, hm_, hf⟩ := zB4_e hf
  refine lp_X14_findPlain_L12 hX n _ _ _ _ _ _ _ _ _ _ _ _ _ _ hm_ ?_
  refine j_aload_n (pc := 168) hX dX14_findPlain_168 rfl ?_
  refine j_getA (pc := 169) hX kX14 (k := 3) (Nat.le_of_ble_eq_true rfl) q1957 (Or.inl rfl) dX14_findPlain_169 hf (fun x34 hx_ hf => ?_)
  refine j_iload_n (pc := 172) hX dX14_findPlain_172 rfl ?_
  refine j_iconst (pc := 173) hX (0 : Int32) dX14_findPlain_173 rfl ?_
  refine j_iload (pc := 174) hX dX14_findPlain_174 rfl ?_
  obtain ⟨x36, w35, hc_, hf⟩ := zB2_e hf
  refine j_callS (pc := 176) hX mt_J7_max q1602 q251 [vI (0 : Int32), vI x32] rfl rfl (Nat.le_of_ble_eq_true rfl) (by decide) dX14_findPlain_176 (k_J7_max _ _ hc_) ?_
  refine j_iastore (pc := 179) hX dX14_findPlain_179 hf (fun w37 hf => ?_)
  refine j_iload_n (pc := 180) hX dX14_findPlain_180 rfl ?_
  refine j_bipush (pc := 181) hX (6 : Int32) dX14_findPlain_181 (by decide +kernel) ?_
  refine j_imul (pc := 183) hX dX14_findPlain_183 ?_
  refine j_istore (pc := 184) hX dX14_findPlain_184 (by decide) [some (vA a0), some (vI a1), some (vA a2), some (vA a3), some (vL x30), none, some (vL x31), none, some (vI x32), some (vI (a1 * (6 : Int32))), none, none, none, none] rfl ?_
  refine j_iconst (pc := 186) hX (0 : Int32) dX14_findPlain_186 rfl ?_
  refine j_istore (pc := 187) hX dX14_findPlain_187 (by decide) [some (vA a0), some (vI a1), some (vA a2), some (vA a3), some (vL x30), none, some (vL x31), none, some (vI x32), some (vI (a1 * (6 : Int32))), some (vI (0 : Int32)), none, none, none] rfl ?_
  obtain ⟨w65, hm_, hf⟩ := zob hf
  refine j_fg [8] [some (vA a0), some (vI a1), some (vA a2), some (vA a3), some (vL x30), none, some (vL x31), none, none, some (vI (a1 * (6 : Int32))), some (vI (0 : Int32)), none, none, none] rfl ?_
  refine lp_X14_findPlain_L189 hX n _ _ _ _ _ _ _ _ _ _ _ hm_ ?_
  exact j_return (pc := 315) hX hQ (by cases hf; rfl) dX14_findPlain_315
def f_X3_ceiling (n : Nat) (a0 : Option Nat) (w : zWd) : Option (Int32 × zWd) :=
  (gI w 2 1 a0).bind fun x1 =>
  some (x1, w)
theorem mt_X3_ceiling : zMt yX3_ceiling cX3_ceiling 1 (some .int) 0 := ⟨q1914, q72, ⟨by decide, by decide⟩, by decide +kernel, by decide⟩
set_option maxHeartbeats 4000000 in
theorem k_X3_ceiling {l : Launch} {n : Nat} {a0 : Option Nat} {w : zWd} (r : Int32) (w9 : zWd) (hf : f_X3_ceiling n a0 w = some (r, w9)) : zCt l yX3_ceiling cX3_ceiling 1 (some .int) 1 [vA a0] w (.inr (some (vI r), w9)) := by
  refine zCt_of (lv := [some (vA a0)]) (by decide +kernel) 0 rfl rfl ?_
  intro X hX hI hN hQ
  have hX : zGd X RX3 cX3_ceiling 1 (some .int) 1 := hX
  unfold f_X3_ceiling at hf
  refine j_aload_n (pc := 0) hX dX3_ceiling_0 rfl ?_
  refine j_getI (pc := 1) hX kX3 (k := 1) (Nat.le_of_ble_eq_true rfl) q174 (Or.inl rfl) dX3_ceiling_1 hf (fun x1 hx_ hf => ?_)
  exact j_ireturn (pc := 4) hX hQ (by cases hf; rfl) dX3_ceiling_4
def f_X3_thousandths (n : Nat) (a0 : Option Nat) (w : zWd) : Option (Int32 × zWd) :=
  (gI w 2 0 a0).bind fun x1 =>
  some (x1, w)
theorem mt_X3_thousandths : zMt yX3_thousandths cX3_thousandths 1 (some .int) 0 := ⟨q1920, q72, ⟨by decide, by decide⟩, by decide +kernel, by decide⟩
set_option maxHeartbeats 4000000 in
theorem k_X3_thousandths {l : Launch} {n : Nat} {a0 : Option Nat} {w : zWd} (r : Int32) (w9 : zWd) (hf : f_X3_thousandths n a0 w = some (r, w9)) : zCt l yX3_thousandths cX3_thousandths 1 (some .int) 1 [vA a0] w (.inr (some (vI r), w9)) := by
  refine zCt_of (lv := [some (vA a0)]) (by decide +kernel) 0 rfl rfl ?_
  intro X hX hI hN hQ
  have hX : zGd X RX3 cX3_thousandths 1 (some .int) 1 := hX
  unfold f_X3_thousandths at hf
  refine j_aload_n (pc := 0) hX dX3_thousandths_0 rfl ?_
  refine j_getI (pc := 1) hX kX3 (k := 0) (Nat.le_of_ble_eq_true rfl) q173 (Or.inl rfl) dX3_thousandths_1 hf (fun x1 hx_ hf => ?_)
  exact j_ireturn (pc := 4) hX hQ (by cases hf; rfl) dX3_thousandths_4
def f_X14_findGross_L5b (n : Nat) (c0 : Option Nat) (c1 : Int32) (rec : Int64 → Int32 → zWd → Option (Int64 × zWd)) (v2 : Int64) (v4 : Int32) (w : zWd) : Option (Int64 × zWd) :=
  if (3 : Int32) ≤ v4 then
    some (v2, w)
  else
    (gA w 13 4 c0).bind fun x1 =>
    (gA w 13 1 c0).bind fun x2 =>
    (aL w x2 ((c1 * (3 : Int32)) + v4)).bind fun x3 =>
    (gA w 13 17 c0).bind fun x4 =>
    (gA w 0 8 x4).bind fun x5 =>
    (gI w 13 0 c0).bind fun x6 =>
    (aA w x5 x6).bind fun x7 =>
    (aA w x7 c1).bind fun x8 =>
    (aI w x8 v4).bind fun x9 =>
    (sL w x1 ((c1 * (3 : Int32)) + v4) (x3 + (Int32.toInt64 x9))).bind fun w10 =>
    (gA w10 13 4 c0).bind fun x11 =>
    (aL w10 x11 ((c1 * (3 : Int32)) + v4)).bind fun x12 =>
    (gA w10 13 8 c0).bind fun x13 =>
    (aL w10 x13 v4).bind fun x14 =>
    (gA w10 13 4 c0).bind fun x15 =>
    (aL w10 x15 ((c1 * (3 : Int32)) + v4)).bind fun x16 =>
    (sL w10 x13 v4 (x14 + x16)).bind fun w17 =>
    (gA w17 13 17 c0).bind fun x18 =>
    (gA w17 0 9 x18).bind fun x19 =>
    zB2 (zV (isC w17 18 x19) (f_J2_get n x19 v4 w17)) fun x21 w20 =>
    (cK w20 [1] x21).bind fun _ =>
    zB2 (zV (isC w20 1 x21) (f_X2_at n x21 c1 w20)) fun x23 w22 =>
    (cK w22 [2] x23).bind fun _ =>
    (gA w22 13 8 c0).bind fun x24 =>
    (aL w22 x24 v4).bind fun x25 =>
    zB2 (zV (isC w22 2 x23) (f_X3_ceiling n x23 w22)) fun x27 w26 =>
    zB2 (f_J7_min_2 n x25 (Int32.toInt64 x27) w26) fun x29 w28 =>
    (gA w28 13 7 c0).bind fun x30 =>
    (aL w28 x30 v4).bind fun x31 =>
    zB2 (f_J7_max_2 n (0 : Int64) (x29 - x31) w28) fun x33 w32 =>
    (gA w32 13 7 c0).bind fun x34 =>
    (aL w32 x34 v4).bind fun x35 =>
    (sL w32 x34 v4 (x35 + x33)).bind fun w36 =>
    (gA w36 13 5 c0).bind fun x37 =>
    zB2 (zV (isC w36 2 x23) (f_X3_thousandths n x23 w36)) fun x39 w38 =>
    zB2 (f_X1_rounded n (x33 * (Int32.toInt64 x39)) (1000 : Int64) w38) fun x41 w40 =>
    (sL w40 x37 ((c1 * (3 : Int32)) + v4) x41).bind fun w42 =>
    rec (v2 + x12) (v4 + (1)) w42
def f_X14_findGross_L5 (n : Nat) (c0 : Option Nat) (c1 : Int32) : Nat → Int64 → Int32 → zWd → Option (Int64 × zWd)
  | 0, _, _, _ => none
  | k + 1, v2, v4, w => f_X14_findGross_L5b n c0 c1 (f_X14_findGross_L5 n c0 c1 k) v2 v4 w
def f_X14_findGross (n : Nat) (a0 : Option Nat) (a1 : Int32) (w : zWd) : Option zWd :=
  zB2 (f_X14_findGross_L5 n a0 a1 n (0 : Int64) (0 : Int32) w) fun x43 w44 =>
  (gA w44 13 17 a0).bind fun x45 =>
  (gA w44 0 12 x45).bind fun x46 =>
  (gI w44 13 0 a0).bind fun x47 =>
  zB2 (zV (isC w44 18 x46) (f_J2_get n x46 x47 w44)) fun x49 w48 =>
  (cK w48 [1] x49).bind fun _ =>
  zB2 (zV (isC w48 1 x49) (f_X2_at n x49 a1 w48)) fun x51 w50 =>
  (cK w50 [20] x51).bind fun _ =>
  zB2 (zV (isC w50 20 x51) (f_J10_intValue n x51 w50)) fun x53 w52 =>
  (gA w52 13 11 a0).bind fun x54 =>
  zB2 (f_X1_rounded n (x43 * (Int32.toInt64 x53)) (1000 : Int64) w52) fun x56 w55 =>
  zB2 (f_J7_max_2 n (0 : Int64) x56 w55) fun x58 w57 =>
  (sL w57 x54 a1 x58).bind fun w59 =>
  (gA w59 13 12 a0).bind fun x60 =>
  zB2 (f_J7_min n x53 (50 : Int32) w59) fun x62 w61 =>
  zB2 (f_X1_rounded n (x43 * (Int32.toInt64 x62)) (1000 : Int64) w61) fun x64 w63 =>
  zB2 (f_J7_max_2 n (0 : Int64) x64 w63) fun x66 w65 =>
  (sL w65 x60 a1 x66).bind fun w67 =>
  (gA w67 13 13 a0).bind fun x68 =>
  (gA w67 13 11 a0).bind fun x69 =>
  (aL w67 x69 a1).bind fun x70 =>
  (sL w67 x68 a1 (x43 - x70)).bind fun w71 =>
  some w71
theorem mt_X14_findGross : zMt yX14_findGross cX14_findGross 9 none 1 := ⟨q1907, q111, ⟨by decide, by decide⟩, by decide +kernel, by decide⟩
set_option maxHeartbeats 4000000 in
theorem lp_X14_findGross_L5 {X : zX} (hX : zGd X RX14 cX14_findGross 9 none 8) (n : Nat) (c0 : Option Nat) (c1 : Int32) : ∀ (k : Nat) (v2 : Int64) (v4 : Int32) (w : zWd) (o2 : Int64) (w9 : zWd) , f_X14_findGross_L5 n c0 c1 k v2 v4 w = some (o2, w9) → zJ X 175 [some (vA c0), some (vI c1), some (vL o2), none, none, none, none, none, none] [] w9 → zJ X 5 [some (vA c0), some (vI c1), some (vL v2), none, some (vI v4), none, none, none, none] [] w := by
  intro k
  induction k with
  | zero => intro v2 v4 w o2 w9 hf _; exact nomatch (show (none : Option (Int64 × zWd)) = _ from hf)
  | succ k ih =>
    intro v2 v4 w o2 w9 hf kx
    have hf : f_X14_findGross_L5b n c0 c1 (f_X14_findGross_L5 n c0 c1 k) v2 v4 w = _ := hf
    unfold f_X14_findGross_L5b at hf
    refine j_iload (pc := 5) hX dX14_findGross_5 rfl ?_
    refine j_iconst (pc := 7) hX (3 : Int32) dX14_findGross_7 rfl ?_
    refine j_icmp_ge (pc := 8) hX 175 dX14_findGross_8 rfl hf (fun h_ hf => ?_) (fun h_ hf => ?_)
    · refine j_fg [4] [some (vA c0), some (vI c1), some (vL v2), none, none, none, none, none, none] rfl ?_
      cases hf
      exact kx
    · refine j_iload_n (pc := 11) hX dX14_findGross_11 rfl ?_
      refine j_iconst (pc := 12) hX (3 : Int32) dX14_findGross_12 rfl ?_
      refine j_imul (pc := 13) hX dX14_findGross_13 ?_
      refine j_iload (pc := 14) hX dX14_findGross_14 rfl ?_
      refine j_iadd (pc := 16) hX dX14_findGross_16 ?_
      refine j_istore (pc := 17) hX dX14_findGross_17 (by decide) [some (vA c0), some (vI c1), some (vL v2), none, some (vI v4), some (vI ((c1 * (3 : Int32)) + v4)), none, none, none] rfl ?_
      refine j_aload_n (pc := 19) hX dX14_findGross_19 rfl ?_
      refine j_getA (pc := 20) hX kX14 (k := 4) (Nat.le_of_ble_eq_true rfl) q1958 (Or.inl rfl) dX14_findGross_20 hf (fun x1 hx_ hf => ?_)
      refine j_iload (pc := 23) hX dX14_findGross_23 rfl ?_
      refine j_aload_n (pc := 25) hX dX14_findGross_25 rfl ?_
      refine j_getA (pc := 26) hX kX14 (k := 1) (Nat.le_of_ble_eq_true rfl) q1954 (Or.inl rfl) dX14_findGross_26 hf (fun x2 hx_ hf => ?_)
      refine j_iload (pc := 29) hX dX14_findGross_29 rfl ?_
      refine j_laload (pc := 31) hX dX14_findGross_31 hf (fun x3 hx_ hf => ?_)
      refine j_aload_n (pc := 32) hX dX14_findGross_32 rfl ?_
      refine j_getA (pc := 33) hX kX14 (k := 17) (Nat.le_of_ble_eq_true rfl) q1978 (Or.inl rfl) dX14_findGross_33 hf (fun x4 hx_ hf => ?_)
      refine j_getAN (pc := 36) hX kX1 (k := 8) (Nat.le_of_ble_eq_true rfl) q345 rfl dX14_findGross_36 hf (fun x5 hx_ hf => ?_)
      refine j_aload_n (pc := 39) hX dX14_findGross_39 rfl ?_
      refine j_getI (pc := 40) hX kX14 (k := 0) (Nat.le_of_ble_eq_true rfl) q1953 (Or.inl rfl) dX14_findGross_40 hf (fun x6 hx_ hf => ?_)
      refine j_aaload (pc := 43) hX dX14_findGross_43 hf (fun x7 hx_ hf => ?_)
      refine j_iload_n (pc := 44) hX dX14_findGross_44 rfl ?_
      refine j_aaload (pc := 45) hX dX14_findGross_45 hf (fun x8 hx_ hf => ?_)
      refine j_iload (pc := 46) hX dX14_findGross_46 rfl ?_
      refine j_iaload (pc := 48) hX dX14_findGross_48 hf (fun x9 hx_ hf => ?_)
      refine j_i2l (pc := 49) hX dX14_findGross_49 ?_
      refine j_ladd (pc := 50) hX dX14_findGross_50 ?_
      refine j_lastore (pc := 51) hX dX14_findGross_51 hf (fun w10 hf => ?_)
      refine j_lload_n (pc := 52) hX dX14_findGross_52 rfl ?_
      refine j_aload_n (pc := 53) hX dX14_findGross_53 rfl ?_
      refine j_getA (pc := 54) hX kX14 (k := 4) (Nat.le_of_ble_eq_true rfl) q1958 (Or.inl rfl) dX14_findGross_54 hf (fun x11 hx_ hf => ?_)
      refine j_iload (pc := 57) hX dX14_findGross_57 rfl ?_
      refine j_laload (pc := 59) hX dX14_findGross_59 hf (fun x12 hx_ hf => ?_)
      refine j_ladd (pc := 60) hX dX14_findGross_60 ?_
      refine j_lstore_n (pc := 61) hX dX14_findGross_61 (by decide) [some (vA c0), some (vI c1), some (vL (v2 + x12)), none, some (vI v4), some (vI ((c1 * (3 : Int32)) + v4)), none, none, none] rfl ?_
      refine j_aload_n (pc := 62) hX dX14_findGross_62 rfl ?_
      refine j_getA (pc := 63) hX kX14 (k := 8) (Nat.le_of_ble_eq_true rfl) q1965 (Or.inl rfl) dX14_findGross_63 hf (fun x13 hx_ hf => ?_)
      refine j_iload (pc := 66) hX dX14_findGross_66 rfl ?_
      refine j_dup2 (pc := 68) hX rfl rfl dX14_findGross_68 ?_
      refine j_laload (pc := 69) hX dX14_findGross_69 hf (fun x14 hx_ hf => ?_)
      refine j_aload_n (pc := 70) hX dX14_findGross_70 rfl ?_
      refine j_getA (pc := 71) hX kX14 (k := 4) (Nat.le_of_ble_eq_true rfl) q1958 (Or.inl rfl) dX14_findGross_71 hf (fun x15 hx_ hf => ?_)
      refine j_iload (pc := 74) hX dX14_findGross_74 rfl ?_
      refine j_laload (pc := 76) hX dX14_findGross_76 hf (fun x16 hx_ hf => ?_)
      refine j_ladd (pc := 77) hX dX14_findGross_77 ?_
      refine j_lastore (pc := 78) hX dX14_findGross_78 hf (fun w17 hf => ?_)
      refine j_aload_n (pc := 79) hX dX14_findGross_79 rfl ?_
      refine j_getA (pc := 80) hX kX14 (k := 17) (Nat.le_of_ble_eq_true rfl) q1978 (Or.inl rfl) dX14_findGross_80 hf (fun x18 hx_ hf => ?_)
      refine j_getAN (pc := 83) hX kX1 (k := 9) (Nat.le_of_ble_eq_true rfl) q347 rfl dX14_findGross_83 hf (fun x19 hx_ hf => ?_)
      refine j_iload (pc := 86) hX dX14_findGross_86 rfl ?_
      obtain ⟨x21, w20, hc_, hf⟩ := zB2_e hf
      obtain ⟨hi_, hc_⟩ := zV_e hc_
      refine j_callF (pc := 88) hX (ci := 18) mt_J2_get q1595 q970 q968 (by decide +kernel) rfl hi_ ⟨_, rfl, rfl⟩ [vI v4] rfl rfl (Nat.le_of_ble_eq_true rfl) (by decide) dX14_findGross_88 (k_J2_get _ _ hc_) ?_
      refine j_cast (pc := 93) hX q1908 [1] (zC1 ⟨_, rfl, Or.inl rfl⟩) dX14_findGross_93 hf (fun hf => ?_)
      refine j_iload_n (pc := 96) hX dX14_findGross_96 rfl ?_
      obtain ⟨x23, w22, hc_, hf⟩ := zB2_e hf
      obtain ⟨hi_, hc_⟩ := zV_e hc_
      refine j_callV (pc := 97) hX (ci := 1) mt_X2_at q1909 q1551 q1552 hi_ ⟨_, rfl, rfl⟩ [vI c1] rfl rfl (Nat.le_of_ble_eq_true rfl) (by decide) dX14_findGross_97 (k_X2_at _ _ hc_) ?_
      refine j_cast (pc := 100) hX q1910 [2] (zC1 ⟨_, rfl, Or.inl rfl⟩) dX14_findGross_100 hf (fun hf => ?_)
      refine j_astore (pc := 103) hX dX14_findGross_103 (by decide) [some (vA c0), some (vI c1), some (vL (v2 + x12)), none, some (vI v4), some (vI ((c1 * (3 : Int32)) + v4)), some (vA x23), none, none] rfl ?_
      refine j_lconst (pc := 105) hX (0 : Int64) dX14_findGross_105 rfl ?_
      refine j_aload_n (pc := 106) hX dX14_findGross_106 rfl ?_
      refine j_getA (pc := 107) hX kX14 (k := 8) (Nat.le_of_ble_eq_true rfl) q1965 (Or.inl rfl) dX14_findGross_107 hf (fun x24 hx_ hf => ?_)
      refine j_iload (pc := 110) hX dX14_findGross_110 rfl ?_
      refine j_laload (pc := 112) hX dX14_findGross_112 hf (fun x25 hx_ hf => ?_)
      refine j_aload (pc := 113) hX dX14_findGross_113 rfl ?_
      obtain ⟨x27, w26, hc_, hf⟩ := zB2_e hf
      obtain ⟨hi_, hc_⟩ := zV_e hc_
      refine j_callV (pc := 115) hX (ci := 2) mt_X3_ceiling q1911 q1912 q1913 hi_ ⟨_, rfl, rfl⟩ [] rfl rfl (Nat.le_of_ble_eq_true rfl) (by decide) dX14_findGross_115 (k_X3_ceiling _ _ hc_) ?_
      refine j_i2l (pc := 118) hX dX14_findGross_118 ?_
      obtain ⟨x29, w28, hc_, hf⟩ := zB2_e hf
      refine j_callS (pc := 119) hX mt_J7_min_2 q1915 q1098 [vL x25, vL (Int32.toInt64 x27)] rfl rfl (Nat.le_of_ble_eq_true rfl) (by decide) dX14_findGross_119 (k_J7_min_2 _ _ hc_) ?_
      refine j_aload_n (pc := 122) hX dX14_findGross_122 rfl ?_
      refine j_getA (pc := 123) hX kX14 (k := 7) (Nat.le_of_ble_eq_true rfl) q1964 (Or.inl rfl) dX14_findGross_123 hf (fun x30 hx_ hf => ?_)
      refine j_iload (pc := 126) hX dX14_findGross_126 rfl ?_
      refine j_laload (pc := 128) hX dX14_findGross_128 hf (fun x31 hx_ hf => ?_)
      refine j_lsub (pc := 129) hX dX14_findGross_129 ?_
      obtain ⟨x33, w32, hc_, hf⟩ := zB2_e hf
      refine j_callS (pc := 130) hX mt_J7_max_2 q1916 q1095 [vL (0 : Int64), vL (x29 - x31)] rfl rfl (Nat.le_of_ble_eq_true rfl) (by decide) dX14_findGross_130 (k_J7_max_2 _ _ hc_) ?_
      refine j_lstore (pc := 133) hX dX14_findGross_133 (by decide) [some (vA c0), some (vI c1), some (vL (v2 + x12)), none, some (vI v4), some (vI ((c1 * (3 : Int32)) + v4)), some (vA x23), some (vL x33), none] rfl ?_
      refine j_aload_n (pc := 135) hX dX14_findGross_135 rfl ?_
      refine j_getA (pc := 136) hX kX14 (k := 7) (Nat.le_of_ble_eq_true rfl) q1964 (Or.inl rfl) dX14_findGross_136 hf (fun x34 hx_ hf => ?_)
      refine j_iload (pc := 139) hX dX14_findGross_139 rfl ?_
      refine j_dup2 (pc := 141) hX rfl rfl dX14_findGross_141 ?_
      refine j_laload (pc := 142) hX dX14_findGross_142 hf (fun x35 hx_ hf => ?_)
      refine j_lload (pc := 143) hX dX14_findGross_143 rfl ?_
      refine j_ladd (pc := 145) hX dX14_findGross_145 ?_
      refine j_lastore (pc := 146) hX dX14_findGross_146 hf (fun w36 hf => ?_)
      refine j_aload_n (pc := 147) hX dX14_findGross_147 rfl ?_
      refine j_getA (pc := 148) hX kX14 (k := 5) (Nat.le_of_ble_eq_true rfl) q1960 (Or.inl rfl) dX14_findGross_148 hf (fun x37 hx_ hf => ?_)
      refine j_iload (pc := 151) hX dX14_findGross_151 rfl ?_
      refine j_lload (pc := 153) hX dX14_findGross_153 rfl ?_
      refine j_aload (pc := 155) hX dX14_findGross_155 rfl ?_
      obtain ⟨x39, w38, hc_, hf⟩ := zB2_e hf
      obtain ⟨hi_, hc_⟩ := zV_e hc_
      refine j_callV (pc := 157) hX (ci := 2) mt_X3_thousandths q1917 q1918 q1919 hi_ ⟨_, rfl, rfl⟩ [] rfl rfl (Nat.le_of_ble_eq_true rfl) (by decide) dX14_findGross_157 (k_X3_thousandths _ _ hc_) ?_
      refine j_i2l (pc := 160) hX dX14_findGross_160 ?_
      refine j_lmul (pc := 161) hX dX14_findGross_161 ?_
      refine j_ldc2 (pc := 162) hX q1921 dX14_findGross_162 ?_
      obtain ⟨x41, w40, hc_, hf⟩ := zB2_e hf
      refine j_callSN (pc := 165) hX mt_X1_rounded q1922 q1186 [vL (x33 * (Int32.toInt64 x39)), vL (1000 : Int64)] rfl rfl (Nat.le_of_ble_eq_true rfl) (by decide) dX14_findGross_165 (k_X1_rounded _ _ hc_) ?_
      refine j_lastore (pc := 168) hX dX14_findGross_168 hf (fun w42 hf => ?_)
      refine j_iinc (pc := 169) hX (1) dX14_findGross_169 rfl rfl (by decide) [some (vA c0), some (vI c1), some (vL (v2 + x12)), none, some (vI (v4 + (1))), some (vI ((c1 * (3 : Int32)) + v4)), some (vA x23), some (vL x33), none] rfl ?_
      refine j_goto (pc := 172) hX 5 dX14_findGross_172 rfl ?_
      refine j_fg [5, 6, 7] [some (vA c0), some (vI c1), some (vL (v2 + x12)), none, some (vI (v4 + (1))), none, none, none, none] rfl ?_
      exact ih _ _ _ _ _ hf kx
set_option maxHeartbeats 4000000 in
theorem k_X14_findGross {l : Launch} {n : Nat} {a0 : Option Nat} {a1 : Int32} {w : zWd} (r : Unit) (w9 : zWd) (hf : f_X14_findGross n a0 a1 w = some w9) : zCt l yX14_findGross cX14_findGross 9 none 8 [vA a0, vI a1] w (.inr (none, w9)) := by
  refine zCt_of (lv := [some (vA a0), some (vI a1), none, none, none, none, none, none, none]) (by decide +kernel) 7 rfl rfl ?_
  intro X hX hI hN hQ
  have hX : zGd X RX14 cX14_findGross 9 none 8 := hX
  unfold f_X14_findGross at hf
  refine j_lconst (pc := 0) hX (0 : Int64) dX14_findGross_0 rfl ?_
  refine j_lstore_n (pc := 1) hX dX14_findGross_1 (by decide) [some (vA a0), some (vI a1), some (vL (0 : Int64)), none, none, none, none, none, none] rfl ?_
  refine j_iconst (pc := 2) hX (0 : Int32) dX14_findGross_2 rfl ?_
  refine j_istore (pc := 3) hX dX14_findGross_3 (by decide) [some (vA a0), some (vI a1), some (vL (0 : Int64)), none, some (vI (0 : Int32)), none, none, none, none] rfl ?_
  obtain ⟨x43, w44, hm_, hf⟩ := zB2_e hf
  refine lp_X14_findGross_L5 hX n _ _ _ _ _ _ _ _ hm_ ?_
  refine j_aload_n (pc := 175) hX dX14_findGross_175 rfl ?_
  refine j_getA (pc := 176) hX kX14 (k := 17) (Nat.le_of_ble_eq_true rfl) q1978 (Or.inl rfl) dX14_findGross_176 hf (fun x45 hx_ hf => ?_)
  refine j_getAN (pc := 179) hX kX1 (k := 12) (Nat.le_of_ble_eq_true rfl) q352 rfl dX14_findGross_179 hf (fun x46 hx_ hf => ?_)
  refine j_aload_n (pc := 182) hX dX14_findGross_182 rfl ?_
  refine j_getI (pc := 183) hX kX14 (k := 0) (Nat.le_of_ble_eq_true rfl) q1953 (Or.inl rfl) dX14_findGross_183 hf (fun x47 hx_ hf => ?_)
  obtain ⟨x49, w48, hc_, hf⟩ := zB2_e hf
  obtain ⟨hi_, hc_⟩ := zV_e hc_
  refine j_callF (pc := 186) hX (ci := 18) mt_J2_get q1595 q970 q968 (by decide +kernel) rfl hi_ ⟨_, rfl, rfl⟩ [vI x47] rfl rfl (Nat.le_of_ble_eq_true rfl) (by decide) dX14_findGross_186 (k_J2_get _ _ hc_) ?_
  refine j_cast (pc := 191) hX q1908 [1] (zC1 ⟨_, rfl, Or.inl rfl⟩) dX14_findGross_191 hf (fun hf => ?_)
  refine j_iload_n (pc := 194) hX dX14_findGross_194 rfl ?_
  obtain ⟨x51, w50, hc_, hf⟩ := zB2_e hf
  obtain ⟨hi_, hc_⟩ := zV_e hc_
  refine j_callV (pc := 195) hX (ci := 1) mt_X2_at q1909 q1551 q1552 hi_ ⟨_, rfl, rfl⟩ [vI a1] rfl rfl (Nat.le_of_ble_eq_true rfl) (by decide) dX14_findGross_195 (k_X2_at _ _ hc_) ?_
  refine j_cast (pc := 198) hX q1603 [20] (zC1 ⟨_, rfl, Or.inl rfl⟩) dX14_findGross_198 hf (fun hf => ?_)
  obtain ⟨x53, w52, hc_, hf⟩ := zB2_e hf
  obtain ⟨hi_, hc_⟩ := zV_e hc_
  refine j_callV (pc := 201) hX (ci := 20) mt_J10_intValue q1604 q913 q914 hi_ ⟨_, rfl, rfl⟩ [] rfl rfl (Nat.le_of_ble_eq_true rfl) (by decide) dX14_findGross_201 (k_J10_intValue _ _ hc_) ?_
  refine j_istore (pc := 204) hX dX14_findGross_204 (by decide) [some (vA a0), some (vI a1), some (vL x43), none, some (vI x53), none, none, none, none] rfl ?_
  refine j_aload_n (pc := 206) hX dX14_findGross_206 rfl ?_
  refine j_getA (pc := 207) hX kX14 (k := 11) (Nat.le_of_ble_eq_true rfl) q1968 (Or.inl rfl) dX14_findGross_207 hf (fun x54 hx_ hf => ?_)
  refine j_iload_n (pc := 210) hX dX14_findGross_210 rfl ?_
  refine j_lconst (pc := 211) hX (0 : Int64) dX14_findGross_211 rfl ?_
  refine j_lload_n (pc := 212) hX dX14_findGross_212 rfl ?_
  refine j_iload (pc := 213) hX dX14_findGross_213 rfl ?_
  refine j_i2l (pc := 215) hX dX14_findGross_215 ?_
  refine j_lmul (pc := 216) hX dX14_findGross_216 ?_
  refine j_ldc2 (pc := 217) hX q1921 dX14_findGross_217 ?_
  obtain ⟨x56, w55, hc_, hf⟩ := zB2_e hf
  refine j_callSN (pc := 220) hX mt_X1_rounded q1922 q1186 [vL (x43 * (Int32.toInt64 x53)), vL (1000 : Int64)] rfl rfl (Nat.le_of_ble_eq_true rfl) (by decide) dX14_findGross_220 (k_X1_rounded _ _ hc_) ?_
  obtain ⟨x58, w57, hc_, hf⟩ := zB2_e hf
  refine j_callS (pc := 223) hX mt_J7_max_2 q1916 q1095 [vL (0 : Int64), vL x56] rfl rfl (Nat.le_of_ble_eq_true rfl) (by decide) dX14_findGross_223 (k_J7_max_2 _ _ hc_) ?_
  refine j_lastore (pc := 226) hX dX14_findGross_226 hf (fun w59 hf => ?_)
  refine j_aload_n (pc := 227) hX dX14_findGross_227 rfl ?_
  refine j_getA (pc := 228) hX kX14 (k := 12) (Nat.le_of_ble_eq_true rfl) q1970 (Or.inl rfl) dX14_findGross_228 hf (fun x60 hx_ hf => ?_)
  refine j_iload_n (pc := 231) hX dX14_findGross_231 rfl ?_
  refine j_lconst (pc := 232) hX (0 : Int64) dX14_findGross_232 rfl ?_
  refine j_lload_n (pc := 233) hX dX14_findGross_233 rfl ?_
  refine j_iload (pc := 234) hX dX14_findGross_234 rfl ?_
  refine j_bipush (pc := 236) hX (50 : Int32) dX14_findGross_236 (by decide +kernel) ?_
  obtain ⟨x62, w61, hc_, hf⟩ := zB2_e hf
  refine j_callS (pc := 238) hX mt_J7_min q1923 q303 [vI x53, vI (50 : Int32)] rfl rfl (Nat.le_of_ble_eq_true rfl) (by decide) dX14_findGross_238 (k_J7_min _ _ hc_) ?_
  refine j_i2l (pc := 241) hX dX14_findGross_241 ?_
  refine j_lmul (pc := 242) hX dX14_findGross_242 ?_
  refine j_ldc2 (pc := 243) hX q1921 dX14_findGross_243 ?_
  obtain ⟨x64, w63, hc_, hf⟩ := zB2_e hf
  refine j_callSN (pc := 246) hX mt_X1_rounded q1922 q1186 [vL (x43 * (Int32.toInt64 x62)), vL (1000 : Int64)] rfl rfl (Nat.le_of_ble_eq_true rfl) (by decide) dX14_findGross_246 (k_X1_rounded _ _ hc_) ?_
  obtain ⟨x66, w65, hc_, hf⟩ := zB2_e hf
  refine j_callS (pc := 249) hX mt_J7_max_2 q1916 q1095 [vL (0 : Int64), vL x64] rfl rfl (Nat.le_of_ble_eq_true rfl) (by decide) dX14_findGross_249 (k_J7_max_2 _ _ hc_) ?_
  refine j_lastore (pc := 252) hX dX14_findGross_252 hf (fun w67 hf => ?_)
  refine j_aload_n (pc := 253) hX dX14_findGross_253 rfl ?_
  refine j_getA (pc := 254) hX kX14 (k := 13) (Nat.le_of_ble_eq_true rfl) q1972 (Or.inl rfl) dX14_findGross_254 hf (fun x68 hx_ hf => ?_)
  refine j_iload_n (pc := 257) hX dX14_findGross_257 rfl ?_
  refine j_lload_n (pc := 258) hX dX14_findGross_258 rfl ?_
  refine j_aload_n (pc := 259) hX dX14_findGross_259 rfl ?_
  refine j_getA (pc := 260) hX kX14 (k := 11) (Nat.le_of_ble_eq_true rfl) q1968 (Or.inl rfl) dX14_findGross_260 hf (fun x69 hx_ hf => ?_)
  refine j_iload_n (pc := 263) hX dX14_findGross_263 rfl ?_
  refine j_laload (pc := 264) hX dX14_findGross_264 hf (fun x70 hx_ hf => ?_)
  refine j_lsub (pc := 265) hX dX14_findGross_265 ?_
  refine j_lastore (pc := 266) hX dX14_findGross_266 hf (fun w71 hf => ?_)
  exact j_return (pc := 267) hX hQ (by cases hf; rfl) dX14_findGross_267
def f_X14_findTax_L40b (n : Nat) (c0 : Option Nat) (c1 : Int32) (c2 : Int32) (c3 : Int32) (rec : Int32 → zWd → Option (zWd)) (v4 : Int32) (w : zWd) : Option (zWd) :=
  if (3 : Int32) ≤ v4 then
    some w
  else
    (gA w 13 9 c0).bind fun x10 =>
    (aL w x10 v4).bind fun x11 =>
    (gA w 13 4 c0).bind fun x12 =>
    (aL w x12 ((c1 * (3 : Int32)) + v4)).bind fun x13 =>
    (gA w 13 5 c0).bind fun x14 =>
    (aL w x14 ((c1 * (3 : Int32)) + v4)).bind fun x15 =>
    (gA w 13 3 c0).bind fun x16 =>
    (aI w x16 c1).bind fun x17 =>
    (
      if v4 = x17 then
        (gA w 13 11 c0).bind fun x18 =>
        (aL w x18 c1).bind fun x19 =>
        some x19
      else
        some (0 : Int64)
      ).bind fun x20 =>
    (sL w x10 v4 (x11 + ((x13 - x15) - x20))).bind fun w21 =>
    (gA w21 13 9 c0).bind fun x22 =>
    (aL w21 x22 v4).bind fun x23 =>
    zB2 (f_J7_max_2 n (0 : Int64) x23 w21) fun x25 w24 =>
    if (Int32.toInt64 c2) = (0 : Int64) then none else
    (gA w24 13 6 c0).bind fun x26 =>
    (gA w24 13 17 c0).bind fun x27 =>
    zB2 (zV (isC w24 0 x27) (f_X1_taxOf n x27 v4 c3 c1 ((x25 * (12 : Int64)) / (Int32.toInt64 c2)) w24)) fun x29 w28 =>
    (gA w28 13 10 c0).bind fun x30 =>
    (aL w28 x30 v4).bind fun x31 =>
    (sL w28 x26 ((c1 * (3 : Int32)) + v4) (((x29 * (Int32.toInt64 c2)) / (12 : Int64)) - x31)).bind fun w32 =>
    (gA w32 13 10 c0).bind fun x33 =>
    (aL w32 x33 v4).bind fun x34 =>
    (gA w32 13 6 c0).bind fun x35 =>
    (aL w32 x35 ((c1 * (3 : Int32)) + v4)).bind fun x36 =>
    (sL w32 x33 v4 (x34 + x36)).bind fun w37 =>
    (gA w37 13 13 c0).bind fun x38 =>
    (aL w37 x38 c1).bind fun x39 =>
    (gA w37 13 5 c0).bind fun x40 =>
    (aL w37 x40 ((c1 * (3 : Int32)) + v4)).bind fun x41 =>
    (gA w37 13 6 c0).bind fun x42 =>
    (aL w37 x42 ((c1 * (3 : Int32)) + v4)).bind fun x43 =>
    (sL w37 x38 c1 (x39 - (x41 + x43))).bind fun w44 =>
    rec (v4 + (1)) w44
def f_X14_findTax_L40 (n : Nat) (c0 : Option Nat) (c1 : Int32) (c2 : Int32) (c3 : Int32) : Nat → Int32 → zWd → Option (zWd)
  | 0, _, _ => none
  | k + 1, v4, w => f_X14_findTax_L40b n c0 c1 c2 c3 (f_X14_findTax_L40 n c0 c1 c2 c3 k) v4 w
def f_X14_findTax (n : Nat) (a0 : Option Nat) (a1 : Int32) (w : zWd) : Option zWd :=
  (gA w 13 17 a0).bind fun x1 =>
  (gA w 0 11 x1).bind fun x2 =>
  (gI w 13 0 a0).bind fun x3 =>
  zB2 (zV (isC w 18 x2) (f_J2_get n x2 x3 w)) fun x5 w4 =>
  (cK w4 [1] x5).bind fun _ =>
  zB2 (zV (isC w4 1 x5) (f_X2_at n x5 a1 w4)) fun x7 w6 =>
  (cK w6 [20] x7).bind fun _ =>
  zB2 (zV (isC w6 20 x7) (f_J10_intValue n x7 w6)) fun x9 w8 =>
  (f_X14_findTax_L40 n a0 a1 ((a1 - a1 / (12 : Int32) * (12 : Int32)) + (1 : Int32)) x9 n (0 : Int32) w8).bind fun w45 =>
  some w45
theorem mt_X14_findTax : zMt yX14_findTax cX14_findTax 8 none 1 := ⟨q1927, q111, ⟨by decide, by decide⟩, by decide +kernel, by decide⟩
set_option maxHeartbeats 4000000 in
theorem lp_X14_findTax_L40 {X : zX} (hX : zGd X RX14 cX14_findTax 8 none 9) (n : Nat) (c0 : Option Nat) (c1 : Int32) (c2 : Int32) (c3 : Int32) : ∀ (k : Nat) (v4 : Int32) (w : zWd) (w9 : zWd) , f_X14_findTax_L40 n c0 c1 c2 c3 k v4 w = some w9 → zJ X 203 [some (vA c0), some (vI c1), some (vI c2), some (vI c3), none, none, none, none] [] w9 → zJ X 40 [some (vA c0), some (vI c1), some (vI c2), some (vI c3), some (vI v4), none, none, none] [] w := by
  intro k
  induction k with
  | zero => intro v4 w w9 hf _; exact nomatch (show (none : Option (zWd)) = _ from hf)
  | succ k ih =>
    intro v4 w w9 hf kx
    have hf : f_X14_findTax_L40b n c0 c1 c2 c3 (f_X14_findTax_L40 n c0 c1 c2 c3 k) v4 w = _ := hf
    unfold f_X14_findTax_L40b at hf
    refine j_iload (pc := 40) hX dX14_findTax_40 rfl ?_
    refine j_iconst (pc := 42) hX (3 : Int32) dX14_findTax_42 rfl ?_
    refine j_icmp_ge (pc := 43) hX 203 dX14_findTax_43 rfl hf (fun h_ hf => ?_) (fun h_ hf => ?_)
    · refine j_fg [4] [some (vA c0), some (vI c1), some (vI c2), some (vI c3), none, none, none, none] rfl ?_
      cases hf
      exact kx
    · refine j_iload_n (pc := 46) hX dX14_findTax_46 rfl ?_
      refine j_iconst (pc := 47) hX (3 : Int32) dX14_findTax_47 rfl ?_
      refine j_imul (pc := 48) hX dX14_findTax_48 ?_
      refine j_iload (pc := 49) hX dX14_findTax_49 rfl ?_
      refine j_iadd (pc := 51) hX dX14_findTax_51 ?_
      refine j_istore (pc := 52) hX dX14_findTax_52 (by decide) [some (vA c0), some (vI c1), some (vI c2), some (vI c3), some (vI v4), some (vI ((c1 * (3 : Int32)) + v4)), none, none] rfl ?_
      refine j_aload_n (pc := 54) hX dX14_findTax_54 rfl ?_
      refine j_getA (pc := 55) hX kX14 (k := 9) (Nat.le_of_ble_eq_true rfl) q1966 (Or.inl rfl) dX14_findTax_55 hf (fun x10 hx_ hf => ?_)
      refine j_iload (pc := 58) hX dX14_findTax_58 rfl ?_
      refine j_dup2 (pc := 60) hX rfl rfl dX14_findTax_60 ?_
      refine j_laload (pc := 61) hX dX14_findTax_61 hf (fun x11 hx_ hf => ?_)
      refine j_aload_n (pc := 62) hX dX14_findTax_62 rfl ?_
      refine j_getA (pc := 63) hX kX14 (k := 4) (Nat.le_of_ble_eq_true rfl) q1958 (Or.inl rfl) dX14_findTax_63 hf (fun x12 hx_ hf => ?_)
      refine j_iload (pc := 66) hX dX14_findTax_66 rfl ?_
      refine j_laload (pc := 68) hX dX14_findTax_68 hf (fun x13 hx_ hf => ?_)
      refine j_aload_n (pc := 69) hX dX14_findTax_69 rfl ?_
      refine j_getA (pc := 70) hX kX14 (k := 5) (Nat.le_of_ble_eq_true rfl) q1960 (Or.inl rfl) dX14_findTax_70 hf (fun x14 hx_ hf => ?_)
      refine j_iload (pc := 73) hX dX14_findTax_73 rfl ?_
      refine j_laload (pc := 75) hX dX14_findTax_75 hf (fun x15 hx_ hf => ?_)
      refine j_lsub (pc := 76) hX dX14_findTax_76 ?_
      refine j_iload (pc := 77) hX dX14_findTax_77 rfl ?_
      refine j_aload_n (pc := 79) hX dX14_findTax_79 rfl ?_
      refine j_getA (pc := 80) hX kX14 (k := 3) (Nat.le_of_ble_eq_true rfl) q1957 (Or.inl rfl) dX14_findTax_80 hf (fun x16 hx_ hf => ?_)
      refine j_iload_n (pc := 83) hX dX14_findTax_83 rfl ?_
      refine j_iaload (pc := 84) hX dX14_findTax_84 hf (fun x17 hx_ hf => ?_)
      obtain ⟨x20, hm_, hf⟩ := zob hf
      have kj85 : zJ X 98 [some (vA c0), some (vI c1), some (vI c2), some (vI c3), some (vI v4), some (vI ((c1 * (3 : Int32)) + v4)), none, none] [vL x20, vL (x13 - x15), vL x11, vI v4, vA x10] w := by
        clear hm_
        refine j_lsub (pc := 98) hX dX14_findTax_98 ?_
        refine j_ladd (pc := 99) hX dX14_findTax_99 ?_
        refine j_lastore (pc := 100) hX dX14_findTax_100 hf (fun w21 hf => ?_)
        refine j_lconst (pc := 101) hX (0 : Int64) dX14_findTax_101 rfl ?_
        refine j_aload_n (pc := 102) hX dX14_findTax_102 rfl ?_
        refine j_getA (pc := 103) hX kX14 (k := 9) (Nat.le_of_ble_eq_true rfl) q1966 (Or.inl rfl) dX14_findTax_103 hf (fun x22 hx_ hf => ?_)
        refine j_iload (pc := 106) hX dX14_findTax_106 rfl ?_
        refine j_laload (pc := 108) hX dX14_findTax_108 hf (fun x23 hx_ hf => ?_)
        obtain ⟨x25, w24, hc_, hf⟩ := zB2_e hf
        refine j_callS (pc := 109) hX mt_J7_max_2 q1916 q1095 [vL (0 : Int64), vL x23] rfl rfl (Nat.le_of_ble_eq_true rfl) (by decide) dX14_findTax_109 (k_J7_max_2 _ _ hc_) ?_
        refine j_ldc2 (pc := 112) hX q1928 dX14_findTax_112 ?_
        refine j_lmul (pc := 115) hX dX14_findTax_115 ?_
        refine j_iload_n (pc := 116) hX dX14_findTax_116 rfl ?_
        refine j_i2l (pc := 117) hX dX14_findTax_117 ?_
        obtain ⟨hne_, hf⟩ := zGd_e hf
        refine j_ldiv (pc := 118) hX dX14_findTax_118 hne_ ?_
        refine j_lstore (pc := 119) hX dX14_findTax_119 (by decide) [some (vA c0), some (vI c1), some (vI c2), some (vI c3), some (vI v4), some (vI ((c1 * (3 : Int32)) + v4)), some (vL ((x25 * (12 : Int64)) / (Int32.toInt64 c2))), none] rfl ?_
        refine j_aload_n (pc := 121) hX dX14_findTax_121 rfl ?_
        refine j_getA (pc := 122) hX kX14 (k := 6) (Nat.le_of_ble_eq_true rfl) q1962 (Or.inl rfl) dX14_findTax_122 hf (fun x26 hx_ hf => ?_)
        refine j_iload (pc := 125) hX dX14_findTax_125 rfl ?_
        refine j_aload_n (pc := 127) hX dX14_findTax_127 rfl ?_
        refine j_getA (pc := 128) hX kX14 (k := 17) (Nat.le_of_ble_eq_true rfl) q1978 (Or.inl rfl) dX14_findTax_128 hf (fun x27 hx_ hf => ?_)
        refine j_iload (pc := 131) hX dX14_findTax_131 rfl ?_
        refine j_iload_n (pc := 133) hX dX14_findTax_133 rfl ?_
        refine j_iload_n (pc := 134) hX dX14_findTax_134 rfl ?_
        refine j_lload (pc := 135) hX dX14_findTax_135 rfl ?_
        obtain ⟨x29, w28, hc_, hf⟩ := zB2_e hf
        obtain ⟨hi_, hc_⟩ := zV_e hc_
        refine j_callVN (pc := 137) hX (ci := 0) mt_X1_taxOf q1929 q1548 qs19 hi_ ⟨_, rfl, rfl⟩ [vI v4, vI c3, vI c1, vL ((x25 * (12 : Int64)) / (Int32.toInt64 c2))] rfl rfl (Nat.le_of_ble_eq_true rfl) (by decide) dX14_findTax_137 (k_X1_taxOf _ _ hc_) ?_
        refine j_iload_n (pc := 140) hX dX14_findTax_140 rfl ?_
        refine j_i2l (pc := 141) hX dX14_findTax_141 ?_
        refine j_lmul (pc := 142) hX dX14_findTax_142 ?_
        refine j_ldc2 (pc := 143) hX q1928 dX14_findTax_143 ?_
        refine j_ldiv (pc := 146) hX dX14_findTax_146 (by decide) ?_
        refine j_aload_n (pc := 147) hX dX14_findTax_147 rfl ?_
        refine j_getA (pc := 148) hX kX14 (k := 10) (Nat.le_of_ble_eq_true rfl) q1967 (Or.inl rfl) dX14_findTax_148 hf (fun x30 hx_ hf => ?_)
        refine j_iload (pc := 151) hX dX14_findTax_151 rfl ?_
        refine j_laload (pc := 153) hX dX14_findTax_153 hf (fun x31 hx_ hf => ?_)
        refine j_lsub (pc := 154) hX dX14_findTax_154 ?_
        refine j_lastore (pc := 155) hX dX14_findTax_155 hf (fun w32 hf => ?_)
        refine j_aload_n (pc := 156) hX dX14_findTax_156 rfl ?_
        refine j_getA (pc := 157) hX kX14 (k := 10) (Nat.le_of_ble_eq_true rfl) q1967 (Or.inl rfl) dX14_findTax_157 hf (fun x33 hx_ hf => ?_)
        refine j_iload (pc := 160) hX dX14_findTax_160 rfl ?_
        refine j_dup2 (pc := 162) hX rfl rfl dX14_findTax_162 ?_
        refine j_laload (pc := 163) hX dX14_findTax_163 hf (fun x34 hx_ hf => ?_)
        refine j_aload_n (pc := 164) hX dX14_findTax_164 rfl ?_
        refine j_getA (pc := 165) hX kX14 (k := 6) (Nat.le_of_ble_eq_true rfl) q1962 (Or.inl rfl) dX14_findTax_165 hf (fun x35 hx_ hf => ?_)
        refine j_iload (pc := 168) hX dX14_findTax_168 rfl ?_
        refine j_laload (pc := 170) hX dX14_findTax_170 hf (fun x36 hx_ hf => ?_)
        refine j_ladd (pc := 171) hX dX14_findTax_171 ?_
        refine j_lastore (pc := 172) hX dX14_findTax_172 hf (fun w37 hf => ?_)
        refine j_aload_n (pc := 173) hX dX14_findTax_173 rfl ?_
        refine j_getA (pc := 174) hX kX14 (k := 13) (Nat.le_of_ble_eq_true rfl) q1972 (Or.inl rfl) dX14_findTax_174 hf (fun x38 hx_ hf => ?_)
        refine j_iload_n (pc := 177) hX dX14_findTax_177 rfl ?_
        refine j_dup2 (pc := 178) hX rfl rfl dX14_findTax_178 ?_
        refine j_laload (pc := 179) hX dX14_findTax_179 hf (fun x39 hx_ hf => ?_)
        refine j_aload_n (pc := 180) hX dX14_findTax_180 rfl ?_
        refine j_getA (pc := 181) hX kX14 (k := 5) (Nat.le_of_ble_eq_true rfl) q1960 (Or.inl rfl) dX14_findTax_181 hf (fun x40 hx_ hf => ?_)
        refine j_iload (pc := 184) hX dX14_findTax_184 rfl ?_
        refine j_laload (pc := 186) hX dX14_findTax_186 hf (fun x41 hx_ hf => ?_)
        refine j_aload_n (pc := 187) hX dX14_findTax_187 rfl ?_
        refine j_getA (pc := 188) hX kX14 (k := 6) (Nat.le_of_ble_eq_true rfl) q1962 (Or.inl rfl) dX14_findTax_188 hf (fun x42 hx_ hf => ?_)
        refine j_iload (pc := 191) hX dX14_findTax_191 rfl ?_
        refine j_laload (pc := 193) hX dX14_findTax_193 hf (fun x43 hx_ hf => ?_)
        refine j_ladd (pc := 194) hX dX14_findTax_194 ?_
        refine j_lsub (pc := 195) hX dX14_findTax_195 ?_
        refine j_lastore (pc := 196) hX dX14_findTax_196 hf (fun w44 hf => ?_)
        refine j_iinc (pc := 197) hX (1) dX14_findTax_197 rfl rfl (by decide) [some (vA c0), some (vI c1), some (vI c2), some (vI c3), some (vI (v4 + (1))), some (vI ((c1 * (3 : Int32)) + v4)), some (vL ((x25 * (12 : Int64)) / (Int32.toInt64 c2))), none] rfl ?_
        refine j_goto (pc := 200) hX 40 dX14_findTax_200 rfl ?_
        refine j_fg [5, 6] [some (vA c0), some (vI c1), some (vI c2), some (vI c3), some (vI (v4 + (1))), none, none, none] rfl ?_
        exact ih _ _ _ hf kx
      have hf := hm_
      refine j_icmp_ne (pc := 85) hX 97 dX14_findTax_85 rfl hf (fun h_ hf => ?_) (fun h_ hf => ?_)
      · refine j_lconst (pc := 97) hX (0 : Int64) dX14_findTax_97 rfl ?_
        cases hf
        exact kj85
      · refine j_aload_n (pc := 88) hX dX14_findTax_88 rfl ?_
        refine j_getA (pc := 89) hX kX14 (k := 11) (Nat.le_of_ble_eq_true rfl) q1968 (Or.inl rfl) dX14_findTax_89 hf (fun x18 hx_ hf => ?_)
        refine j_iload_n (pc := 92) hX dX14_findTax_92 rfl ?_
        refine j_laload (pc := 93) hX dX14_findTax_93 hf (fun x19 hx_ hf => ?_)
        refine j_goto (pc := 94) hX 98 dX14_findTax_94 rfl ?_
        cases hf
        exact kj85
set_option maxHeartbeats 4000000 in
theorem k_X14_findTax {l : Launch} {n : Nat} {a0 : Option Nat} {a1 : Int32} {w : zWd} (r : Unit) (w9 : zWd) (hf : f_X14_findTax n a0 a1 w = some w9) : zCt l yX14_findTax cX14_findTax 8 none 9 [vA a0, vI a1] w (.inr (none, w9)) := by
  refine zCt_of (lv := [some (vA a0), some (vI a1), none, none, none, none, none, none]) (by decide +kernel) 6 rfl rfl ?_
  intro X hX hI hN hQ
  have hX : zGd X RX14 cX14_findTax 8 none 9 := hX
  unfold f_X14_findTax at hf
  refine j_iload_n (pc := 0) hX dX14_findTax_0 rfl ?_
  refine j_bipush (pc := 1) hX (12 : Int32) dX14_findTax_1 (by decide +kernel) ?_
  refine j_irem (pc := 3) hX dX14_findTax_3 (by decide) ?_
  refine j_iconst (pc := 4) hX (1 : Int32) dX14_findTax_4 rfl ?_
  refine j_iadd (pc := 5) hX dX14_findTax_5 ?_
  refine j_istore_n (pc := 6) hX dX14_findTax_6 (by decide) [some (vA a0), some (vI a1), some (vI ((a1 - a1 / (12 : Int32) * (12 : Int32)) + (1 : Int32))), none, none, none, none, none] rfl ?_
  refine j_aload_n (pc := 7) hX dX14_findTax_7 rfl ?_
  refine j_getA (pc := 8) hX kX14 (k := 17) (Nat.le_of_ble_eq_true rfl) q1978 (Or.inl rfl) dX14_findTax_8 hf (fun x1 hx_ hf => ?_)
  refine j_getAN (pc := 11) hX kX1 (k := 11) (Nat.le_of_ble_eq_true rfl) q350 rfl dX14_findTax_11 hf (fun x2 hx_ hf => ?_)
  refine j_aload_n (pc := 14) hX dX14_findTax_14 rfl ?_
  refine j_getI (pc := 15) hX kX14 (k := 0) (Nat.le_of_ble_eq_true rfl) q1953 (Or.inl rfl) dX14_findTax_15 hf (fun x3 hx_ hf => ?_)
  obtain ⟨x5, w4, hc_, hf⟩ := zB2_e hf
  obtain ⟨hi_, hc_⟩ := zV_e hc_
  refine j_callF (pc := 18) hX (ci := 18) mt_J2_get q1595 q970 q968 (by decide +kernel) rfl hi_ ⟨_, rfl, rfl⟩ [vI x3] rfl rfl (Nat.le_of_ble_eq_true rfl) (by decide) dX14_findTax_18 (k_J2_get _ _ hc_) ?_
  refine j_cast (pc := 23) hX q1908 [1] (zC1 ⟨_, rfl, Or.inl rfl⟩) dX14_findTax_23 hf (fun hf => ?_)
  refine j_iload_n (pc := 26) hX dX14_findTax_26 rfl ?_
  obtain ⟨x7, w6, hc_, hf⟩ := zB2_e hf
  obtain ⟨hi_, hc_⟩ := zV_e hc_
  refine j_callV (pc := 27) hX (ci := 1) mt_X2_at q1909 q1551 q1552 hi_ ⟨_, rfl, rfl⟩ [vI a1] rfl rfl (Nat.le_of_ble_eq_true rfl) (by decide) dX14_findTax_27 (k_X2_at _ _ hc_) ?_
  refine j_cast (pc := 30) hX q1603 [20] (zC1 ⟨_, rfl, Or.inl rfl⟩) dX14_findTax_30 hf (fun hf => ?_)
  obtain ⟨x9, w8, hc_, hf⟩ := zB2_e hf
  obtain ⟨hi_, hc_⟩ := zV_e hc_
  refine j_callV (pc := 33) hX (ci := 20) mt_J10_intValue q1604 q913 q914 hi_ ⟨_, rfl, rfl⟩ [] rfl rfl (Nat.le_of_ble_eq_true rfl) (by decide) dX14_findTax_33 (k_J10_intValue _ _ hc_) ?_
  refine j_istore_n (pc := 36) hX dX14_findTax_36 (by decide) [some (vA a0), some (vI a1), some (vI ((a1 - a1 / (12 : Int32) * (12 : Int32)) + (1 : Int32))), some (vI x9), none, none, none, none] rfl ?_
  refine j_iconst (pc := 37) hX (0 : Int32) dX14_findTax_37 rfl ?_
  refine j_istore (pc := 38) hX dX14_findTax_38 (by decide) [some (vA a0), some (vI a1), some (vI ((a1 - a1 / (12 : Int32) * (12 : Int32)) + (1 : Int32))), some (vI x9), some (vI (0 : Int32)), none, none, none] rfl ?_
  obtain ⟨w45, hm_, hf⟩ := zob hf
  refine lp_X14_findTax_L40 hX n _ _ _ _ _ _ _ _ hm_ ?_
  exact j_return (pc := 203) hX hQ (by cases hf; rfl) dX14_findTax_203
