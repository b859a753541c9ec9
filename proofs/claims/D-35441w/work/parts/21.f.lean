set_option maxRecDepth 100000
def f_J0_init (n : Nat) (a0 : Option Nat) (w : zWd) : Option zWd :=
  if a0 = none then none else
  some w
theorem mt_J0_init : zMt yJ0_init cJ0_init 1 none 0 := ⟨q136, q67, ⟨by decide, by decide⟩, by decide +kernel, by decide⟩
set_option maxHeartbeats 4000000 in
theorem k_J0_init {l : Launch} {n : Nat} {a0 : Option Nat} {w : zWd} (r : Unit) (w9 : zWd) (hf : f_J0_init n a0 w = some w9) : zCt l yJ0_init cJ0_init 1 none 1 [vA a0] w (.inr (none, w9)) := by
  refine zCt_of (lv := [some (vA a0)]) (by decide +kernel) 0 rfl rfl ?_
  intro X hX hI hN hQ
  have hX : zGd X RJ0 cJ0_init 1 none 1 := hX
  unfold f_J0_init at hf
  refine j_aload_n (pc := 0) hX dJ0_init_0 rfl ?_
  obtain ⟨hne_, hf⟩ := zGd_e hf
  refine j_objInit (pc := 1) hX (by decide) q137 q124 q125 (by rw [zCs_eq]; exact Nat.le_of_ble_eq_true rfl) dJ0_init_1 hne_ ?_
  exact j_return (pc := 4) hX hQ (by cases hf; rfl) dJ0_init_4
def f_J1_init (n : Nat) (a0 : Option Nat) (w : zWd) : Option zWd :=
  (zV (decide (a0 ≠ none)) (f_J0_init n a0 w)).bind fun w1 =>
  (pI w1 18 0 a0 (0 : Int32)).bind fun w2 =>
  some w2
theorem mt_J1_init : zMt yJ1_init cJ1_init 1 none 0 := ⟨q133, q68, ⟨by decide, by decide⟩, by decide +kernel, by decide⟩
set_option maxHeartbeats 4000000 in
theorem k_J1_init {l : Launch} {n : Nat} {a0 : Option Nat} {w : zWd} (r : Unit) (w9 : zWd) (hf : f_J1_init n a0 w = some w9) : zCt l yJ1_init cJ1_init 1 none 2 [vA a0] w (.inr (none, w9)) := by
  refine zCt_of (lv := [some (vA a0)]) (by decide +kernel) 0 rfl rfl ?_
  intro X hX hI hN hQ
  have hX : zGd X RJ1 cJ1_init 1 none 2 := hX
  unfold f_J1_init at hf
  refine j_aload_n (pc := 0) hX dJ1_init_0 rfl ?_
  obtain ⟨w1, hc_, hf⟩ := zob hf
  obtain ⟨hi_, hc_⟩ := zV_e hc_
  refine j_callI (pc := 1) hX mt_J0_init q134 q135 rfl rfl [] rfl rfl (Nat.le_of_ble_eq_true rfl) (by decide) dJ1_init_1 (of_decide_eq_true hi_) (k_J0_init () _ hc_) ?_
  refine j_aload_n (pc := 4) hX dJ1_init_4 rfl ?_
  refine j_iconst (pc := 5) hX (0 : Int32) dJ1_init_5 rfl ?_
  refine j_putI (pc := 6) hX kJ2 (k := 0) (Nat.le_of_ble_eq_true rfl) q144 (Or.inl rfl) rfl rfl dJ1_init_6 hf (fun w2 hf => ?_)
  exact j_return (pc := 9) hX hQ (by cases hf; rfl) dJ1_init_9
def f_J2_init (n : Nat) (a0 : Option Nat) (w : zWd) : Option zWd :=
  (zV (decide (a0 ≠ none)) (f_J1_init n a0 w)).bind fun w1 =>
  (stA w1 2).bind fun x2 =>
  (pA w1 18 1 a0 x2).bind fun w3 =>
  some w3
theorem mt_J2_init : zMt yJ2_init cJ2_init 1 none 0 := ⟨q130, q69, ⟨by decide, by decide⟩, by decide +kernel, by decide⟩
set_option maxHeartbeats 4000000 in
theorem k_J2_init {l : Launch} {n : Nat} {a0 : Option Nat} {w : zWd} (r : Unit) (w9 : zWd) (hf : f_J2_init n a0 w = some w9) : zCt l yJ2_init cJ2_init 1 none 3 [vA a0] w (.inr (none, w9)) := by
  refine zCt_of (lv := [some (vA a0)]) (by decide +kernel) 0 rfl rfl ?_
  intro X hX hI hN hQ
  have hX : zGd X RJ2 cJ2_init 1 none 3 := hX
  unfold f_J2_init at hf
  refine j_aload_n (pc := 0) hX dJ2_init_0 rfl ?_
  obtain ⟨w1, hc_, hf⟩ := zob hf
  obtain ⟨hi_, hc_⟩ := zV_e hc_
  refine j_callI (pc := 1) hX mt_J1_init q131 q132 rfl rfl [] rfl rfl (Nat.le_of_ble_eq_true rfl) (by decide) dJ2_init_1 (of_decide_eq_true hi_) (k_J1_init () _ hc_) ?_
  refine j_aload_n (pc := 4) hX dJ2_init_4 rfl ?_
  refine j_gets2 (pc := 5) hX q138 dJ2_init_5 hf (fun x2 hx_ hf => ?_)
  refine j_putA (pc := 8) hX kJ2 (k := 1) (Nat.le_of_ble_eq_true rfl) q140 (Or.inl rfl) rfl rfl dJ2_init_8 hf (fun w3 hf => ?_)
  exact j_return (pc := 11) hX hQ (by cases hf; rfl) dJ2_init_11
def f_J3_init (n : Nat) (a0 : Option Nat) (w : zWd) : Option zWd :=
  if a0 = none then none else
  some w
theorem mt_J3_init : zMt yJ3_init cJ3_init 1 none 0 := ⟨q171, q71, ⟨by decide, by decide⟩, by decide +kernel, by decide⟩
set_option maxHeartbeats 4000000 in
theorem k_J3_init {l : Launch} {n : Nat} {a0 : Option Nat} {w : zWd} (r : Unit) (w9 : zWd) (hf : f_J3_init n a0 w = some w9) : zCt l yJ3_init cJ3_init 1 none 1 [vA a0] w (.inr (none, w9)) := by
  refine zCt_of (lv := [some (vA a0)]) (by decide +kernel) 0 rfl rfl ?_
  intro X hX hI hN hQ
  have hX : zGd X RJ3 cJ3_init 1 none 1 := hX
  unfold f_J3_init at hf
  refine j_aload_n (pc := 0) hX dJ3_init_0 rfl ?_
  obtain ⟨hne_, hf⟩ := zGd_e hf
  refine j_objInit (pc := 1) hX (by decide) q172 q124 q125 (by rw [zCs_eq]; exact Nat.le_of_ble_eq_true rfl) dJ3_init_1 hne_ ?_
  exact j_return (pc := 4) hX hQ (by cases hf; rfl) dJ3_init_4
def f_X3_init (n : Nat) (a0 : Option Nat) (a1 : Int32) (a2 : Int32) (w : zWd) : Option zWd :=
  (zV (decide (a0 ≠ none)) (f_J3_init n a0 w)).bind fun w1 =>
  (pI w1 2 0 a0 a1).bind fun w2 =>
  (pI w2 2 1 a0 a2).bind fun w3 =>
  some w3
theorem mt_X3_init : zMt yX3_init cX3_init 3 none 2 := ⟨q168, q72, ⟨by decide, by decide⟩, by decide +kernel, by decide⟩
set_option maxHeartbeats 4000000 in
theorem k_X3_init {l : Launch} {n : Nat} {a0 : Option Nat} {a1 : Int32} {a2 : Int32} {w : zWd} (r : Unit) (w9 : zWd) (hf : f_X3_init n a0 a1 a2 w = some w9) : zCt l yX3_init cX3_init 3 none 2 [vA a0, vI a1, vI a2] w (.inr (none, w9)) := by
  refine zCt_of (lv := [some (vA a0), some (vI a1), some (vI a2)]) (by decide +kernel) 0 rfl rfl ?_
  intro X hX hI hN hQ
  have hX : zGd X RX3 cX3_init 3 none 2 := hX
  unfold f_X3_init at hf
  refine j_aload_n (pc := 0) hX dX3_init_0 rfl ?_
  obtain ⟨w1, hc_, hf⟩ := zob hf
  obtain ⟨hi_, hc_⟩ := zV_e hc_
  refine j_callI (pc := 1) hX mt_J3_init q169 q170 rfl rfl [] rfl rfl (Nat.le_of_ble_eq_true rfl) (by decide) dX3_init_1 (of_decide_eq_true hi_) (k_J3_init () _ hc_) ?_
  refine j_aload_n (pc := 4) hX dX3_init_4 rfl ?_
  refine j_iload_n (pc := 5) hX dX3_init_5 rfl ?_
  refine j_putIF (pc := 6) hX hI kX3 (k := 0) (Nat.le_of_ble_eq_true rfl) q173 rfl rfl rfl rfl dX3_init_6 hf (fun w2 hf => ?_)
  refine j_aload_n (pc := 9) hX dX3_init_9 rfl ?_
  refine j_iload_n (pc := 10) hX dX3_init_10 rfl ?_
  refine j_putIF (pc := 11) hX hI kX3 (k := 1) (Nat.le_of_ble_eq_true rfl) q174 rfl rfl rfl rfl dX3_init_11 hf (fun w3 hf => ?_)
  exact j_return (pc := 14) hX hQ (by cases hf; rfl) dX3_init_14
def f_J4_init (n : Nat) (a0 : Option Nat) (w : zWd) : Option zWd :=
  if a0 = none then none else
  some w
theorem mt_J4_init : zMt yJ4_init cJ4_init 1 none 0 := ⟨q193, q73, ⟨by decide, by decide⟩, by decide +kernel, by decide⟩
set_option maxHeartbeats 4000000 in
theorem k_J4_init {l : Launch} {n : Nat} {a0 : Option Nat} {w : zWd} (r : Unit) (w9 : zWd) (hf : f_J4_init n a0 w = some w9) : zCt l yJ4_init cJ4_init 1 none 1 [vA a0] w (.inr (none, w9)) := by
  refine zCt_of (lv := [some (vA a0)]) (by decide +kernel) 0 rfl rfl ?_
  intro X hX hI hN hQ
  have hX : zGd X RJ4 cJ4_init 1 none 1 := hX
  unfold f_J4_init at hf
  refine j_aload_n (pc := 0) hX dJ4_init_0 rfl ?_
  obtain ⟨hne_, hf⟩ := zGd_e hf
  refine j_objInit (pc := 1) hX (by decide) q194 q124 q125 (by rw [zCs_eq]; exact Nat.le_of_ble_eq_true rfl) dJ4_init_1 hne_ ?_
  exact j_return (pc := 4) hX hQ (by cases hf; rfl) dJ4_init_4
def f_J5_init (n : Nat) (a0 : Option Nat) (w : zWd) : Option zWd :=
  (zV (decide (a0 ≠ none)) (f_J4_init n a0 w)).bind fun w1 =>
  (pI w1 19 4 a0 (0 : Int32)).bind fun w2 =>
  (pI w2 19 5 a0 (0 : Int32)).bind fun w3 =>
  (pA w3 19 2 a0 none).bind fun w4 =>
  some w4
theorem mt_J5_init : zMt yJ5_init cJ5_init 1 none 0 := ⟨q190, q74, ⟨by decide, by decide⟩, by decide +kernel, by decide⟩
set_option maxHeartbeats 4000000 in
theorem k_J5_init {l : Launch} {n : Nat} {a0 : Option Nat} {w : zWd} (r : Unit) (w9 : zWd) (hf : f_J5_init n a0 w = some w9) : zCt l yJ5_init cJ5_init 1 none 2 [vA a0] w (.inr (none, w9)) := by
  refine zCt_of (lv := [some (vA a0)]) (by decide +kernel) 0 rfl rfl ?_
  intro X hX hI hN hQ
  have hX : zGd X RJ5 cJ5_init 1 none 2 := hX
  unfold f_J5_init at hf
  refine j_aload_n (pc := 0) hX dJ5_init_0 rfl ?_
  obtain ⟨w1, hc_, hf⟩ := zob hf
  obtain ⟨hi_, hc_⟩ := zV_e hc_
  refine j_callI (pc := 1) hX mt_J4_init q191 q192 rfl rfl [] rfl rfl (Nat.le_of_ble_eq_true rfl) (by decide) dJ5_init_1 (of_decide_eq_true hi_) (k_J4_init () _ hc_) ?_
  refine j_aload_n (pc := 4) hX dJ5_init_4 rfl ?_
  refine j_iconst (pc := 5) hX (0 : Int32) dJ5_init_5 rfl ?_
  refine j_putI (pc := 6) hX kJ5 (k := 4) (Nat.le_of_ble_eq_true rfl) q197 (Or.inl rfl) rfl rfl dJ5_init_6 hf (fun w2 hf => ?_)
  refine j_aload_n (pc := 9) hX dJ5_init_9 rfl ?_
  refine j_iconst (pc := 10) hX (0 : Int32) dJ5_init_10 rfl ?_
  refine j_putI (pc := 11) hX kJ5 (k := 5) (Nat.le_of_ble_eq_true rfl) q198 (Or.inl rfl) rfl rfl dJ5_init_11 hf (fun w3 hf => ?_)
  refine j_aload_n (pc := 14) hX dJ5_init_14 rfl ?_
  refine j_null (pc := 15) hX dJ5_init_15 ?_
  refine j_putAF (pc := 16) hX hI kJ5 (k := 2) (Nat.le_of_ble_eq_true rfl) q195 rfl rfl rfl rfl dJ5_init_16 hf (fun w4 hf => ?_)
  exact j_return (pc := 19) hX hQ (by cases hf; rfl) dJ5_init_19
def f_X2_init (n : Nat) (a0 : Option Nat) (a1 : Option Nat) (w : zWd) : Option zWd :=
  if a0 = none then none else
  zB2 (zNew w 9 (.inr (19, df_J5))) fun x1 w2 =>
  (zV (decide (x1 ≠ none)) (f_J5_init n x1 w2)).bind fun w3 =>
  (pA w3 1 0 a0 x1).bind fun w4 =>
  (pA w4 1 1 a0 a1).bind fun w5 =>
  some w5
theorem mt_X2_init : zMt yX2_init cX2_init 2 none 1 := ⟨q184, q70, ⟨by decide, by decide⟩, by decide +kernel, by decide⟩
set_option maxHeartbeats 4000000 in
theorem k_X2_init {l : Launch} {n : Nat} {a0 : Option Nat} {a1 : Option Nat} {w : zWd} (r : Unit) (w9 : zWd) (hf : f_X2_init n a0 a1 w = some w9) : zCt l yX2_init cX2_init 2 none 3 [vA a0, vA a1] w (.inr (none, w9)) := by
  refine zCt_of (lv := [some (vA a0), some (vA a1)]) (by decide +kernel) 0 rfl rfl ?_
  intro X hX hI hN hQ
  have hX : zGd X RX2 cX2_init 2 none 3 := hX
  unfold f_X2_init at hf
  refine j_aload_n (pc := 0) hX dX2_init_0 rfl ?_
  obtain ⟨hne_, hf⟩ := zGd_e hf
  refine j_objInit (pc := 1) hX (by decide) q185 q124 q125 (by rw [zCs_eq]; exact Nat.le_of_ble_eq_true rfl) dX2_init_1 hne_ ?_
  refine j_aload_n (pc := 4) hX dX2_init_4 rfl ?_
  refine j_new (pc := 5) hX kJ5 q186 q187 q74 df_J5 df_J5_ok dX2_init_5 hf (fun x1 w2 hf => ?_)
  refine j_dup (pc := 8) hX rfl dX2_init_8 ?_
  obtain ⟨w3, hc_, hf⟩ := zob hf
  obtain ⟨hi_, hc_⟩ := zV_e hc_
  refine j_callI (pc := 9) hX mt_J5_init q188 q189 rfl rfl [] rfl rfl (Nat.le_of_ble_eq_true rfl) (by decide) dX2_init_9 (of_decide_eq_true hi_) (k_J5_init () _ hc_) ?_
  refine j_putAF (pc := 12) hX hI kX2 (k := 0) (Nat.le_of_ble_eq_true rfl) q218 rfl rfl rfl rfl dX2_init_12 hf (fun w4 hf => ?_)
  refine j_aload_n (pc := 15) hX dX2_init_15 rfl ?_
  refine j_aload_n (pc := 16) hX dX2_init_16 rfl ?_
  refine j_putAF (pc := 17) hX hI kX2 (k := 1) (Nat.le_of_ble_eq_true rfl) q219 rfl rfl rfl rfl dX2_init_17 hf (fun w5 hf => ?_)
  exact j_return (pc := 20) hX hQ (by cases hf; rfl) dX2_init_20
def f_J7_max (n : Nat) (a0 : Int32) (a1 : Int32) (w : zWd) : Option (Int32 × zWd) :=
  (
    if a0 < a1 then
      some a1
    else
      some a0
    ).bind fun x1 =>
  some (x1, w)
theorem mt_J7_max : zMt yJ7_max cJ7_max 2 (some .int) 2 := ⟨q252, q76, ⟨by decide, by decide⟩, by decide +kernel, by decide⟩
set_option maxHeartbeats 4000000 in
theorem k_J7_max {l : Launch} {n : Nat} {a0 : Int32} {a1 : Int32} {w : zWd} (r : Int32) (w9 : zWd) (hf : f_J7_max n a0 a1 w = some (r, w9)) : zCt l yJ7_max cJ7_max 2 (some .int) 1 [vI a0, vI a1] w (.inr (some (vI r), w9)) := by
  refine zCt_of (lv := [some (vI a0), some (vI a1)]) (by decide +kernel) 0 rfl rfl ?_
  intro X hX hI hN hQ
  have hX : zGd X RJ7 cJ7_max 2 (some .int) 1 := hX
  unfold f_J7_max at hf
  refine j_iload_n (pc := 0) hX dJ7_max_0 rfl ?_
  refine j_iload_n (pc := 1) hX dJ7_max_1 rfl ?_
  obtain ⟨x1, hm_, hf⟩ := zob hf
  have kj2 : zJ X 10 [none, none] [vI x1] w := by
    clear hm_
    exact j_ireturn (pc := 10) hX hQ (by cases hf; rfl) dJ7_max_10
  have hf := hm_
  refine j_icmp_lt (pc := 2) hX 9 dJ7_max_2 rfl hf (fun h_ hf => ?_) (fun h_ hf => ?_)
  · refine j_iload_n (pc := 9) hX dJ7_max_9 rfl ?_
    refine j_fg [0, 1] [none, none] rfl ?_
    cases hf
    exact kj2
  · refine j_iload_n (pc := 5) hX dJ7_max_5 rfl ?_
    refine j_goto (pc := 6) hX 10 dJ7_max_6 rfl ?_
    refine j_fg [0, 1] [none, none] rfl ?_
    cases hf
    exact kj2
def f_J6_newLength (n : Nat) (a0 : Int32) (a1 : Int32) (a2 : Int32) (w : zWd) : Option (Int32 × zWd) :=
  zB2 (f_J7_max n a1 a2 w) fun x2 w1 =>
  if (a0 + x2) ≤ (0 : Int32) then
    none
  else
    if (2147483639 : Int32) < (a0 + x2) then
      none
    else
      some ((a0 + x2), w1)
theorem mt_J6_newLength : zMt yJ6_newLength cJ6_newLength 4 (some .int) 3 := ⟨q249, q75, ⟨by decide, by decide⟩, by decide +kernel, by decide⟩
set_option maxHeartbeats 4000000 in
theorem k_J6_newLength {l : Launch} {n : Nat} {a0 : Int32} {a1 : Int32} {a2 : Int32} {w : zWd} (r : Int32) (w9 : zWd) (hf : f_J6_newLength n a0 a1 a2 w = some (r, w9)) : zCt l yJ6_newLength cJ6_newLength 4 (some .int) 2 [vI a0, vI a1, vI a2] w (.inr (some (vI r), w9)) := by
  refine zCt_of (lv := [some (vI a0), some (vI a1), some (vI a2), none]) (by decide +kernel) 1 rfl rfl ?_
  intro X hX hI hN hQ
  have hX : zGd X RJ6 cJ6_newLength 4 (some .int) 2 := hX
  unfold f_J6_newLength at hf
  refine j_iload_n (pc := 0) hX dJ6_newLength_0 rfl ?_
  refine j_iload_n (pc := 1) hX dJ6_newLength_1 rfl ?_
  refine j_iload_n (pc := 2) hX dJ6_newLength_2 rfl ?_
  obtain ⟨x2, w1, hc_, hf⟩ := zB2_e hf
  refine j_callS (pc := 3) hX mt_J7_max q250 q251 [vI a1, vI a2] rfl rfl (Nat.le_of_ble_eq_true rfl) (by decide) dJ6_newLength_3 (k_J7_max _ _ hc_) ?_
  refine j_iadd (pc := 6) hX dJ6_newLength_6 ?_
  refine j_istore_n (pc := 7) hX dJ6_newLength_7 (by decide) [some (vI a0), some (vI a1), some (vI a2), some (vI (a0 + x2))] rfl ?_
  refine j_iconst (pc := 8) hX (0 : Int32) dJ6_newLength_8 rfl ?_
  refine j_iload_n (pc := 9) hX dJ6_newLength_9 rfl ?_
  refine j_icmp_ge (pc := 10) hX 21 dJ6_newLength_10 rfl hf (fun h_ hf => ?_) (fun h_ hf => ?_)
  · refine j_iload_n (pc := 21) hX dJ6_newLength_21 rfl ?_
    refine j_iload_n (pc := 22) hX dJ6_newLength_22 rfl ?_
    cases hf
  · refine j_iload_n (pc := 13) hX dJ6_newLength_13 rfl ?_
    refine j_ldc (pc := 14) hX q253 dJ6_newLength_14 ?_
    refine j_icmp_gt (pc := 16) hX 21 dJ6_newLength_16 rfl hf (fun h_ hf => ?_) (fun h_ hf => ?_)
    · refine j_iload_n (pc := 21) hX dJ6_newLength_21 rfl ?_
      refine j_iload_n (pc := 22) hX dJ6_newLength_22 rfl ?_
      cases hf
    · refine j_iload_n (pc := 19) hX dJ6_newLength_19 rfl ?_
      exact j_ireturn (pc := 20) hX hQ (by cases hf; rfl) dJ6_newLength_20
def f_J7_min (n : Nat) (a0 : Int32) (a1 : Int32) (w : zWd) : Option (Int32 × zWd) :=
  (
    if a1 < a0 then
      some a1
    else
      some a0
    ).bind fun x1 =>
  some (x1, w)
theorem mt_J7_min : zMt yJ7_min cJ7_min 2 (some .int) 2 := ⟨q304, q76, ⟨by decide, by decide⟩, by decide +kernel, by decide⟩
set_option maxHeartbeats 4000000 in
theorem k_J7_min {l : Launch} {n : Nat} {a0 : Int32} {a1 : Int32} {w : zWd} (r : Int32) (w9 : zWd) (hf : f_J7_min n a0 a1 w = some (r, w9)) : zCt l yJ7_min cJ7_min 2 (some .int) 1 [vI a0, vI a1] w (.inr (some (vI r), w9)) := by
  refine zCt_of (lv := [some (vI a0), some (vI a1)]) (by decide +kernel) 0 rfl rfl ?_
  intro X hX hI hN hQ
  have hX : zGd X RJ7 cJ7_min 2 (some .int) 1 := hX
  unfold f_J7_min at hf
  refine j_iload_n (pc := 0) hX dJ7_min_0 rfl ?_
  refine j_iload_n (pc := 1) hX dJ7_min_1 rfl ?_
  obtain ⟨x1, hm_, hf⟩ := zob hf
  have kj2 : zJ X 10 [none, none] [vI x1] w := by
    clear hm_
    exact j_ireturn (pc := 10) hX hQ (by cases hf; rfl) dJ7_min_10
  have hf := hm_
  refine j_icmp_gt (pc := 2) hX 9 dJ7_min_2 rfl hf (fun h_ hf => ?_) (fun h_ hf => ?_)
  · refine j_iload_n (pc := 9) hX dJ7_min_9 rfl ?_
    refine j_fg [0, 1] [none, none] rfl ?_
    cases hf
    exact kj2
  · refine j_iload_n (pc := 5) hX dJ7_min_5 rfl ?_
    refine j_goto (pc := 6) hX 10 dJ7_min_6 rfl ?_
    refine j_fg [0, 1] [none, none] rfl ?_
    cases hf
    exact kj2
def f_J8_copyOf_2 (n : Nat) (a0 : Option Nat) (a1 : Int32) (a2 : Option Nat) (w : zWd) : Option ((Option Nat) × zWd) :=
  (stA w 4).bind fun x1 =>
  if a2 = x1 then
    zB2 (nA_ w a1) fun x2 w3 =>
    (aN w3 a0).bind fun x4 =>
    zB2 (f_J7_min n x4 a1 w3) fun x6 w5 =>
    (zCopy w5 a0 (0 : Int32) x2 (0 : Int32) x6).bind fun w7 =>
    some (x2, w7)
  else
    none
theorem mt_J8_copyOf_2 : zMt yJ8_copyOf_2 cJ8_copyOf_2 4 (some (.array (.object "java/lang/Object"))) 3 := ⟨q298, q77, ⟨by decide, by decide⟩, by decide +kernel, by decide⟩
set_option maxHeartbeats 4000000 in
theorem k_J8_copyOf_2 {l : Launch} {n : Nat} {a0 : Option Nat} {a1 : Int32} {a2 : Option Nat} {w : zWd} (r : Option Nat) (w9 : zWd) (hf : f_J8_copyOf_2 n a0 a1 a2 w = some (r, w9)) : zCt l yJ8_copyOf_2 cJ8_copyOf_2 4 (some (.array (.object "java/lang/Object"))) 2 [vA a0, vI a1, vA a2] w (.inr (some (vA r), w9)) := by
  refine zCt_of (lv := [some (vA a0), some (vI a1), some (vA a2), none]) (by decide +kernel) 1 rfl rfl ?_
  intro X hX hI hN hQ
  have hX : zGd X RJ8 cJ8_copyOf_2 4 (some (.array (.object "java/lang/Object"))) 2 := hX
  unfold f_J8_copyOf_2 at hf
  refine j_aload_n (pc := 0) hX dJ8_copyOf_2_0 rfl ?_
  refine j_ldcM (pc := 1) hX q299 dJ8_copyOf_2_1 hf (fun x1 hx_ hf => ?_)
  refine j_acmp_ne (pc := 3) hX 13 dJ8_copyOf_2_3 rfl hf (fun h_ hf => ?_) (fun h_ hf => ?_)
  · refine j_aload_n (pc := 13) hX dJ8_copyOf_2_13 rfl ?_
    cases hf
  · refine j_iload_n (pc := 6) hX dJ8_copyOf_2_6 rfl ?_
    refine j_anewarr (pc := 7) hX q301 dJ8_copyOf_2_7 hf (fun x2 w3 hf => ?_)
    refine j_goto (pc := 10) hX 24 dJ8_copyOf_2_10 rfl ?_
    refine j_astore_n (pc := 24) hX dJ8_copyOf_2_24 (by decide) [some (vA a0), some (vI a1), some (vA a2), some (vA x2)] rfl ?_
    refine j_aload_n (pc := 25) hX dJ8_copyOf_2_25 rfl ?_
    refine j_iconst (pc := 26) hX (0 : Int32) dJ8_copyOf_2_26 rfl ?_
    refine j_aload_n (pc := 27) hX dJ8_copyOf_2_27 rfl ?_
    refine j_iconst (pc := 28) hX (0 : Int32) dJ8_copyOf_2_28 rfl ?_
    refine j_aload_n (pc := 29) hX dJ8_copyOf_2_29 rfl ?_
    refine j_alen (pc := 30) hX dJ8_copyOf_2_30 hf (fun x4 hx_ hf => ?_)
    refine j_iload_n (pc := 31) hX dJ8_copyOf_2_31 rfl ?_
    obtain ⟨x6, w5, hc_, hf⟩ := zB2_e hf
    refine j_callS (pc := 32) hX mt_J7_min q302 q303 [vI x4, vI a1] rfl rfl (Nat.le_of_ble_eq_true rfl) (by decide) dJ8_copyOf_2_32 (k_J7_min _ _ hc_) ?_
    refine j_copy (pc := 35) hX q305 q307 q306 q78 (by decide) (Nat.le_of_ble_eq_true rfl) dJ8_copyOf_2_35 hf (fun w7 hf => ?_)
    refine j_aload_n (pc := 38) hX dJ8_copyOf_2_38 rfl ?_
    exact j_areturn (pc := 39) hX rfl hQ (by cases hf; rfl) dJ8_copyOf_2_39
def f_J8_copyOf (n : Nat) (a0 : Option Nat) (a1 : Int32) (w : zWd) : Option ((Option Nat) × zWd) :=
  (gCA w a0).bind fun x1 =>
  zB2 (f_J8_copyOf_2 n a0 a1 x1 w) fun x3 w2 =>
  some (x3, w2)
theorem mt_J8_copyOf : zMt yJ8_copyOf cJ8_copyOf 2 (some (.array (.object "java/lang/Object"))) 2 := ⟨q259, q77, ⟨by decide, by decide⟩, by decide +kernel, by decide⟩
set_option maxHeartbeats 4000000 in
theorem k_J8_copyOf {l : Launch} {n : Nat} {a0 : Option Nat} {a1 : Int32} {w : zWd} (r : Option Nat) (w9 : zWd) (hf : f_J8_copyOf n a0 a1 w = some (r, w9)) : zCt l yJ8_copyOf cJ8_copyOf 2 (some (.array (.object "java/lang/Object"))) 3 [vA a0, vI a1] w (.inr (some (vA r), w9)) := by
  refine zCt_of (lv := [some (vA a0), some (vI a1)]) (by decide +kernel) 0 rfl rfl ?_
  intro X hX hI hN hQ
  have hX : zGd X RJ8 cJ8_copyOf 2 (some (.array (.object "java/lang/Object"))) 3 := hX
  unfold f_J8_copyOf at hf
  refine j_aload_n (pc := 0) hX dJ8_copyOf_0 rfl ?_
  refine j_iload_n (pc := 1) hX dJ8_copyOf_1 rfl ?_
  refine j_aload_n (pc := 2) hX dJ8_copyOf_2 rfl ?_
  refine j_getCA (pc := 3) hX q260 q2825 q2824 q261 q295 (by decide) (Nat.le_of_ble_eq_true rfl) dJ8_copyOf_3 hf (fun x1 hx_ hf => ?_)
  obtain ⟨x3, w2, hc_, hf⟩ := zB2_e hf
  refine j_callS (pc := 6) hX mt_J8_copyOf_2 q296 q297 [vA a0, vI a1, vA x1] rfl rfl (Nat.le_of_ble_eq_true rfl) (by decide) dJ8_copyOf_6 (k_J8_copyOf_2 _ _ hc_) ?_
  exact j_areturn (pc := 9) hX rfl hQ (by cases hf; rfl) dJ8_copyOf_9
def f_J2_grow_2 (n : Nat) (a0 : Option Nat) (a1 : Int32) (w : zWd) : Option ((Option Nat) × zWd) :=
  (gA w 18 1 a0).bind fun x1 =>
  (aN w x1).bind fun x2 =>
  if (0 : Int32) < x2 then
    zB2 (f_J6_newLength n x2 (a1 - x2) (x2 >>> ((1 : Int32) &&& 31)) w) fun x4 w3 =>
    (gA w3 18 1 a0).bind fun x5 =>
    zB2 (f_J8_copyOf n x5 x4 w3) fun x7 w6 =>
    (pA w6 18 1 a0 x7).bind fun w8 =>
    some (x7, w8)
  else
    (gA w 18 1 a0).bind fun x9 =>
    (stA w 2).bind fun x10 =>
    if x9 = x10 then
      zB2 (f_J7_max n (10 : Int32) a1 w) fun x12 w11 =>
      zB2 (nA_ w11 x12) fun x13 w14 =>
      (pA w14 18 1 a0 x13).bind fun w15 =>
      some (x13, w15)
    else
      zB2 (f_J6_newLength n x2 (a1 - x2) (x2 >>> ((1 : Int32) &&& 31)) w) fun x17 w16 =>
      (gA w16 18 1 a0).bind fun x18 =>
      zB2 (f_J8_copyOf n x18 x17 w16) fun x20 w19 =>
      (pA w19 18 1 a0 x20).bind fun w21 =>
      some (x20, w21)
theorem mt_J2_grow_2 : zMt yJ2_grow_2 cJ2_grow_2 4 (some (.array (.object "java/lang/Object"))) 1 := ⟨q246, q69, ⟨by decide, by decide⟩, by decide +kernel, by decide⟩
set_option maxHeartbeats 4000000 in
theorem k_J2_grow_2 {l : Launch} {n : Nat} {a0 : Option Nat} {a1 : Int32} {w : zWd} (r : Option Nat) (w9 : zWd) (hf : f_J2_grow_2 n a0 a1 w = some (r, w9)) : zCt l yJ2_grow_2 cJ2_grow_2 4 (some (.array (.object "java/lang/Object"))) 4 [vA a0, vI a1] w (.inr (some (vA r), w9)) := by
  refine zCt_of (lv := [some (vA a0), some (vI a1), none, none]) (by decide +kernel) 2 rfl rfl ?_
  intro X hX hI hN hQ
  have hX : zGd X RJ2 cJ2_grow_2 4 (some (.array (.object "java/lang/Object"))) 4 := hX
  unfold f_J2_grow_2 at hf
  refine j_aload_n (pc := 0) hX dJ2_grow_2_0 rfl ?_
  refine j_getA (pc := 1) hX kJ2 (k := 1) (Nat.le_of_ble_eq_true rfl) q140 (Or.inl rfl) dJ2_grow_2_1 hf (fun x1 hx_ hf => ?_)
  refine j_alen (pc := 4) hX dJ2_grow_2_4 hf (fun x2 hx_ hf => ?_)
  refine j_istore_n (pc := 5) hX dJ2_grow_2_5 (by decide) [some (vA a0), some (vI a1), some (vI x2), none] rfl ?_
  refine j_iload_n (pc := 6) hX dJ2_grow_2_6 rfl ?_
  refine j_if_gt (pc := 7) hX 20 dJ2_grow_2_7 rfl hf (fun h_ hf => ?_) (fun h_ hf => ?_)
  · refine j_iload_n (pc := 20) hX dJ2_grow_2_20 rfl ?_
    refine j_iload_n (pc := 21) hX dJ2_grow_2_21 rfl ?_
    refine j_iload_n (pc := 22) hX dJ2_grow_2_22 rfl ?_
    refine j_isub (pc := 23) hX dJ2_grow_2_23 ?_
    refine j_iload_n (pc := 24) hX dJ2_grow_2_24 rfl ?_
    refine j_iconst (pc := 25) hX (1 : Int32) dJ2_grow_2_25 rfl ?_
    refine j_ishr (pc := 26) hX dJ2_grow_2_26 ?_
    obtain ⟨x4, w3, hc_, hf⟩ := zB2_e hf
    refine j_callS (pc := 27) hX mt_J6_newLength q247 q248 [vI x2, vI (a1 - x2), vI (x2 >>> ((1 : Int32) &&& 31))] rfl rfl (Nat.le_of_ble_eq_true rfl) (by decide) dJ2_grow_2_27 (k_J6_newLength _ _ hc_) ?_
    refine j_istore_n (pc := 30) hX dJ2_grow_2_30 (by decide) [some (vA a0), some (vI a1), some (vI x2), some (vI x4)] rfl ?_
    refine j_aload_n (pc := 31) hX dJ2_grow_2_31 rfl ?_
    refine j_aload_n (pc := 32) hX dJ2_grow_2_32 rfl ?_
    refine j_getA (pc := 33) hX kJ2 (k := 1) (Nat.le_of_ble_eq_true rfl) q140 (Or.inl rfl) dJ2_grow_2_33 hf (fun x5 hx_ hf => ?_)
    refine j_iload_n (pc := 36) hX dJ2_grow_2_36 rfl ?_
    obtain ⟨x7, w6, hc_, hf⟩ := zB2_e hf
    refine j_callS (pc := 37) hX mt_J8_copyOf q257 q258 [vA x5, vI x4] rfl rfl (Nat.le_of_ble_eq_true rfl) (by decide) dJ2_grow_2_37 (k_J8_copyOf _ _ hc_) ?_
    refine j_dup_x1 (pc := 40) hX rfl rfl dJ2_grow_2_40 ?_
    refine j_putA (pc := 41) hX kJ2 (k := 1) (Nat.le_of_ble_eq_true rfl) q140 (Or.inl rfl) rfl rfl dJ2_grow_2_41 hf (fun w8 hf => ?_)
    exact j_areturn (pc := 44) hX rfl hQ (by cases hf; rfl) dJ2_grow_2_44
  · refine j_aload_n (pc := 10) hX dJ2_grow_2_10 rfl ?_
    refine j_getA (pc := 11) hX kJ2 (k := 1) (Nat.le_of_ble_eq_true rfl) q140 (Or.inl rfl) dJ2_grow_2_11 hf (fun x9 hx_ hf => ?_)
    refine j_gets2 (pc := 14) hX q138 dJ2_grow_2_14 hf (fun x10 hx_ hf => ?_)
    refine j_acmp_eq (pc := 17) hX 45 dJ2_grow_2_17 rfl hf (fun h_ hf => ?_) (fun h_ hf => ?_)
    · refine j_aload_n (pc := 45) hX dJ2_grow_2_45 rfl ?_
      refine j_bipush (pc := 46) hX (10 : Int32) dJ2_grow_2_46 (by decide +kernel) ?_
      refine j_iload_n (pc := 48) hX dJ2_grow_2_48 rfl ?_
      obtain ⟨x12, w11, hc_, hf⟩ := zB2_e hf
      refine j_callS (pc := 49) hX mt_J7_max q308 q251 [vI (10 : Int32), vI a1] rfl rfl (Nat.le_of_ble_eq_true rfl) (by decide) dJ2_grow_2_49 (k_J7_max _ _ hc_) ?_
      refine j_anewarr (pc := 52) hX q309 dJ2_grow_2_52 hf (fun x13 w14 hf => ?_)
      refine j_dup_x1 (pc := 55) hX rfl rfl dJ2_grow_2_55 ?_
      refine j_putA (pc := 56) hX kJ2 (k := 1) (Nat.le_of_ble_eq_true rfl) q140 (Or.inl rfl) rfl rfl dJ2_grow_2_56 hf (fun w15 hf => ?_)
      exact j_areturn (pc := 59) hX rfl hQ (by cases hf; rfl) dJ2_grow_2_59
    · refine j_iload_n (pc := 20) hX dJ2_grow_2_20 rfl ?_
      refine j_iload_n (pc := 21) hX dJ2_grow_2_21 rfl ?_
      refine j_iload_n (pc := 22) hX dJ2_grow_2_22 rfl ?_
      refine j_isub (pc := 23) hX dJ2_grow_2_23 ?_
      refine j_iload_n (pc := 24) hX dJ2_grow_2_24 rfl ?_
      refine j_iconst (pc := 25) hX (1 : Int32) dJ2_grow_2_25 rfl ?_
      refine j_ishr (pc := 26) hX dJ2_grow_2_26 ?_
      obtain ⟨x17, w16, hc_, hf⟩ := zB2_e hf
      refine j_callS (pc := 27) hX mt_J6_newLength q247 q248 [vI x2, vI (a1 - x2), vI (x2 >>> ((1 : Int32) &&& 31))] rfl rfl (Nat.le_of_ble_eq_true rfl) (by decide) dJ2_grow_2_27 (k_J6_newLength _ _ hc_) ?_
      refine j_istore_n (pc := 30) hX dJ2_grow_2_30 (by decide) [some (vA a0), some (vI a1), some (vI x2), some (vI x17)] rfl ?_
      refine j_aload_n (pc := 31) hX dJ2_grow_2_31 rfl ?_
      refine j_aload_n (pc := 32) hX dJ2_grow_2_32 rfl ?_
      refine j_getA (pc := 33) hX kJ2 (k := 1) (Nat.le_of_ble_eq_true rfl) q140 (Or.inl rfl) dJ2_grow_2_33 hf (fun x18 hx_ hf => ?_)
      refine j_iload_n (pc := 36) hX dJ2_grow_2_36 rfl ?_
      obtain ⟨x20, w19, hc_, hf⟩ := zB2_e hf
      refine j_callS (pc := 37) hX mt_J8_copyOf q257 q258 [vA x18, vI x17] rfl rfl (Nat.le_of_ble_eq_true rfl) (by decide) dJ2_grow_2_37 (k_J8_copyOf _ _ hc_) ?_
      refine j_dup_x1 (pc := 40) hX rfl rfl dJ2_grow_2_40 ?_
      refine j_putA (pc := 41) hX kJ2 (k := 1) (Nat.le_of_ble_eq_true rfl) q140 (Or.inl rfl) rfl rfl dJ2_grow_2_41 hf (fun w21 hf => ?_)
      exact j_areturn (pc := 44) hX rfl hQ (by cases hf; rfl) dJ2_grow_2_44
def f_J2_grow (n : Nat) (a0 : Option Nat) (w : zWd) : Option ((Option Nat) × zWd) :=
  (gI w 18 2 a0).bind fun x1 =>
  zB2 (zV (isC w 18 a0) (f_J2_grow_2 n a0 (x1 + (1 : Int32)) w)) fun x3 w2 =>
  some (x3, w2)
theorem mt_J2_grow : zMt yJ2_grow cJ2_grow 1 (some (.array (.object "java/lang/Object"))) 0 := ⟨q242, q69, ⟨by decide, by decide⟩, by decide +kernel, by decide⟩
set_option maxHeartbeats 4000000 in
theorem k_J2_grow {l : Launch} {n : Nat} {a0 : Option Nat} {w : zWd} (r : Option Nat) (w9 : zWd) (hf : f_J2_grow n a0 w = some (r, w9)) : zCt l yJ2_grow cJ2_grow 1 (some (.array (.object "java/lang/Object"))) 5 [vA a0] w (.inr (some (vA r), w9)) := by
  refine zCt_of (lv := [some (vA a0)]) (by decide +kernel) 0 rfl rfl ?_
  intro X hX hI hN hQ
  have hX : zGd X RJ2 cJ2_grow 1 (some (.array (.object "java/lang/Object"))) 5 := hX
  unfold f_J2_grow at hf
  refine j_aload_n (pc := 0) hX dJ2_grow_0 rfl ?_
  refine j_aload_n (pc := 1) hX dJ2_grow_1 rfl ?_
  refine j_getI (pc := 2) hX kJ2 (k := 2) (Nat.le_of_ble_eq_true rfl) q143 (Or.inl rfl) dJ2_grow_2 hf (fun x1 hx_ hf => ?_)
  refine j_iconst (pc := 5) hX (1 : Int32) dJ2_grow_5 rfl ?_
  refine j_iadd (pc := 6) hX dJ2_grow_6 ?_
  obtain ⟨x3, w2, hc_, hf⟩ := zB2_e hf
  obtain ⟨hi_, hc_⟩ := zV_e hc_
  refine j_callV (pc := 7) hX (ci := 18) mt_J2_grow_2 q243 q245 qs2 hi_ ⟨_, rfl, rfl⟩ [vI (x1 + (1 : Int32))] rfl rfl (Nat.le_of_ble_eq_true rfl) (by decide) dJ2_grow_7 (k_J2_grow_2 _ _ hc_) ?_
  exact j_areturn (pc := 10) hX rfl hQ (by cases hf; rfl) dJ2_grow_10
def f_J2_add_2 (n : Nat) (a0 : Option Nat) (a1 : Option Nat) (a2 : Option Nat) (a3 : Int32) (w : zWd) : Option zWd :=
  (aN w a2).bind fun x1 =>
  zB2 (
    if a3 = x1 then
      zB2 (zV (isC w 18 a0) (f_J2_grow n a0 w)) fun x3 w2 =>
      some (x3, w2)
    else
      some (a2, w)
    ) fun x4 w5 =>
  (sA w5 x4 a3 a1).bind fun w6 =>
  (pI w6 18 2 a0 (a3 + (1 : Int32))).bind fun w7 =>
  some w7
theorem mt_J2_add_2 : zMt yJ2_add_2 cJ2_add_2 4 none 3 := ⟨q238, q69, ⟨by decide, by decide⟩, by decide +kernel, by decide⟩
set_option maxHeartbeats 4000000 in
theorem k_J2_add_2 {l : Launch} {n : Nat} {a0 : Option Nat} {a1 : Option Nat} {a2 : Option Nat} {a3 : Int32} {w : zWd} (r : Unit) (w9 : zWd) (hf : f_J2_add_2 n a0 a1 a2 a3 w = some w9) : zCt l yJ2_add_2 cJ2_add_2 4 none 6 [vA a0, vA a1, vA a2, vI a3] w (.inr (none, w9)) := by
  refine zCt_of (lv := [some (vA a0), some (vA a1), some (vA a2), some (vI a3)]) (by decide +kernel) 0 rfl rfl ?_
  intro X hX hI hN hQ
  have hX : zGd X RJ2 cJ2_add_2 4 none 6 := hX
  unfold f_J2_add_2 at hf
  refine j_iload_n (pc := 0) hX dJ2_add_2_0 rfl ?_
  refine j_aload_n (pc := 1) hX dJ2_add_2_1 rfl ?_
  refine j_alen (pc := 2) hX dJ2_add_2_2 hf (fun x1 hx_ hf => ?_)
  obtain ⟨x4, w5, hm_, hf⟩ := zB2_e hf
  have kj3 : zJ X 11 [some (vA a0), some (vA a1), some (vA x4), some (vI a3)] [] w5 := by
    clear hm_
    refine j_aload_n (pc := 11) hX dJ2_add_2_11 rfl ?_
    refine j_iload_n (pc := 12) hX dJ2_add_2_12 rfl ?_
    refine j_aload_n (pc := 13) hX dJ2_add_2_13 rfl ?_
    refine j_aastore (pc := 14) hX dJ2_add_2_14 hf (fun w6 hf => ?_)
    refine j_aload_n (pc := 15) hX dJ2_add_2_15 rfl ?_
    refine j_iload_n (pc := 16) hX dJ2_add_2_16 rfl ?_
    refine j_iconst (pc := 17) hX (1 : Int32) dJ2_add_2_17 rfl ?_
    refine j_iadd (pc := 18) hX dJ2_add_2_18 ?_
    refine j_putI (pc := 19) hX kJ2 (k := 2) (Nat.le_of_ble_eq_true rfl) q143 (Or.inl rfl) rfl rfl dJ2_add_2_19 hf (fun w7 hf => ?_)
    exact j_return (pc := 22) hX hQ (by cases hf; rfl) dJ2_add_2_22
  have hf := hm_
  refine j_icmp_ne (pc := 3) hX 11 dJ2_add_2_3 rfl hf (fun h_ hf => ?_) (fun h_ hf => ?_)
  · cases hf
    exact kj3
  · refine j_aload_n (pc := 6) hX dJ2_add_2_6 rfl ?_
    obtain ⟨x3, w2, hc_, hf⟩ := zB2_e hf
    obtain ⟨hi_, hc_⟩ := zV_e hc_
    refine j_callV (pc := 7) hX (ci := 18) mt_J2_grow q239 q241 qs1 hi_ ⟨_, rfl, rfl⟩ [] rfl rfl (Nat.le_of_ble_eq_true rfl) (by decide) dJ2_add_2_7 (k_J2_grow _ _ hc_) ?_
    refine j_astore_n (pc := 10) hX dJ2_add_2_10 (by decide) [some (vA a0), some (vA a1), some (vA x3), some (vI a3)] rfl ?_
    cases hf
    exact kj3
def f_J2_add (n : Nat) (a0 : Option Nat) (a1 : Option Nat) (w : zWd) : Option (Int32 × zWd) :=
  (gI w 18 0 a0).bind fun x1 =>
  (pI w 18 0 a0 (x1 + (1 : Int32))).bind fun w2 =>
  (gA w2 18 1 a0).bind fun x3 =>
  (gI w2 18 2 a0).bind fun x4 =>
  (zV (isC w2 18 a0) (f_J2_add_2 n a0 a1 x3 x4 w2)).bind fun w5 =>
  zRz (1 : Int32) w5
theorem mt_J2_add : zMt yJ2_add cJ2_add 2 (some .boolean) 1 := ⟨q234, q69, ⟨by decide, by decide⟩, by decide +kernel, by decide⟩
set_option maxHeartbeats 4000000 in
theorem k_J2_add {l : Launch} {n : Nat} {a0 : Option Nat} {a1 : Option Nat} {w : zWd} (r : Int32) (w9 : zWd) (hf : f_J2_add n a0 a1 w = some (r, w9)) : zCt l yJ2_add cJ2_add 2 (some .boolean) 7 [vA a0, vA a1] w (.inr (some (vI r), w9)) := by
  refine zCt_of (lv := [some (vA a0), some (vA a1)]) (by decide +kernel) 0 rfl rfl ?_
  intro X hX hI hN hQ
  have hX : zGd X RJ2 cJ2_add 2 (some .boolean) 7 := hX
  unfold f_J2_add at hf
  refine j_aload_n (pc := 0) hX dJ2_add_0 rfl ?_
  refine j_dup (pc := 1) hX rfl dJ2_add_1 ?_
  refine j_getI (pc := 2) hX kJ2 (k := 0) (Nat.le_of_ble_eq_true rfl) q147 (Or.inr q146) dJ2_add_2 hf (fun x1 hx_ hf => ?_)
  refine j_iconst (pc := 5) hX (1 : Int32) dJ2_add_5 rfl ?_
  refine j_iadd (pc := 6) hX dJ2_add_6 ?_
  refine j_putI (pc := 7) hX kJ2 (k := 0) (Nat.le_of_ble_eq_true rfl) q147 (Or.inr q146) rfl rfl dJ2_add_7 hf (fun w2 hf => ?_)
  refine j_aload_n (pc := 10) hX dJ2_add_10 rfl ?_
  refine j_aload_n (pc := 11) hX dJ2_add_11 rfl ?_
  refine j_aload_n (pc := 12) hX dJ2_add_12 rfl ?_
  refine j_getA (pc := 13) hX kJ2 (k := 1) (Nat.le_of_ble_eq_true rfl) q140 (Or.inl rfl) dJ2_add_13 hf (fun x3 hx_ hf => ?_)
  refine j_aload_n (pc := 16) hX dJ2_add_16 rfl ?_
  refine j_getI (pc := 17) hX kJ2 (k := 2) (Nat.le_of_ble_eq_true rfl) q143 (Or.inl rfl) dJ2_add_17 hf (fun x4 hx_ hf => ?_)
  obtain ⟨w5, hc_, hf⟩ := zob hf
  obtain ⟨hi_, hc_⟩ := zV_e hc_
  refine j_callV (pc := 20) hX (ci := 18) mt_J2_add_2 q235 q237 qs0 hi_ ⟨_, rfl, rfl⟩ [vA a1, vA x3, vI x4] rfl rfl (Nat.le_of_ble_eq_true rfl) (by decide) dJ2_add_20 (k_J2_add_2 () _ hc_) ?_
  refine j_iconst (pc := 23) hX (1 : Int32) dJ2_add_23 rfl ?_
  obtain ⟨hz_, hf⟩ := zRz_e hf
  exact j_zreturn (pc := 24) hX hQ hz_ (by cases hf; rfl) dJ2_add_24
def f_J9_init (n : Nat) (a0 : Option Nat) (w : zWd) : Option zWd :=
  if a0 = none then none else
  some w
theorem mt_J9_init : zMt yJ9_init cJ9_init 1 none 0 := ⟨q324, q79, ⟨by decide, by decide⟩, by decide +kernel, by decide⟩
set_option maxHeartbeats 4000000 in
theorem k_J9_init {l : Launch} {n : Nat} {a0 : Option Nat} {w : zWd} (r : Unit) (w9 : zWd) (hf : f_J9_init n a0 w = some w9) : zCt l yJ9_init cJ9_init 1 none 1 [vA a0] w (.inr (none, w9)) := by
  refine zCt_of (lv := [some (vA a0)]) (by decide +kernel) 0 rfl rfl ?_
  intro X hX hI hN hQ
  have hX : zGd X RJ9 cJ9_init 1 none 1 := hX
  unfold f_J9_init at hf
  refine j_aload_n (pc := 0) hX dJ9_init_0 rfl ?_
  obtain ⟨hne_, hf⟩ := zGd_e hf
  refine j_objInit (pc := 1) hX (by decide) q325 q124 q125 (by rw [zCs_eq]; exact Nat.le_of_ble_eq_true rfl) dJ9_init_1 hne_ ?_
  exact j_return (pc := 4) hX hQ (by cases hf; rfl) dJ9_init_4
def f_J10_init (n : Nat) (a0 : Option Nat) (a1 : Int32) (w : zWd) : Option zWd :=
  (zV (decide (a0 ≠ none)) (f_J9_init n a0 w)).bind fun w1 =>
  (pI w1 20 0 a0 a1).bind fun w2 =>
  some w2
theorem mt_J10_init : zMt yJ10_init cJ10_init 2 none 1 := ⟨q321, q80, ⟨by decide, by decide⟩, by decide +kernel, by decide⟩
set_option maxHeartbeats 4000000 in
theorem k_J10_init {l : Launch} {n : Nat} {a0 : Option Nat} {a1 : Int32} {w : zWd} (r : Unit) (w9 : zWd) (hf : f_J10_init n a0 a1 w = some w9) : zCt l yJ10_init cJ10_init 2 none 2 [vA a0, vI a1] w (.inr (none, w9)) := by
  refine zCt_of (lv := [some (vA a0), some (vI a1)]) (by decide +kernel) 0 rfl rfl ?_
  intro X hX hI hN hQ
  have hX : zGd X RJ10 cJ10_init 2 none 2 := hX
  unfold f_J10_init at hf
  refine j_aload_n (pc := 0) hX dJ10_init_0 rfl ?_
  obtain ⟨w1, hc_, hf⟩ := zob hf
  obtain ⟨hi_, hc_⟩ := zV_e hc_
  refine j_callI (pc := 1) hX mt_J9_init q322 q323 rfl rfl [] rfl rfl (Nat.le_of_ble_eq_true rfl) (by decide) dJ10_init_1 (of_decide_eq_true hi_) (k_J9_init () _ hc_) ?_
  refine j_aload_n (pc := 4) hX dJ10_init_4 rfl ?_
  refine j_iload_n (pc := 5) hX dJ10_init_5 rfl ?_
  refine j_putIF (pc := 6) hX hI kJ10 (k := 0) (Nat.le_of_ble_eq_true rfl) q326 rfl rfl rfl rfl dJ10_init_6 hf (fun w2 hf => ?_)
  exact j_return (pc := 9) hX hQ (by cases hf; rfl) dJ10_init_9
def f_J10_valueOf (n : Nat) (a0 : Int32) (w : zWd) : Option ((Option Nat) × zWd) :=
  if a0 < (-128 : Int32) then
    zB2 (zNew w 1 (.inr (20, df_J10))) fun x1 w2 =>
    (zV (decide (x1 ≠ none)) (f_J10_init n x1 a0 w2)).bind fun w3 =>
    some (x1, w3)
  else
    (stI w 0).bind fun x4 =>
    if x4 < a0 then
      zB2 (zNew w 1 (.inr (20, df_J10))) fun x5 w6 =>
      (zV (decide (x5 ≠ none)) (f_J10_init n x5 a0 w6)).bind fun w7 =>
      some (x5, w7)
    else
      (stA w 1).bind fun x8 =>
      (aA w x8 (a0 + (128 : Int32))).bind fun x9 =>
      some (x9, w)
theorem mt_J10_valueOf : zMt yJ10_valueOf cJ10_valueOf 1 (some (.object "java/lang/Integer")) 1 := ⟨q312, q80, ⟨by decide, by decide⟩, by decide +kernel, by decide⟩
set_option maxHeartbeats 4000000 in
theorem k_J10_valueOf {l : Launch} {n : Nat} {a0 : Int32} {w : zWd} (r : Option Nat) (w9 : zWd) (hf : f_J10_valueOf n a0 w = some (r, w9)) : zCt l yJ10_valueOf cJ10_valueOf 1 (some (.object "java/lang/Integer")) 3 [vI a0] w (.inr (some (vA r), w9)) := by
  refine zCt_of (lv := [some (vI a0)]) (by decide +kernel) 0 rfl rfl ?_
  intro X hX hI hN hQ
  have hX : zGd X RJ10 cJ10_valueOf 1 (some (.object "java/lang/Integer")) 3 := hX
  unfold f_J10_valueOf at hf
  refine j_iload_n (pc := 0) hX dJ10_valueOf_0 rfl ?_
  refine j_bipush (pc := 1) hX (-128 : Int32) dJ10_valueOf_1 (by decide +kernel) ?_
  refine j_icmp_lt (pc := 3) hX 23 dJ10_valueOf_3 rfl hf (fun h_ hf => ?_) (fun h_ hf => ?_)
  · refine j_new (pc := 23) hX kJ10 q317 q318 q80 df_J10 df_J10_ok dJ10_valueOf_23 hf (fun x1 w2 hf => ?_)
    refine j_dup (pc := 26) hX rfl dJ10_valueOf_26 ?_
    refine j_iload_n (pc := 27) hX dJ10_valueOf_27 rfl ?_
    obtain ⟨w3, hc_, hf⟩ := zob hf
    obtain ⟨hi_, hc_⟩ := zV_e hc_
    refine j_callI (pc := 28) hX mt_J10_init q319 q320 rfl rfl [vI a0] rfl rfl (Nat.le_of_ble_eq_true rfl) (by decide) dJ10_valueOf_28 (of_decide_eq_true hi_) (k_J10_init () _ hc_) ?_
    exact j_areturn (pc := 31) hX rfl hQ (by cases hf; rfl) dJ10_valueOf_31
  · refine j_iload_n (pc := 6) hX dJ10_valueOf_6 rfl ?_
    refine j_gets0 (pc := 7) hX q313 dJ10_valueOf_7 hf (fun x4 hx_ hf => ?_)
    refine j_icmp_gt (pc := 10) hX 23 dJ10_valueOf_10 rfl hf (fun h_ hf => ?_) (fun h_ hf => ?_)
    · refine j_new (pc := 23) hX kJ10 q317 q318 q80 df_J10 df_J10_ok dJ10_valueOf_23 hf (fun x5 w6 hf => ?_)
      refine j_dup (pc := 26) hX rfl dJ10_valueOf_26 ?_
      refine j_iload_n (pc := 27) hX dJ10_valueOf_27 rfl ?_
      obtain ⟨w7, hc_, hf⟩ := zob hf
      obtain ⟨hi_, hc_⟩ := zV_e hc_
      refine j_callI (pc := 28) hX mt_J10_init q319 q320 rfl rfl [vI a0] rfl rfl (Nat.le_of_ble_eq_true rfl) (by decide) dJ10_valueOf_28 (of_decide_eq_true hi_) (k_J10_init () _ hc_) ?_
      exact j_areturn (pc := 31) hX rfl hQ (by cases hf; rfl) dJ10_valueOf_31
    · refine j_gets1 (pc := 13) hX q315 dJ10_valueOf_13 hf (fun x8 hx_ hf => ?_)
      refine j_iload_n (pc := 16) hX dJ10_valueOf_16 rfl ?_
      refine j_sipush (pc := 17) hX (128 : Int32) dJ10_valueOf_17 (by decide +kernel) ?_
      refine j_iadd (pc := 20) hX dJ10_valueOf_20 ?_
      refine j_aaload (pc := 21) hX dJ10_valueOf_21 hf (fun x9 hx_ hf => ?_)
      exact j_areturn (pc := 22) hX rfl hQ (by cases hf; rfl) dJ10_valueOf_22
def f_X1_init_L174b (n : Nat) (c0 : Option Nat) (rec : Int32 → zWd → Option (zWd)) (v1 : Int32) (w : zWd) : Option (zWd) :=
  if (3 : Int32) ≤ v1 then
    some w
  else
    (gA w 0 9 c0).bind fun x58 =>
    zB2 (zNew w 2 (.inr (1, df_X2))) fun x59 w60 =>
    zB2 (zNew w60 2 (.inr (2, df_X3))) fun x61 w62 =>
    (zV (decide (x61 ≠ none)) (f_X3_init n x61 (0 : Int32) (0 : Int32) w62)).bind fun w63 =>
    (zV (decide (x59 ≠ none)) (f_X2_init n x59 x61 w63)).bind fun w64 =>
    zB2 (zV (isC w64 18 x58) (f_J2_add n x58 x59 w64)) fun x66 w65 =>
    zB2 (zNew w65 3 (.inr (18, df_J2))) fun x67 w68 =>
    (zV (decide (x67 ≠ none)) (f_J2_init n x67 w68)).bind fun w69 =>
    zB2 (zNew w69 2 (.inr (1, df_X2))) fun x70 w71 =>
    zB2 (zNew w71 3 (.inr (18, df_J2))) fun x72 w73 =>
    (zV (decide (x72 ≠ none)) (f_J2_init n x72 w73)).bind fun w74 =>
    (zV (decide (x70 ≠ none)) (f_X2_init n x70 x72 w74)).bind fun w75 =>
    zB2 (zV (isC w75 18 x67) (f_J2_add n x67 x70 w75)) fun x77 w76 =>
    zB2 (zNew w76 2 (.inr (1, df_X2))) fun x78 w79 =>
    zB2 (zNew w79 3 (.inr (18, df_J2))) fun x80 w81 =>
    (zV (decide (x80 ≠ none)) (f_J2_init n x80 w81)).bind fun w82 =>
    (zV (decide (x78 ≠ none)) (f_X2_init n x78 x80 w82)).bind fun w83 =>
    zB2 (zV (isC w83 18 x67) (f_J2_add n x67 x78 w83)) fun x85 w84 =>
    (gA w84 0 10 c0).bind fun x86 =>
    zB2 (zV (isC w84 18 x86) (f_J2_add n x86 x67 w84)) fun x88 w87 =>
    rec (v1 + (1)) w87
def f_X1_init_L174 (n : Nat) (c0 : Option Nat) : Nat → Int32 → zWd → Option (zWd)
  | 0, _, _ => none
  | k + 1, v1, w => f_X1_init_L174b n c0 (f_X1_init_L174 n c0 k) v1 w
def f_X1_init_L274b (n : Nat) (c0 : Option Nat) (rec : Int32 → zWd → Option (zWd)) (v1 : Int32) (w : zWd) : Option (zWd) :=
  if (6 : Int32) ≤ v1 then
    some w
  else
    (gA w 0 11 c0).bind fun x90 =>
    zB2 (zNew w 2 (.inr (1, df_X2))) fun x91 w92 =>
    zB2 (f_J10_valueOf n (0 : Int32) w92) fun x94 w93 =>
    (zV (decide (x91 ≠ none)) (f_X2_init n x91 x94 w93)).bind fun w95 =>
    zB2 (zV (isC w95 18 x90) (f_J2_add n x90 x91 w95)) fun x97 w96 =>
    (gA w96 0 12 c0).bind fun x98 =>
    zB2 (zNew w96 2 (.inr (1, df_X2))) fun x99 w100 =>
    zB2 (f_J10_valueOf n (0 : Int32) w100) fun x102 w101 =>
    (zV (decide (x99 ≠ none)) (f_X2_init n x99 x102 w101)).bind fun w103 =>
    zB2 (zV (isC w103 18 x98) (f_J2_add n x98 x99 w103)) fun x105 w104 =>
    rec (v1 + (1)) w104
def f_X1_init_L274 (n : Nat) (c0 : Option Nat) : Nat → Int32 → zWd → Option (zWd)
  | 0, _, _ => none
  | k + 1, v1, w => f_X1_init_L274b n c0 (f_X1_init_L274 n c0 k) v1 w
def f_X1_init (n : Nat) (a0 : Option Nat) (w : zWd) : Option zWd :=
  if a0 = none then none else
  zB2 (zNew w 3 (.inr (18, df_J2))) fun x1 w2 =>
  (zV (decide (x1 ≠ none)) (f_J2_init n x1 w2)).bind fun w3 =>
  (pA w3 0 0 a0 x1).bind fun w4 =>
  zB2 (zNew w4 3 (.inr (18, df_J2))) fun x5 w6 =>
  (zV (decide (x5 ≠ none)) (f_J2_init n x5 w6)).bind fun w7 =>
  (pA w7 0 2 a0 x5).bind fun w8 =>
  zB2 (zNew w8 3 (.inr (18, df_J2))) fun x9 w10 =>
  (zV (decide (x9 ≠ none)) (f_J2_init n x9 w10)).bind fun w11 =>
  (pA w11 0 6 a0 x9).bind fun w12 =>
  zB2 (zNew w12 3 (.inr (18, df_J2))) fun x13 w14 =>
  (zV (decide (x13 ≠ none)) (f_J2_init n x13 w14)).bind fun w15 =>
  (pA w15 0 7 a0 x13).bind fun w16 =>
  zB2 (nMI3 w16 (6 : Int32) (24 : Int32) (3 : Int32)) fun x17 w18 =>
  (pA w18 0 8 a0 x17).bind fun w19 =>
  zB2 (zNew w19 3 (.inr (18, df_J2))) fun x20 w21 =>
  (zV (decide (x20 ≠ none)) (f_J2_init n x20 w21)).bind fun w22 =>
  (pA w22 0 9 a0 x20).bind fun w23 =>
  zB2 (zNew w23 3 (.inr (18, df_J2))) fun x24 w25 =>
  (zV (decide (x24 ≠ none)) (f_J2_init n x24 w25)).bind fun w26 =>
  (pA w26 0 10 a0 x24).bind fun w27 =>
  zB2 (zNew w27 3 (.inr (18, df_J2))) fun x28 w29 =>
  (zV (decide (x28 ≠ none)) (f_J2_init n x28 w29)).bind fun w30 =>
  (pA w30 0 11 a0 x28).bind fun w31 =>
  zB2 (zNew w31 3 (.inr (18, df_J2))) fun x32 w33 =>
  (zV (decide (x32 ≠ none)) (f_J2_init n x32 w33)).bind fun w34 =>
  (pA w34 0 12 a0 x32).bind fun w35 =>
  zB2 (zNew w35 3 (.inr (18, df_J2))) fun x36 w37 =>
  (zV (decide (x36 ≠ none)) (f_J2_init n x36 w37)).bind fun w38 =>
  (pA w38 0 13 a0 x36).bind fun w39 =>
  zB2 (zNew w39 3 (.inr (18, df_J2))) fun x40 w41 =>
  (zV (decide (x40 ≠ none)) (f_J2_init n x40 w41)).bind fun w42 =>
  (pA w42 0 14 a0 x40).bind fun w43 =>
  zB2 (zNew w43 3 (.inr (18, df_J2))) fun x44 w45 =>
  (zV (decide (x44 ≠ none)) (f_J2_init n x44 w45)).bind fun w46 =>
  (pA w46 0 15 a0 x44).bind fun w47 =>
  zB2 (zNew w47 3 (.inr (18, df_J2))) fun x48 w49 =>
  (zV (decide (x48 ≠ none)) (f_J2_init n x48 w49)).bind fun w50 =>
  (pA w50 0 16 a0 x48).bind fun w51 =>
  zB2 (nML3 w51 (3 : Int32) (24 : Int32) (2 : Int32)) fun x52 w53 =>
  (pA w53 0 18 a0 x52).bind fun w54 =>
  zB2 (nMI2 w54 (3 : Int32) (24 : Int32)) fun x55 w56 =>
  (pA w56 0 19 a0 x55).bind fun w57 =>
  (f_X1_init_L174 n a0 n (0 : Int32) w57).bind fun w89 =>
  (f_X1_init_L274 n a0 n (0 : Int32) w89).bind fun w106 =>
  some w106
theorem mt_X1_init : zMt yX1_init cX1_init 3 none 0 := ⟨q122, q66, ⟨by decide, by decide⟩, by decide +kernel, by decide⟩
set_option maxHeartbeats 4000000 in
theorem lp_X1_init_L174 {X : zX} (hX : zGd X RX1 cX1_init 3 none 8) (hI : zIn X) (n : Nat) (c0 : Option Nat) : ∀ (k : Nat) (v1 : Int32) (w : zWd) (w9 : zWd) , f_X1_init_L174 n c0 k v1 w = some w9 → zJ X 272 [some (vA c0), none, none] [] w9 → zJ X 174 [some (vA c0), some (vI v1), none] [] w := by
  intro k
  induction k with
  | zero => intro v1 w w9 hf _; exact nomatch (show (none : Option (zWd)) = _ from hf)
  | succ k ih =>
    intro v1 w w9 hf kx
    have hf : f_X1_init_L174b n c0 (f_X1_init_L174 n c0 k) v1 w = _ := hf
    unfold f_X1_init_L174b at hf
    refine j_iload_n (pc := 174) hX dX1_init_174 rfl ?_
    refine j_iconst (pc := 175) hX (3 : Int32) dX1_init_175 rfl ?_
    refine j_icmp_ge (pc := 176) hX 272 dX1_init_176 rfl hf (fun h_ hf => ?_) (fun h_ hf => ?_)
    · refine j_fg [1] [some (vA c0), none, none] rfl ?_
      cases hf
      exact kx
    · refine j_aload_n (pc := 179) hX dX1_init_179 rfl ?_
      refine j_getA (pc := 180) hX kX1 (k := 9) (Nat.le_of_ble_eq_true rfl) q348 (Or.inl rfl) dX1_init_180 hf (fun x58 hx_ hf => ?_)
      refine j_new (pc := 183) hX kX2 q162 q163 q70 df_X2 df_X2_ok dX1_init_183 hf (fun x59 w60 hf => ?_)
      refine j_dup (pc := 186) hX rfl dX1_init_186 ?_
      refine j_new (pc := 187) hX kX3 q164 q165 q72 df_X3 df_X3_ok dX1_init_187 hf (fun x61 w62 hf => ?_)
      refine j_dup (pc := 190) hX rfl dX1_init_190 ?_
      refine j_iconst (pc := 191) hX (0 : Int32) dX1_init_191 rfl ?_
      refine j_iconst (pc := 192) hX (0 : Int32) dX1_init_192 rfl ?_
      obtain ⟨w63, hc_, hf⟩ := zob hf
      obtain ⟨hi_, hc_⟩ := zV_e hc_
      refine j_callIN (pc := 193) hX mt_X3_init q166 q167 rfl rfl [vI (0 : Int32), vI (0 : Int32)] rfl rfl (Nat.le_of_ble_eq_true rfl) (by decide) dX1_init_193 (of_decide_eq_true hi_) (k_X3_init () _ hc_) ?_
      obtain ⟨w64, hc_, hf⟩ := zob hf
      obtain ⟨hi_, hc_⟩ := zV_e hc_
      refine j_callI (pc := 196) hX mt_X2_init q182 q183 rfl rfl [vA x61] rfl rfl (Nat.le_of_ble_eq_true rfl) (by decide) dX1_init_196 (of_decide_eq_true hi_) (k_X2_init () _ hc_) ?_
      obtain ⟨x66, w65, hc_, hf⟩ := zB2_e hf
      obtain ⟨hi_, hc_⟩ := zV_e hc_
      refine j_callF (pc := 199) hX (ci := 18) mt_J2_add q226 q232 q230 (by decide +kernel) rfl hi_ ⟨_, rfl, rfl⟩ [vA x59] rfl rfl (Nat.le_of_ble_eq_true rfl) (by decide) dX1_init_199 (k_J2_add _ _ hc_) ?_
      refine j_pop (pc := 204) hX rfl dX1_init_204 ?_
      refine j_new (pc := 205) hX kJ2 q126 q127 q69 df_J2 df_J2_ok dX1_init_205 hf (fun x67 w68 hf => ?_)
      refine j_dup (pc := 208) hX rfl dX1_init_208 ?_
      obtain ⟨w69, hc_, hf⟩ := zob hf
      obtain ⟨hi_, hc_⟩ := zV_e hc_
      refine j_callI (pc := 209) hX mt_J2_init q128 q129 rfl rfl [] rfl rfl (Nat.le_of_ble_eq_true rfl) (by decide) dX1_init_209 (of_decide_eq_true hi_) (k_J2_init () _ hc_) ?_
      refine j_astore_n (pc := 212) hX dX1_init_212 (by decide) [some (vA c0), some (vI v1), some (vA x67)] rfl ?_
      refine j_aload_n (pc := 213) hX dX1_init_213 rfl ?_
      refine j_new (pc := 214) hX kX2 q162 q163 q70 df_X2 df_X2_ok dX1_init_214 hf (fun x70 w71 hf => ?_)
      refine j_dup (pc := 217) hX rfl dX1_init_217 ?_
      refine j_new (pc := 218) hX kJ2 q126 q127 q69 df_J2 df_J2_ok dX1_init_218 hf (fun x72 w73 hf => ?_)
      refine j_dup (pc := 221) hX rfl dX1_init_221 ?_
      obtain ⟨w74, hc_, hf⟩ := zob hf
      obtain ⟨hi_, hc_⟩ := zV_e hc_
      refine j_callI (pc := 222) hX mt_J2_init q128 q129 rfl rfl [] rfl rfl (Nat.le_of_ble_eq_true rfl) (by decide) dX1_init_222 (of_decide_eq_true hi_) (k_J2_init () _ hc_) ?_
      obtain ⟨w75, hc_, hf⟩ := zob hf
      obtain ⟨hi_, hc_⟩ := zV_e hc_
      refine j_callI (pc := 225) hX mt_X2_init q182 q183 rfl rfl [vA x72] rfl rfl (Nat.le_of_ble_eq_true rfl) (by decide) dX1_init_225 (of_decide_eq_true hi_) (k_X2_init () _ hc_) ?_
      obtain ⟨x77, w76, hc_, hf⟩ := zB2_e hf
      obtain ⟨hi_, hc_⟩ := zV_e hc_
      refine j_callF (pc := 228) hX (ci := 18) mt_J2_add q226 q232 q230 (by decide +kernel) rfl hi_ ⟨_, rfl, rfl⟩ [vA x70] rfl rfl (Nat.le_of_ble_eq_true rfl) (by decide) dX1_init_228 (k_J2_add _ _ hc_) ?_
      refine j_pop (pc := 233) hX rfl dX1_init_233 ?_
      refine j_aload_n (pc := 234) hX dX1_init_234 rfl ?_
      refine j_new (pc := 235) hX kX2 q162 q163 q70 df_X2 df_X2_ok dX1_init_235 hf (fun x78 w79 hf => ?_)
      refine j_dup (pc := 238) hX rfl dX1_init_238 ?_
      refine j_new (pc := 239) hX kJ2 q126 q127 q69 df_J2 df_J2_ok dX1_init_239 hf (fun x80 w81 hf => ?_)
      refine j_dup (pc := 242) hX rfl dX1_init_242 ?_
      obtain ⟨w82, hc_, hf⟩ := zob hf
      obtain ⟨hi_, hc_⟩ := zV_e hc_
      refine j_callI (pc := 243) hX mt_J2_init q128 q129 rfl rfl [] rfl rfl (Nat.le_of_ble_eq_true rfl) (by decide) dX1_init_243 (of_decide_eq_true hi_) (k_J2_init () _ hc_) ?_
      obtain ⟨w83, hc_, hf⟩ := zob hf
      obtain ⟨hi_, hc_⟩ := zV_e hc_
      refine j_callI (pc := 246) hX mt_X2_init q182 q183 rfl rfl [vA x80] rfl rfl (Nat.le_of_ble_eq_true rfl) (by decide) dX1_init_246 (of_decide_eq_true hi_) (k_X2_init () _ hc_) ?_
      obtain ⟨x85, w84, hc_, hf⟩ := zB2_e hf
      obtain ⟨hi_, hc_⟩ := zV_e hc_
      refine j_callF (pc := 249) hX (ci := 18) mt_J2_add q226 q232 q230 (by decide +kernel) rfl hi_ ⟨_, rfl, rfl⟩ [vA x78] rfl rfl (Nat.le_of_ble_eq_true rfl) (by decide) dX1_init_249 (k_J2_add _ _ hc_) ?_
      refine j_pop (pc := 254) hX rfl dX1_init_254 ?_
      refine j_aload_n (pc := 255) hX dX1_init_255 rfl ?_
      refine j_getA (pc := 256) hX kX1 (k := 10) (Nat.le_of_ble_eq_true rfl) q349 (Or.inl rfl) dX1_init_256 hf (fun x86 hx_ hf => ?_)
      refine j_aload_n (pc := 259) hX dX1_init_259 rfl ?_
      obtain ⟨x88, w87, hc_, hf⟩ := zB2_e hf
      obtain ⟨hi_, hc_⟩ := zV_e hc_
      refine j_callF (pc := 260) hX (ci := 18) mt_J2_add q226 q232 q230 (by decide +kernel) rfl hi_ ⟨_, rfl, rfl⟩ [vA x67] rfl rfl (Nat.le_of_ble_eq_true rfl) (by decide) dX1_init_260 (k_J2_add _ _ hc_) ?_
      refine j_pop (pc := 265) hX rfl dX1_init_265 ?_
      refine j_iinc (pc := 266) hX (1) dX1_init_266 rfl rfl (by decide) [some (vA c0), some (vI (v1 + (1))), some (vA x67)] rfl ?_
      refine j_goto (pc := 269) hX 174 dX1_init_269 rfl ?_
      refine j_fg [2] [some (vA c0), some (vI (v1 + (1))), none] rfl ?_
      exact ih _ _ _ hf kx
set_option maxHeartbeats 4000000 in
theorem lp_X1_init_L274 {X : zX} (hX : zGd X RX1 cX1_init 3 none 8) (hI : zIn X) (n : Nat) (c0 : Option Nat) : ∀ (k : Nat) (v1 : Int32) (w : zWd) (w9 : zWd) , f_X1_init_L274 n c0 k v1 w = some w9 → zJ X 328 [some (vA c0), none, none] [] w9 → zJ X 274 [some (vA c0), some (vI v1), none] [] w := by
  intro k
  induction k with
  | zero => intro v1 w w9 hf _; exact nomatch (show (none : Option (zWd)) = _ from hf)
  | succ k ih =>
    intro v1 w w9 hf kx
    have hf : f_X1_init_L274b n c0 (f_X1_init_L274 n c0 k) v1 w = _ := hf
    unfold f_X1_init_L274b at hf
    refine j_iload_n (pc := 274) hX dX1_init_274 rfl ?_
    refine j_bipush (pc := 275) hX (6 : Int32) dX1_init_275 (by decide +kernel) ?_
    refine j_icmp_ge (pc := 277) hX 328 dX1_init_277 rfl hf (fun h_ hf => ?_) (fun h_ hf => ?_)
    · refine j_fg [1] [some (vA c0), none, none] rfl ?_
      cases hf
      exact kx
    · refine j_aload_n (pc := 280) hX dX1_init_280 rfl ?_
      refine j_getA (pc := 281) hX kX1 (k := 11) (Nat.le_of_ble_eq_true rfl) q351 (Or.inl rfl) dX1_init_281 hf (fun x90 hx_ hf => ?_)
      refine j_new (pc := 284) hX kX2 q162 q163 q70 df_X2 df_X2_ok dX1_init_284 hf (fun x91 w92 hf => ?_)
      refine j_dup (pc := 287) hX rfl dX1_init_287 ?_
      refine j_iconst (pc := 288) hX (0 : Int32) dX1_init_288 rfl ?_
      obtain ⟨x94, w93, hc_, hf⟩ := zB2_e hf
      refine j_callS (pc := 289) hX mt_J10_valueOf q310 q311 [vI (0 : Int32)] rfl rfl (Nat.le_of_ble_eq_true rfl) (by decide) dX1_init_289 (k_J10_valueOf _ _ hc_) ?_
      obtain ⟨w95, hc_, hf⟩ := zob hf
      obtain ⟨hi_, hc_⟩ := zV_e hc_
      refine j_callI (pc := 292) hX mt_X2_init q182 q183 rfl rfl [vA x94] rfl rfl (Nat.le_of_ble_eq_true rfl) (by decide) dX1_init_292 (of_decide_eq_true hi_) (k_X2_init () _ hc_) ?_
      obtain ⟨x97, w96, hc_, hf⟩ := zB2_e hf
      obtain ⟨hi_, hc_⟩ := zV_e hc_
      refine j_callF (pc := 295) hX (ci := 18) mt_J2_add q226 q232 q230 (by decide +kernel) rfl hi_ ⟨_, rfl, rfl⟩ [vA x91] rfl rfl (Nat.le_of_ble_eq_true rfl) (by decide) dX1_init_295 (k_J2_add _ _ hc_) ?_
      refine j_pop (pc := 300) hX rfl dX1_init_300 ?_
      refine j_aload_n (pc := 301) hX dX1_init_301 rfl ?_
      refine j_getA (pc := 302) hX kX1 (k := 12) (Nat.le_of_ble_eq_true rfl) q353 (Or.inl rfl) dX1_init_302 hf (fun x98 hx_ hf => ?_)
      refine j_new (pc := 305) hX kX2 q162 q163 q70 df_X2 df_X2_ok dX1_init_305 hf (fun x99 w100 hf => ?_)
      refine j_dup (pc := 308) hX rfl dX1_init_308 ?_
      refine j_iconst (pc := 309) hX (0 : Int32) dX1_init_309 rfl ?_
      obtain ⟨x102, w101, hc_, hf⟩ := zB2_e hf
      refine j_callS (pc := 310) hX mt_J10_valueOf q310 q311 [vI (0 : Int32)] rfl rfl (Nat.le_of_ble_eq_true rfl) (by decide) dX1_init_310 (k_J10_valueOf _ _ hc_) ?_
      obtain ⟨w103, hc_, hf⟩ := zob hf
      obtain ⟨hi_, hc_⟩ := zV_e hc_
      refine j_callI (pc := 313) hX mt_X2_init q182 q183 rfl rfl [vA x102] rfl rfl (Nat.le_of_ble_eq_true rfl) (by decide) dX1_init_313 (of_decide_eq_true hi_) (k_X2_init () _ hc_) ?_
      obtain ⟨x105, w104, hc_, hf⟩ := zB2_e hf
      obtain ⟨hi_, hc_⟩ := zV_e hc_
      refine j_callF (pc := 316) hX (ci := 18) mt_J2_add q226 q232 q230 (by decide +kernel) rfl hi_ ⟨_, rfl, rfl⟩ [vA x99] rfl rfl (Nat.le_of_ble_eq_true rfl) (by decide) dX1_init_316 (k_J2_add _ _ hc_) ?_
      refine j_pop (pc := 321) hX rfl dX1_init_321 ?_
      refine j_iinc (pc := 322) hX (1) dX1_init_322 rfl rfl (by decide) [some (vA c0), some (vI (v1 + (1))), none] rfl ?_
      refine j_goto (pc := 325) hX 274 dX1_init_325 rfl ?_
      exact ih _ _ _ hf kx
set_option maxHeartbeats 4000000 in
theorem k_X1_init {l : Launch} {n : Nat} {a0 : Option Nat} {w : zWd} (r : Unit) (w9 : zWd) (hf : f_X1_init n a0 w = some w9) : zCt l yX1_init cX1_init 3 none 8 [vA a0] w (.inr (none, w9)) := by
  refine zCt_of (lv := [some (vA a0), none, none]) (by decide +kernel) 2 rfl rfl ?_
  intro X hX hI hN hQ
  have hX : zGd X RX1 cX1_init 3 none 8 := hX
  unfold f_X1_init at hf
  refine j_aload_n (pc := 0) hX dX1_init_0 rfl ?_
  obtain ⟨hne_, hf⟩ := zGd_e hf
  refine j_objInit (pc := 1) hX (by decide) q123 q124 q125 (by rw [zCs_eq]; exact Nat.le_of_ble_eq_true rfl) dX1_init_1 hne_ ?_
  refine j_aload_n (pc := 4) hX dX1_init_4 rfl ?_
  refine j_new (pc := 5) hX kJ2 q126 q127 q69 df_J2 df_J2_ok dX1_init_5 hf (fun x1 w2 hf => ?_)
  refine j_dup (pc := 8) hX rfl dX1_init_8 ?_
  obtain ⟨w3, hc_, hf⟩ := zob hf
  obtain ⟨hi_, hc_⟩ := zV_e hc_
  refine j_callI (pc := 9) hX mt_J2_init q128 q129 rfl rfl [] rfl rfl (Nat.le_of_ble_eq_true rfl) (by decide) dX1_init_9 (of_decide_eq_true hi_) (k_J2_init () _ hc_) ?_
  refine j_putAF (pc := 12) hX hI kX1 (k := 0) (Nat.le_of_ble_eq_true rfl) q332 rfl rfl rfl rfl dX1_init_12 hf (fun w4 hf => ?_)
  refine j_aload_n (pc := 15) hX dX1_init_15 rfl ?_
  refine j_new (pc := 16) hX kJ2 q126 q127 q69 df_J2 df_J2_ok dX1_init_16 hf (fun x5 w6 hf => ?_)
  refine j_dup (pc := 19) hX rfl dX1_init_19 ?_
  obtain ⟨w7, hc_, hf⟩ := zob hf
  obtain ⟨hi_, hc_⟩ := zV_e hc_
  refine j_callI (pc := 20) hX mt_J2_init q128 q129 rfl rfl [] rfl rfl (Nat.le_of_ble_eq_true rfl) (by decide) dX1_init_20 (of_decide_eq_true hi_) (k_J2_init () _ hc_) ?_
  refine j_putAF (pc := 23) hX hI kX1 (k := 2) (Nat.le_of_ble_eq_true rfl) q335 rfl rfl rfl rfl dX1_init_23 hf (fun w8 hf => ?_)
  refine j_aload_n (pc := 26) hX dX1_init_26 rfl ?_
  refine j_new (pc := 27) hX kJ2 q126 q127 q69 df_J2 df_J2_ok dX1_init_27 hf (fun x9 w10 hf => ?_)
  refine j_dup (pc := 30) hX rfl dX1_init_30 ?_
  obtain ⟨w11, hc_, hf⟩ := zob hf
  obtain ⟨hi_, hc_⟩ := zV_e hc_
  refine j_callI (pc := 31) hX mt_J2_init q128 q129 rfl rfl [] rfl rfl (Nat.le_of_ble_eq_true rfl) (by decide) dX1_init_31 (of_decide_eq_true hi_) (k_J2_init () _ hc_) ?_
  refine j_putA (pc := 34) hX kX1 (k := 6) (Nat.le_of_ble_eq_true rfl) q342 (Or.inl rfl) rfl rfl dX1_init_34 hf (fun w12 hf => ?_)
  refine j_aload_n (pc := 37) hX dX1_init_37 rfl ?_
  refine j_new (pc := 38) hX kJ2 q126 q127 q69 df_J2 df_J2_ok dX1_init_38 hf (fun x13 w14 hf => ?_)
  refine j_dup (pc := 41) hX rfl dX1_init_41 ?_
  obtain ⟨w15, hc_, hf⟩ := zob hf
  obtain ⟨hi_, hc_⟩ := zV_e hc_
  refine j_callI (pc := 42) hX mt_J2_init q128 q129 rfl rfl [] rfl rfl (Nat.le_of_ble_eq_true rfl) (by decide) dX1_init_42 (of_decide_eq_true hi_) (k_J2_init () _ hc_) ?_
  refine j_putA (pc := 45) hX kX1 (k := 7) (Nat.le_of_ble_eq_true rfl) q344 (Or.inl rfl) rfl rfl dX1_init_45 hf (fun w16 hf => ?_)
  refine j_aload_n (pc := 48) hX dX1_init_48 rfl ?_
  refine j_bipush (pc := 49) hX (6 : Int32) dX1_init_49 (by decide +kernel) ?_
  refine j_bipush (pc := 51) hX (24 : Int32) dX1_init_51 (by decide +kernel) ?_
  refine j_iconst (pc := 53) hX (3 : Int32) dX1_init_53 rfl ?_
  refine j_multiI3 (pc := 54) hX q155 dX1_init_54 hf (fun x17 w18 hf => ?_)
  refine j_putAF (pc := 58) hX hI kX1 (k := 8) (Nat.le_of_ble_eq_true rfl) q346 rfl rfl rfl rfl dX1_init_58 hf (fun w19 hf => ?_)
  refine j_aload_n (pc := 61) hX dX1_init_61 rfl ?_
  refine j_new (pc := 62) hX kJ2 q126 q127 q69 df_J2 df_J2_ok dX1_init_62 hf (fun x20 w21 hf => ?_)
  refine j_dup (pc := 65) hX rfl dX1_init_65 ?_
  obtain ⟨w22, hc_, hf⟩ := zob hf
  obtain ⟨hi_, hc_⟩ := zV_e hc_
  refine j_callI (pc := 66) hX mt_J2_init q128 q129 rfl rfl [] rfl rfl (Nat.le_of_ble_eq_true rfl) (by decide) dX1_init_66 (of_decide_eq_true hi_) (k_J2_init () _ hc_) ?_
  refine j_putAF (pc := 69) hX hI kX1 (k := 9) (Nat.le_of_ble_eq_true rfl) q348 rfl rfl rfl rfl dX1_init_69 hf (fun w23 hf => ?_)
  refine j_aload_n (pc := 72) hX dX1_init_72 rfl ?_
  refine j_new (pc := 73) hX kJ2 q126 q127 q69 df_J2 df_J2_ok dX1_init_73 hf (fun x24 w25 hf => ?_)
  refine j_dup (pc := 76) hX rfl dX1_init_76 ?_
  obtain ⟨w26, hc_, hf⟩ := zob hf
  obtain ⟨hi_, hc_⟩ := zV_e hc_
  refine j_callI (pc := 77) hX mt_J2_init q128 q129 rfl rfl [] rfl rfl (Nat.le_of_ble_eq_true rfl) (by decide) dX1_init_77 (of_decide_eq_true hi_) (k_J2_init () _ hc_) ?_
  refine j_putAF (pc := 80) hX hI kX1 (k := 10) (Nat.le_of_ble_eq_true rfl) q349 rfl rfl rfl rfl dX1_init_80 hf (fun w27 hf => ?_)
  refine j_aload_n (pc := 83) hX dX1_init_83 rfl ?_
  refine j_new (pc := 84) hX kJ2 q126 q127 q69 df_J2 df_J2_ok dX1_init_84 hf (fun x28 w29 hf => ?_)
  refine j_dup (pc := 87) hX rfl dX1_init_87 ?_
  obtain ⟨w30, hc_, hf⟩ := zob hf
  obtain ⟨hi_, hc_⟩ := zV_e hc_
  refine j_callI (pc := 88) hX mt_J2_init q128 q129 rfl rfl [] rfl rfl (Nat.le_of_ble_eq_true rfl) (by decide) dX1_init_88 (of_decide_eq_true hi_) (k_J2_init () _ hc_) ?_
  refine j_putAF (pc := 91) hX hI kX1 (k := 11) (Nat.le_of_ble_eq_true rfl) q351 rfl rfl rfl rfl dX1_init_91 hf (fun w31 hf => ?_)
  refine j_aload_n (pc := 94) hX dX1_init_94 rfl ?_
  refine j_new (pc := 95) hX kJ2 q126 q127 q69 df_J2 df_J2_ok dX1_init_95 hf (fun x32 w33 hf => ?_)
  refine j_dup (pc := 98) hX rfl dX1_init_98 ?_
  obtain ⟨w34, hc_, hf⟩ := zob hf
  obtain ⟨hi_, hc_⟩ := zV_e hc_
  refine j_callI (pc := 99) hX mt_J2_init q128 q129 rfl rfl [] rfl rfl (Nat.le_of_ble_eq_true rfl) (by decide) dX1_init_99 (of_decide_eq_true hi_) (k_J2_init () _ hc_) ?_
  refine j_putAF (pc := 102) hX hI kX1 (k := 12) (Nat.le_of_ble_eq_true rfl) q353 rfl rfl rfl rfl dX1_init_102 hf (fun w35 hf => ?_)
  refine j_aload_n (pc := 105) hX dX1_init_105 rfl ?_
  refine j_new (pc := 106) hX kJ2 q126 q127 q69 df_J2 df_J2_ok dX1_init_106 hf (fun x36 w37 hf => ?_)
  refine j_dup (pc := 109) hX rfl dX1_init_109 ?_
  obtain ⟨w38, hc_, hf⟩ := zob hf
  obtain ⟨hi_, hc_⟩ := zV_e hc_
  refine j_callI (pc := 110) hX mt_J2_init q128 q129 rfl rfl [] rfl rfl (Nat.le_of_ble_eq_true rfl) (by decide) dX1_init_110 (of_decide_eq_true hi_) (k_J2_init () _ hc_) ?_
  refine j_putAF (pc := 113) hX hI kX1 (k := 13) (Nat.le_of_ble_eq_true rfl) q354 rfl rfl rfl rfl dX1_init_113 hf (fun w39 hf => ?_)
  refine j_aload_n (pc := 116) hX dX1_init_116 rfl ?_
  refine j_new (pc := 117) hX kJ2 q126 q127 q69 df_J2 df_J2_ok dX1_init_117 hf (fun x40 w41 hf => ?_)
  refine j_dup (pc := 120) hX rfl dX1_init_120 ?_
  obtain ⟨w42, hc_, hf⟩ := zob hf
  obtain ⟨hi_, hc_⟩ := zV_e hc_
  refine j_callI (pc := 121) hX mt_J2_init q128 q129 rfl rfl [] rfl rfl (Nat.le_of_ble_eq_true rfl) (by decide) dX1_init_121 (of_decide_eq_true hi_) (k_J2_init () _ hc_) ?_
  refine j_putAF (pc := 124) hX hI kX1 (k := 14) (Nat.le_of_ble_eq_true rfl) q356 rfl rfl rfl rfl dX1_init_124 hf (fun w43 hf => ?_)
  refine j_aload_n (pc := 127) hX dX1_init_127 rfl ?_
  refine j_new (pc := 128) hX kJ2 q126 q127 q69 df_J2 df_J2_ok dX1_init_128 hf (fun x44 w45 hf => ?_)
  refine j_dup (pc := 131) hX rfl dX1_init_131 ?_
  obtain ⟨w46, hc_, hf⟩ := zob hf
  obtain ⟨hi_, hc_⟩ := zV_e hc_
  refine j_callI (pc := 132) hX mt_J2_init q128 q129 rfl rfl [] rfl rfl (Nat.le_of_ble_eq_true rfl) (by decide) dX1_init_132 (of_decide_eq_true hi_) (k_J2_init () _ hc_) ?_
  refine j_putAF (pc := 135) hX hI kX1 (k := 15) (Nat.le_of_ble_eq_true rfl) q357 rfl rfl rfl rfl dX1_init_135 hf (fun w47 hf => ?_)
  refine j_aload_n (pc := 138) hX dX1_init_138 rfl ?_
  refine j_new (pc := 139) hX kJ2 q126 q127 q69 df_J2 df_J2_ok dX1_init_139 hf (fun x48 w49 hf => ?_)
  refine j_dup (pc := 142) hX rfl dX1_init_142 ?_
  obtain ⟨w50, hc_, hf⟩ := zob hf
  obtain ⟨hi_, hc_⟩ := zV_e hc_
  refine j_callI (pc := 143) hX mt_J2_init q128 q129 rfl rfl [] rfl rfl (Nat.le_of_ble_eq_true rfl) (by decide) dX1_init_143 (of_decide_eq_true hi_) (k_J2_init () _ hc_) ?_
  refine j_putAF (pc := 146) hX hI kX1 (k := 16) (Nat.le_of_ble_eq_true rfl) q359 rfl rfl rfl rfl dX1_init_146 hf (fun w51 hf => ?_)
  refine j_aload_n (pc := 149) hX dX1_init_149 rfl ?_
  refine j_iconst (pc := 150) hX (3 : Int32) dX1_init_150 rfl ?_
  refine j_bipush (pc := 151) hX (24 : Int32) dX1_init_151 (by decide +kernel) ?_
  refine j_iconst (pc := 153) hX (2 : Int32) dX1_init_153 rfl ?_
  refine j_multiL3 (pc := 154) hX q158 dX1_init_154 hf (fun x52 w53 hf => ?_)
  refine j_putAF (pc := 158) hX hI kX1 (k := 18) (Nat.le_of_ble_eq_true rfl) q361 rfl rfl rfl rfl dX1_init_158 hf (fun w54 hf => ?_)
  refine j_aload_n (pc := 161) hX dX1_init_161 rfl ?_
  refine j_iconst (pc := 162) hX (3 : Int32) dX1_init_162 rfl ?_
  refine j_bipush (pc := 163) hX (24 : Int32) dX1_init_163 (by decide +kernel) ?_
  refine j_multiI2 (pc := 165) hX q161 dX1_init_165 hf (fun x55 w56 hf => ?_)
  refine j_putAF (pc := 169) hX hI kX1 (k := 19) (Nat.le_of_ble_eq_true rfl) q362 rfl rfl rfl rfl dX1_init_169 hf (fun w57 hf => ?_)
  refine j_iconst (pc := 172) hX (0 : Int32) dX1_init_172 rfl ?_
  refine j_istore_n (pc := 173) hX dX1_init_173 (by decide) [some (vA a0), some (vI (0 : Int32)), none] rfl ?_
  obtain ⟨w89, hm_, hf⟩ := zob hf
  refine lp_X1_init_L174 hX hI n _ _ _ _ _ hm_ ?_
  refine j_iconst (pc := 272) hX (0 : Int32) dX1_init_272 rfl ?_
  refine j_istore_n (pc := 273) hX dX1_init_273 (by decide) [some (vA a0), some (vI (0 : Int32)), none] rfl ?_
  obtain ⟨w106, hm_, hf⟩ := zob hf
  refine lp_X1_init_L274 hX hI n _ _ _ _ _ hm_ ?_
  exact j_return (pc := 328) hX hQ (by cases hf; rfl) dX1_init_328
def f_X1_open (n : Nat) (a0 : Option Nat) (w : zWd) : Option (Int32 × zWd) :=
  (gI w 0 17 a0).bind fun x1 =>
  some (x1, w)
theorem mt_X1_open : zMt yX1_open cX1_open 1 (some .int) 0 := ⟨q407, q66, ⟨by decide, by decide⟩, by decide +kernel, by decide⟩
set_option maxHeartbeats 4000000 in
theorem k_X1_open {l : Launch} {n : Nat} {a0 : Option Nat} {w : zWd} (r : Int32) (w9 : zWd) (hf : f_X1_open n a0 w = some (r, w9)) : zCt l yX1_open cX1_open 1 (some .int) 1 [vA a0] w (.inr (some (vI r), w9)) := by
  refine zCt_of (lv := [some (vA a0)]) (by decide +kernel) 0 rfl rfl ?_
  intro X hX hI hN hQ
  have hX : zGd X RX1 cX1_open 1 (some .int) 1 := hX
  unfold f_X1_open at hf
  refine j_aload_n (pc := 0) hX dX1_open_0 rfl ?_
  refine j_getI (pc := 1) hX kX1 (k := 17) (Nat.le_of_ble_eq_true rfl) q360 (Or.inl rfl) dX1_open_1 hf (fun x1 hx_ hf => ?_)
  exact j_ireturn (pc := 4) hX hQ (by cases hf; rfl) dX1_open_4
def f_J2_size (n : Nat) (a0 : Option Nat) (w : zWd) : Option (Int32 × zWd) :=
  (gI w 18 2 a0).bind fun x1 =>
  some (x1, w)
theorem mt_J2_size : zMt yJ2_size cJ2_size 1 (some .int) 0 := ⟨q420, q69, ⟨by decide, by decide⟩, by decide +kernel, by decide⟩
set_option maxHeartbeats 4000000 in
theorem k_J2_size {l : Launch} {n : Nat} {a0 : Option Nat} {w : zWd} (r : Int32) (w9 : zWd) (hf : f_J2_size n a0 w = some (r, w9)) : zCt l yJ2_size cJ2_size 1 (some .int) 1 [vA a0] w (.inr (some (vI r), w9)) := by
  refine zCt_of (lv := [some (vA a0)]) (by decide +kernel) 0 rfl rfl ?_
  intro X hX hI hN hQ
  have hX : zGd X RJ2 cJ2_size 1 (some .int) 1 := hX
  unfold f_J2_size at hf
  refine j_aload_n (pc := 0) hX dJ2_size_0 rfl ?_
  refine j_getI (pc := 1) hX kJ2 (k := 2) (Nat.le_of_ble_eq_true rfl) q143 (Or.inl rfl) dJ2_size_1 hf (fun x1 hx_ hf => ?_)
  exact j_ireturn (pc := 4) hX hQ (by cases hf; rfl) dJ2_size_4
def f_X1_payments (n : Nat) (a0 : Option Nat) (w : zWd) : Option (Int32 × zWd) :=
  (gA w 0 16 a0).bind fun x1 =>
  zB2 (zV (isC w 18 x1) (f_J2_size n x1 w)) fun x3 w2 =>
  some (x3, w2)
theorem mt_X1_payments : zMt yX1_payments cX1_payments 1 (some .int) 0 := ⟨q411, q66, ⟨by decide, by decide⟩, by decide +kernel, by decide⟩
set_option maxHeartbeats 4000000 in
theorem k_X1_payments {l : Launch} {n : Nat} {a0 : Option Nat} {w : zWd} (r : Int32) (w9 : zWd) (hf : f_X1_payments n a0 w = some (r, w9)) : zCt l yX1_payments cX1_payments 1 (some .int) 2 [vA a0] w (.inr (some (vI r), w9)) := by
  refine zCt_of (lv := [some (vA a0)]) (by decide +kernel) 0 rfl rfl ?_
  intro X hX hI hN hQ
  have hX : zGd X RX1 cX1_payments 1 (some .int) 2 := hX
  unfold f_X1_payments at hf
  refine j_aload_n (pc := 0) hX dX1_payments_0 rfl ?_
  refine j_getA (pc := 1) hX kX1 (k := 16) (Nat.le_of_ble_eq_true rfl) q359 (Or.inl rfl) dX1_payments_1 hf (fun x1 hx_ hf => ?_)
  obtain ⟨x3, w2, hc_, hf⟩ := zB2_e hf
  obtain ⟨hi_, hc_⟩ := zV_e hc_
  refine j_callF (pc := 4) hX (ci := 18) mt_J2_size q413 q418 q416 (by decide +kernel) rfl hi_ ⟨_, rfl, rfl⟩ [] rfl rfl (Nat.le_of_ble_eq_true rfl) (by decide) dX1_payments_4 (k_J2_size _ _ hc_) ?_
  exact j_ireturn (pc := 9) hX hQ (by cases hf; rfl) dX1_payments_9
def f_X1_at (n : Nat) (a0 : Int32) (a1 : Int32) (w : zWd) : Option ((String ⊕ Int32) × zWd) :=
  if a0 < (0 : Int32) then
    zThr "java/lang/IndexOutOfBoundsException" w
  else
    if a0 < a1 then
      some (.inr a0, w)
    else
      zThr "java/lang/IndexOutOfBoundsException" w
theorem mt_X1_at : zMt yX1_at cX1_at 2 (some .int) 2 := ⟨q509, q66, ⟨by decide, by decide⟩, by decide +kernel, by decide⟩
set_option maxHeartbeats 4000000 in
theorem k_X1_at {l : Launch} {n : Nat} {a0 : Int32} {a1 : Int32} {w : zWd} (r : String ⊕ Int32) (w9 : zWd) (hf : f_X1_at n a0 a1 w = some (r, w9)) : zCt l yX1_at cX1_at 2 (some .int) 6 [vI a0, vI a1] w (zXI r w9) := by
  refine zCt_of (lv := [some (vI a0), some (vI a1)]) (by decide +kernel) 0 rfl rfl ?_
  intro X hX hI hN hQ
  have hX : zGd X RX1 cX1_at 2 (some .int) 6 := hX
  unfold f_X1_at at hf
  refine j_iload_n (pc := 0) hX dX1_at_0 rfl ?_
  refine j_if_lt (pc := 1) hX 9 dX1_at_1 rfl hf (fun h_ hf => ?_) (fun h_ hf => ?_)
  · obtain ⟨hr_, hf⟩ := zThr_e hf
    cases hf
    exact j_throwS (pc := 9) (E := "java/lang/IndexOutOfBoundsException") (names := ["java/lang/RuntimeException", "java/lang/Exception"]) hX hN hQ 0 rfl (by decide +kernel) (by decide +kernel) q510 q86 zth_238_1 zth_238_2 zth_238_3 dX1_at_9 dX1_at_12 (Or.inl dX1_at_13) dX1_at_15 dX1_at_18 (by decide) (Nat.le_of_ble_eq_true rfl) hr_
  · refine j_iload_n (pc := 4) hX dX1_at_4 rfl ?_
    refine j_iload_n (pc := 5) hX dX1_at_5 rfl ?_
    refine j_icmp_lt (pc := 6) hX 19 dX1_at_6 rfl hf (fun h_ hf => ?_) (fun h_ hf => ?_)
    · refine j_iload_n (pc := 19) hX dX1_at_19 rfl ?_
      exact j_ireturn (pc := 20) hX hQ (by cases hf; rfl) dX1_at_20
    · obtain ⟨hr_, hf⟩ := zThr_e hf
      cases hf
      exact j_throwS (pc := 9) (E := "java/lang/IndexOutOfBoundsException") (names := ["java/lang/RuntimeException", "java/lang/Exception"]) hX hN hQ 0 rfl (by decide +kernel) (by decide +kernel) q510 q86 zth_238_1 zth_238_2 zth_238_3 dX1_at_9 dX1_at_12 (Or.inl dX1_at_13) dX1_at_15 dX1_at_18 (by decide) (Nat.le_of_ble_eq_true rfl) hr_
def f_X1_in (n : Nat) (a0 : Int32) (a1 : Int32) (a2 : Int32) (w : zWd) : Option ((String ⊕ Int32) × zWd) :=
  if a0 < a1 then
    zThr "java/lang/IllegalArgumentException" w
  else
    if a0 ≤ a2 then
      some (.inr a0, w)
    else
      zThr "java/lang/IllegalArgumentException" w
theorem mt_X1_in : zMt yX1_in cX1_in 3 (some .int) 3 := ⟨q525, q66, ⟨by decide, by decide⟩, by decide +kernel, by decide⟩
set_option maxHeartbeats 4000000 in
theorem k_X1_in {l : Launch} {n : Nat} {a0 : Int32} {a1 : Int32} {a2 : Int32} {w : zWd} (r : String ⊕ Int32) (w9 : zWd) (hf : f_X1_in n a0 a1 a2 w = some (r, w9)) : zCt l yX1_in cX1_in 3 (some .int) 6 [vI a0, vI a1, vI a2] w (zXI r w9) := by
  refine zCt_of (lv := [some (vI a0), some (vI a1), some (vI a2)]) (by decide +kernel) 0 rfl rfl ?_
  intro X hX hI hN hQ
  have hX : zGd X RX1 cX1_in 3 (some .int) 6 := hX
  unfold f_X1_in at hf
  refine j_iload_n (pc := 0) hX dX1_in_0 rfl ?_
  refine j_iload_n (pc := 1) hX dX1_in_1 rfl ?_
  refine j_icmp_lt (pc := 2) hX 10 dX1_in_2 rfl hf (fun h_ hf => ?_) (fun h_ hf => ?_)
  · obtain ⟨hr_, hf⟩ := zThr_e hf
    cases hf
    exact j_throwS (pc := 10) (E := "java/lang/IllegalArgumentException") (names := ["java/lang/RuntimeException", "java/lang/Exception"]) hX hN hQ 1 rfl (by decide +kernel) (by decide +kernel) q526 q89 zth_245_1 zth_245_2 zth_245_3 dX1_in_10 dX1_in_13 (Or.inl dX1_in_14) dX1_in_16 dX1_in_19 (by decide) (Nat.le_of_ble_eq_true rfl) hr_
  · refine j_iload_n (pc := 5) hX dX1_in_5 rfl ?_
    refine j_iload_n (pc := 6) hX dX1_in_6 rfl ?_
    refine j_icmp_le (pc := 7) hX 20 dX1_in_7 rfl hf (fun h_ hf => ?_) (fun h_ hf => ?_)
    · refine j_iload_n (pc := 20) hX dX1_in_20 rfl ?_
      exact j_ireturn (pc := 21) hX hQ (by cases hf; rfl) dX1_in_21
    · obtain ⟨hr_, hf⟩ := zThr_e hf
      cases hf
      exact j_throwS (pc := 10) (E := "java/lang/IllegalArgumentException") (names := ["java/lang/RuntimeException", "java/lang/Exception"]) hX hN hQ 1 rfl (by decide +kernel) (by decide +kernel) q526 q89 zth_245_1 zth_245_2 zth_245_3 dX1_in_10 dX1_in_13 (Or.inl dX1_in_14) dX1_in_16 dX1_in_19 (by decide) (Nat.le_of_ble_eq_true rfl) hr_
def f_X1_must (n : Nat) (a0 : Int32) (w : zWd) : Option ((String ⊕ Unit) × zWd) :=
  if a0 = (0 : Int32) then
    zThr "java/lang/IllegalStateException" w
  else
    some (.inr (), w)
theorem mt_X1_must : zMt yX1_must cX1_must 1 none 1 := ⟨q545, q66, ⟨by decide, by decide⟩, by decide +kernel, by decide⟩
set_option maxHeartbeats 4000000 in
theorem k_X1_must {l : Launch} {n : Nat} {a0 : Int32} {w : zWd} (r : String ⊕ Unit) (w9 : zWd) (hf : f_X1_must n a0 w = some (r, w9)) : zCt l yX1_must cX1_must 1 none 6 [vI a0] w (zXU r w9) := by
  refine zCt_of (lv := [some (vI a0)]) (by decide +kernel) 0 rfl rfl ?_
  intro X hX hI hN hQ
  have hX : zGd X RX1 cX1_must 1 none 6 := hX
  unfold f_X1_must at hf
  refine j_iload_n (pc := 0) hX dX1_must_0 rfl ?_
  refine j_if_ne (pc := 1) hX 14 dX1_must_1 rfl hf (fun h_ hf => ?_) (fun h_ hf => ?_)
  · exact j_return (pc := 14) hX hQ (by cases hf; rfl) dX1_must_14
  · obtain ⟨hr_, hf⟩ := zThr_e hf
    cases hf
    exact j_throwS (pc := 4) (E := "java/lang/IllegalStateException") (names := ["java/lang/RuntimeException", "java/lang/Exception"]) hX hN hQ 2 rfl (by decide +kernel) (by decide +kernel) q546 q90 zth_250_1 zth_250_2 zth_250_3 dX1_must_4 dX1_must_7 (Or.inl dX1_must_8) dX1_must_10 dX1_must_13 (by decide) (Nat.le_of_ble_eq_true rfl) hr_
def f_J10_compare (n : Nat) (a0 : Int32) (a1 : Int32) (w : zWd) : Option (Int32 × zWd) :=
  (
    if a1 ≤ a0 then
      if a0 = a1 then
        some (0 : Int32)
      else
        some (1 : Int32)
    else
      some (-1 : Int32)
    ).bind fun x1 =>
  some (x1, w)
theorem mt_J10_compare : zMt yJ10_compare cJ10_compare 2 (some .int) 2 := ⟨q611, q80, ⟨by decide, by decide⟩, by decide +kernel, by decide⟩
set_option maxHeartbeats 4000000 in
theorem k_J10_compare {l : Launch} {n : Nat} {a0 : Int32} {a1 : Int32} {w : zWd} (r : Int32) (w9 : zWd) (hf : f_J10_compare n a0 a1 w = some (r, w9)) : zCt l yJ10_compare cJ10_compare 2 (some .int) 1 [vI a0, vI a1] w (.inr (some (vI r), w9)) := by
  refine zCt_of (lv := [some (vI a0), some (vI a1)]) (by decide +kernel) 0 rfl rfl ?_
  intro X hX hI hN hQ
  have hX : zGd X RJ10 cJ10_compare 2 (some .int) 1 := hX
  unfold f_J10_compare at hf
  refine j_iload_n (pc := 0) hX dJ10_compare_0 rfl ?_
  refine j_iload_n (pc := 1) hX dJ10_compare_1 rfl ?_
  obtain ⟨x1, hm_, hf⟩ := zob hf
  have kj2 : zJ X 19 [none, none] [vI x1] w := by
    clear hm_
    exact j_ireturn (pc := 19) hX hQ (by cases hf; rfl) dJ10_compare_19
  have hf := hm_
  refine j_icmp_ge (pc := 2) hX 9 dJ10_compare_2 rfl hf (fun h_ hf => ?_) (fun h_ hf => ?_)
  · refine j_iload_n (pc := 9) hX dJ10_compare_9 rfl ?_
    refine j_iload_n (pc := 10) hX dJ10_compare_10 rfl ?_
    refine j_icmp_ne (pc := 11) hX 18 dJ10_compare_11 rfl hf (fun h_ hf => ?_) (fun h_ hf => ?_)
    · refine j_iconst (pc := 18) hX (1 : Int32) dJ10_compare_18 rfl ?_
      refine j_fg [0, 1] [none, none] rfl ?_
      cases hf
      exact kj2
    · refine j_iconst (pc := 14) hX (0 : Int32) dJ10_compare_14 rfl ?_
      refine j_goto (pc := 15) hX 19 dJ10_compare_15 rfl ?_
      refine j_fg [0, 1] [none, none] rfl ?_
      cases hf
      exact kj2
  · refine j_iconst (pc := 5) hX (-1 : Int32) dJ10_compare_5 rfl ?_
    refine j_goto (pc := 6) hX 19 dJ10_compare_6 rfl ?_
    refine j_fg [0, 1] [none, none] rfl ?_
    simp only [Option.some.injEq, Prod.mk.injEq] at hf
    obtain rfl := hf
    exact kj2
def f_J10_compareTo_2 (n : Nat) (a0 : Option Nat) (a1 : Option Nat) (w : zWd) : Option (Int32 × zWd) :=
  (gI w 20 0 a0).bind fun x1 =>
  (gI w 20 0 a1).bind fun x2 =>
  zB2 (f_J10_compare n x1 x2 w) fun x4 w3 =>
  some (x4, w3)
theorem mt_J10_compareTo_2 : zMt yJ10_compareTo_2 cJ10_compareTo_2 2 (some .int) 1 := ⟨q608, q80, ⟨by decide, by decide⟩, by decide +kernel, by decide⟩
set_option maxHeartbeats 4000000 in
theorem k_J10_compareTo_2 {l : Launch} {n : Nat} {a0 : Option Nat} {a1 : Option Nat} {w : zWd} (r : Int32) (w9 : zWd) (hf : f_J10_compareTo_2 n a0 a1 w = some (r, w9)) : zCt l yJ10_compareTo_2 cJ10_compareTo_2 2 (some .int) 2 [vA a0, vA a1] w (.inr (some (vI r), w9)) := by
  refine zCt_of (lv := [some (vA a0), some (vA a1)]) (by decide +kernel) 0 rfl rfl ?_
  intro X hX hI hN hQ
  have hX : zGd X RJ10 cJ10_compareTo_2 2 (some .int) 2 := hX
  unfold f_J10_compareTo_2 at hf
  refine j_aload_n (pc := 0) hX dJ10_compareTo_2_0 rfl ?_
  refine j_getI (pc := 1) hX kJ10 (k := 0) (Nat.le_of_ble_eq_true rfl) q326 (Or.inl rfl) dJ10_compareTo_2_1 hf (fun x1 hx_ hf => ?_)
  refine j_aload_n (pc := 4) hX dJ10_compareTo_2_4 rfl ?_
  refine j_getI (pc := 5) hX kJ10 (k := 0) (Nat.le_of_ble_eq_true rfl) q326 (Or.inl rfl) dJ10_compareTo_2_5 hf (fun x2 hx_ hf => ?_)
  obtain ⟨x4, w3, hc_, hf⟩ := zB2_e hf
  refine j_callS (pc := 8) hX mt_J10_compare q609 q610 [vI x1, vI x2] rfl rfl (Nat.le_of_ble_eq_true rfl) (by decide) dJ10_compareTo_2_8 (k_J10_compare _ _ hc_) ?_
  exact j_ireturn (pc := 11) hX hQ (by cases hf; rfl) dJ10_compareTo_2_11
def f_J10_compareTo (n : Nat) (a0 : Option Nat) (a1 : Option Nat) (w : zWd) : Option (Int32 × zWd) :=
  (cK w [20] a1).bind fun _ =>
  zB2 (zV (isC w 20 a0) (f_J10_compareTo_2 n a0 a1 w)) fun x2 w1 =>
  some (x2, w1)
theorem mt_J10_compareTo : zMt yJ10_compareTo cJ10_compareTo 2 (some .int) 1 := ⟨q604, q80, ⟨by decide, by decide⟩, by decide +kernel, by decide⟩
set_option maxHeartbeats 4000000 in
theorem k_J10_compareTo {l : Launch} {n : Nat} {a0 : Option Nat} {a1 : Option Nat} {w : zWd} (r : Int32) (w9 : zWd) (hf : f_J10_compareTo n a0 a1 w = some (r, w9)) : zCt l yJ10_compareTo cJ10_compareTo 2 (some .int) 3 [vA a0, vA a1] w (.inr (some (vI r), w9)) := by
  refine zCt_of (lv := [some (vA a0), some (vA a1)]) (by decide +kernel) 0 rfl rfl ?_
  intro X hX hI hN hQ
  have hX : zGd X RJ10 cJ10_compareTo 2 (some .int) 3 := hX
  unfold f_J10_compareTo at hf
  refine j_aload_n (pc := 0) hX dJ10_compareTo_0 rfl ?_
  refine j_aload_n (pc := 1) hX dJ10_compareTo_1 rfl ?_
  refine j_cast (pc := 2) hX q317 [20] (zC1 ⟨_, rfl, Or.inl rfl⟩) dJ10_compareTo_2 hf (fun hf => ?_)
  obtain ⟨x2, w1, hc_, hf⟩ := zB2_e hf
  obtain ⟨hi_, hc_⟩ := zV_e hc_
  refine j_callV (pc := 5) hX (ci := 20) mt_J10_compareTo_2 q605 q606 q607 hi_ ⟨_, rfl, rfl⟩ [vA a1] rfl rfl (Nat.le_of_ble_eq_true rfl) (by decide) dJ10_compareTo_5 (k_J10_compareTo_2 _ _ hc_) ?_
  exact j_ireturn (pc := 8) hX hQ (by cases hf; rfl) dJ10_compareTo_8
def f_X16_compare_2 (n : Nat) (a0 : Option Nat) (a1 : Option Nat) (a2 : Option Nat) (w : zWd) : Option (Int32 × zWd) :=
  (gI w 14 3 a1).bind fun x1 =>
  (gI w 14 3 a2).bind fun x2 =>
  (
    if x1 = x2 then
      (gI w 14 0 a1).bind fun x5 =>
      (gI w 14 0 a2).bind fun x6 =>
      some (x5 - x6)
    else
      (gI w 14 3 a1).bind fun x3 =>
      (gI w 14 3 a2).bind fun x4 =>
      some (x3 - x4)
    ).bind fun x7 =>
  some (x7, w)
theorem mt_X16_compare_2 : zMt yX16_compare_2 cX16_compare_2 3 (some .int) 2 := ⟨q835, q115, ⟨by decide, by decide⟩, by decide +kernel, by decide⟩
set_option maxHeartbeats 4000000 in
theorem k_X16_compare_2 {l : Launch} {n : Nat} {a0 : Option Nat} {a1 : Option Nat} {a2 : Option Nat} {w : zWd} (r : Int32) (w9 : zWd) (hf : f_X16_compare_2 n a0 a1 a2 w = some (r, w9)) : zCt l yX16_compare_2 cX16_compare_2 3 (some .int) 1 [vA a0, vA a1, vA a2] w (.inr (some (vI r), w9)) := by
  refine zCt_of (lv := [some (vA a0), some (vA a1), some (vA a2)]) (by decide +kernel) 0 rfl rfl ?_
  intro X hX hI hN hQ
  have hX : zGd X RX16 cX16_compare_2 3 (some .int) 1 := hX
  unfold f_X16_compare_2 at hf
  refine j_aload_n (pc := 0) hX dX16_compare_2_0 rfl ?_
  refine j_getIN (pc := 1) hX kX15 (k := 3) (Nat.le_of_ble_eq_true rfl) q2077 rfl dX16_compare_2_1 hf (fun x1 hx_ hf => ?_)
  refine j_aload_n (pc := 4) hX dX16_compare_2_4 rfl ?_
  refine j_getIN (pc := 5) hX kX15 (k := 3) (Nat.le_of_ble_eq_true rfl) q2077 rfl dX16_compare_2_5 hf (fun x2 hx_ hf => ?_)
  obtain ⟨x7, hm_, hf⟩ := zob hf
  have kj8 : zJ X 32 [none, none, none] [vI x7] w := by
    clear hm_
    exact j_ireturn (pc := 32) hX hQ (by cases hf; rfl) dX16_compare_2_32
  have hf := hm_
  refine j_icmp_ne (pc := 8) hX 23 dX16_compare_2_8 rfl hf (fun h_ hf => ?_) (fun h_ hf => ?_)
  · refine j_aload_n (pc := 23) hX dX16_compare_2_23 rfl ?_
    refine j_getIN (pc := 24) hX kX15 (k := 3) (Nat.le_of_ble_eq_true rfl) q2077 rfl dX16_compare_2_24 hf (fun x3 hx_ hf => ?_)
    refine j_aload_n (pc := 27) hX dX16_compare_2_27 rfl ?_
    refine j_getIN (pc := 28) hX kX15 (k := 3) (Nat.le_of_ble_eq_true rfl) q2077 rfl dX16_compare_2_28 hf (fun x4 hx_ hf => ?_)
    refine j_isub (pc := 31) hX dX16_compare_2_31 ?_
    refine j_fg [0, 1, 2] [none, none, none] rfl ?_
    cases hf
    exact kj8
  · refine j_aload_n (pc := 11) hX dX16_compare_2_11 rfl ?_
    refine j_getIN (pc := 12) hX kX15 (k := 0) (Nat.le_of_ble_eq_true rfl) q2068 rfl dX16_compare_2_12 hf (fun x5 hx_ hf => ?_)
    refine j_aload_n (pc := 15) hX dX16_compare_2_15 rfl ?_
    refine j_getIN (pc := 16) hX kX15 (k := 0) (Nat.le_of_ble_eq_true rfl) q2068 rfl dX16_compare_2_16 hf (fun x6 hx_ hf => ?_)
    refine j_isub (pc := 19) hX dX16_compare_2_19 ?_
    refine j_goto (pc := 20) hX 32 dX16_compare_2_20 rfl ?_
    refine j_fg [0, 1, 2] [none, none, none] rfl ?_
    cases hf
    exact kj8
def f_X16_compare (n : Nat) (a0 : Option Nat) (a1 : Option Nat) (a2 : Option Nat) (w : zWd) : Option (Int32 × zWd) :=
  (cK w [14] a1).bind fun _ =>
  (cK w [14] a2).bind fun _ =>
  zB2 (zV (isC w 15 a0) (f_X16_compare_2 n a0 a1 a2 w)) fun x2 w1 =>
  some (x2, w1)
theorem mt_X16_compare : zMt yX16_compare cX16_compare 3 (some .int) 2 := ⟨q830, q115, ⟨by decide, by decide⟩, by decide +kernel, by decide⟩
set_option maxHeartbeats 4000000 in
theorem k_X16_compare {l : Launch} {n : Nat} {a0 : Option Nat} {a1 : Option Nat} {a2 : Option Nat} {w : zWd} (r : Int32) (w9 : zWd) (hf : f_X16_compare n a0 a1 a2 w = some (r, w9)) : zCt l yX16_compare cX16_compare 3 (some .int) 2 [vA a0, vA a1, vA a2] w (.inr (some (vI r), w9)) := by
  refine zCt_of (lv := [some (vA a0), some (vA a1), some (vA a2)]) (by decide +kernel) 0 rfl rfl ?_
  intro X hX hI hN hQ
  have hX : zGd X RX16 cX16_compare 3 (some .int) 2 := hX
  unfold f_X16_compare at hf
  refine j_aload_n (pc := 0) hX dX16_compare_0 rfl ?_
  refine j_aload_n (pc := 1) hX dX16_compare_1 rfl ?_
  refine j_cast (pc := 2) hX q831 [14] (zC1 ⟨_, rfl, Or.inl rfl⟩) dX16_compare_2 hf (fun hf => ?_)
  refine j_aload_n (pc := 5) hX dX16_compare_5 rfl ?_
  refine j_cast (pc := 6) hX q831 [14] (zC1 ⟨_, rfl, Or.inl rfl⟩) dX16_compare_6 hf (fun hf => ?_)
  obtain ⟨x2, w1, hc_, hf⟩ := zB2_e hf
  obtain ⟨hi_, hc_⟩ := zV_e hc_
  refine j_callV (pc := 9) hX (ci := 15) mt_X16_compare_2 q832 q833 q834 hi_ ⟨_, rfl, rfl⟩ [vA a1, vA a2] rfl rfl (Nat.le_of_ble_eq_true rfl) (by decide) dX16_compare_9 (k_X16_compare_2 _ _ hc_) ?_
  exact j_ireturn (pc := 12) hX hQ (by cases hf; rfl) dX16_compare_12
def f_J5_compare (n : Nat) (a0 : Option Nat) (a1 : Option Nat) (a2 : Option Nat) (w : zWd) : Option (Int32 × zWd) :=
  (gA w 19 2 a0).bind fun x1 =>
  zB2 (
    if x1 = none then
      (cK w [20] a1).bind fun _ =>
      zB2 (zV (isC w 20 a1) (f_J10_compareTo n a1 a2 w)) fun x6 w5 =>
      some (x6, w5)
    else
      (gA w 19 2 a0).bind fun x2 =>
      zB2 (zV (isC w 15 x2) (f_X16_compare n x2 a1 a2 w)) fun x4 w3 =>
      some (x4, w3)
    ) fun x7 w8 =>
  some (x7, w8)
theorem mt_J5_compare : zMt yJ5_compare cJ5_compare 3 (some .int) 2 := ⟨q593, q74, ⟨by decide, by decide⟩, by decide +kernel, by decide⟩
set_option maxHeartbeats 4000000 in
theorem k_J5_compare {l : Launch} {n : Nat} {a0 : Option Nat} {a1 : Option Nat} {a2 : Option Nat} {w : zWd} (r : Int32) (w9 : zWd) (hf : f_J5_compare n a0 a1 a2 w = some (r, w9)) : zCt l yJ5_compare cJ5_compare 3 (some .int) 4 [vA a0, vA a1, vA a2] w (.inr (some (vI r), w9)) := by
  refine zCt_of (lv := [some (vA a0), some (vA a1), some (vA a2)]) (by decide +kernel) 0 rfl rfl ?_
  intro X hX hI hN hQ
  have hX : zGd X RJ5 cJ5_compare 3 (some .int) 4 := hX
  unfold f_J5_compare at hf
  refine j_aload_n (pc := 0) hX dJ5_compare_0 rfl ?_
  refine j_getA (pc := 1) hX kJ5 (k := 2) (Nat.le_of_ble_eq_true rfl) q195 (Or.inl rfl) dJ5_compare_1 hf (fun x1 hx_ hf => ?_)
  obtain ⟨x7, w8, hm_, hf⟩ := zB2_e hf
  have kj4 : zJ X 31 [none, none, none] [vI x7] w8 := by
    clear hm_
    exact j_ireturn (pc := 31) hX hQ (by cases hf; rfl) dJ5_compare_31
  have hf := hm_
  refine j_ifnonnull (pc := 4) hX 20 dJ5_compare_4 rfl hf (fun h_ hf => ?_) (fun h_ hf => ?_)
  · refine j_aload_n (pc := 20) hX dJ5_compare_20 rfl ?_
    refine j_getA (pc := 21) hX kJ5 (k := 2) (Nat.le_of_ble_eq_true rfl) q195 (Or.inl rfl) dJ5_compare_21 hf (fun x2 hx_ hf => ?_)
    refine j_aload_n (pc := 24) hX dJ5_compare_24 rfl ?_
    refine j_aload_n (pc := 25) hX dJ5_compare_25 rfl ?_
    obtain ⟨x4, w3, hc_, hf⟩ := zB2_e hf
    obtain ⟨hi_, hc_⟩ := zV_e hc_
    refine j_callF (pc := 26) hX (ci := 15) mt_X16_compare q822 q828 q826 (by decide +kernel) rfl hi_ ⟨_, rfl, rfl⟩ [vA a1, vA a2] rfl rfl (Nat.le_of_ble_eq_true rfl) (by decide) dJ5_compare_26 (k_X16_compare _ _ hc_) ?_
    refine j_fg [0, 1, 2] [none, none, none] rfl ?_
    cases hf
    exact kj4
  · refine j_aload_n (pc := 7) hX dJ5_compare_7 rfl ?_
    refine j_cast (pc := 8) hX q594 [20] (zC1 ⟨_, rfl, Or.inr q599⟩) dJ5_compare_8 hf (fun hf => ?_)
    refine j_aload_n (pc := 11) hX dJ5_compare_11 rfl ?_
    obtain ⟨x6, w5, hc_, hf⟩ := zB2_e hf
    obtain ⟨hi_, hc_⟩ := zV_e hc_
    refine j_callF (pc := 12) hX (ci := 20) mt_J10_compareTo q596 q602 q600 (by decide +kernel) rfl hi_ ⟨_, rfl, rfl⟩ [vA a2] rfl rfl (Nat.le_of_ble_eq_true rfl) (by decide) dJ5_compare_12 (k_J10_compareTo _ _ hc_) ?_
    refine j_goto (pc := 17) hX 31 dJ5_compare_17 rfl ?_
    refine j_fg [0, 1, 2] [none, none, none] rfl ?_
    cases hf
    exact kj4
def f_J24_init (n : Nat) (a0 : Option Nat) (a1 : Option Nat) (a2 : Option Nat) (a3 : Option Nat) (w : zWd) : Option zWd :=
  if a0 = none then none else
  (pZ w 21 5 a0 (1 : Int32)).bind fun w1 =>
  (pA w1 21 0 a0 a1).bind fun w2 =>
  (pA w2 21 1 a0 a2).bind fun w3 =>
  (pA w3 21 4 a0 a3).bind fun w4 =>
  some w4
theorem mt_J24_init : zMt yJ24_init cJ24_init 4 none 3 := ⟨q840, q98, ⟨by decide, by decide⟩, by decide +kernel, by decide⟩
set_option maxHeartbeats 4000000 in
theorem k_J24_init {l : Launch} {n : Nat} {a0 : Option Nat} {a1 : Option Nat} {a2 : Option Nat} {a3 : Option Nat} {w : zWd} (r : Unit) (w9 : zWd) (hf : f_J24_init n a0 a1 a2 a3 w = some w9) : zCt l yJ24_init cJ24_init 4 none 1 [vA a0, vA a1, vA a2, vA a3] w (.inr (none, w9)) := by
  refine zCt_of (lv := [some (vA a0), some (vA a1), some (vA a2), some (vA a3)]) (by decide +kernel) 0 rfl rfl ?_
  intro X hX hI hN hQ
  have hX : zGd X RJ24 cJ24_init 4 none 1 := hX
  unfold f_J24_init at hf
  refine j_aload_n (pc := 0) hX dJ24_init_0 rfl ?_
  obtain ⟨hne_, hf⟩ := zGd_e hf
  refine j_objInit (pc := 1) hX (by decide) q841 q124 q125 (by rw [zCs_eq]; exact Nat.le_of_ble_eq_true rfl) dJ24_init_1 hne_ ?_
  refine j_aload_n (pc := 4) hX dJ24_init_4 rfl ?_
  refine j_iconst (pc := 5) hX (1 : Int32) dJ24_init_5 rfl ?_
  refine j_putZ (pc := 6) hX kJ24 (k := 5) (Nat.le_of_ble_eq_true rfl) q850 (Or.inl rfl) rfl rfl dJ24_init_6 hf (fun w1 hf => ?_)
  refine j_aload_n (pc := 9) hX dJ24_init_9 rfl ?_
  refine j_aload_n (pc := 10) hX dJ24_init_10 rfl ?_
  refine j_putA (pc := 11) hX kJ24 (k := 0) (Nat.le_of_ble_eq_true rfl) q842 (Or.inl rfl) rfl rfl dJ24_init_11 hf (fun w2 hf => ?_)
  refine j_aload_n (pc := 14) hX dJ24_init_14 rfl ?_
  refine j_aload_n (pc := 15) hX dJ24_init_15 rfl ?_
  refine j_putA (pc := 16) hX kJ24 (k := 1) (Nat.le_of_ble_eq_true rfl) q844 (Or.inl rfl) rfl rfl dJ24_init_16 hf (fun w3 hf => ?_)
  refine j_aload_n (pc := 19) hX dJ24_init_19 rfl ?_
  refine j_aload_n (pc := 20) hX dJ24_init_20 rfl ?_
  refine j_putA (pc := 21) hX kJ24 (k := 4) (Nat.le_of_ble_eq_true rfl) q848 (Or.inl rfl) rfl rfl dJ24_init_21 hf (fun w4 hf => ?_)
  exact j_return (pc := 24) hX hQ (by cases hf; rfl) dJ24_init_24
def f_J5_addEntryToEmptyMap (n : Nat) (a0 : Option Nat) (a1 : Option Nat) (a2 : Option Nat) (w : zWd) : Option zWd :=
  zB2 (zV (isC w 19 a0) (f_J5_compare n a0 a1 a1 w)) fun x2 w1 =>
  zB2 (zNew w1 6 (.inr (21, df_J24))) fun x3 w4 =>
  (zV (decide (x3 ≠ none)) (f_J24_init n x3 a1 a2 none w4)).bind fun w5 =>
  (pA w5 19 3 a0 x3).bind fun w6 =>
  (pI w6 19 4 a0 (1 : Int32)).bind fun w7 =>
  (gI w7 19 5 a0).bind fun x8 =>
  (pI w7 19 5 a0 (x8 + (1 : Int32))).bind fun w9 =>
  some w9
theorem mt_J5_addEntryToEmptyMap : zMt yJ5_addEntryToEmptyMap cJ5_addEntryToEmptyMap 3 none 2 := ⟨q589, q74, ⟨by decide, by decide⟩, by decide +kernel, by decide⟩
set_option maxHeartbeats 4000000 in
theorem k_J5_addEntryToEmptyMap {l : Launch} {n : Nat} {a0 : Option Nat} {a1 : Option Nat} {a2 : Option Nat} {w : zWd} (r : Unit) (w9 : zWd) (hf : f_J5_addEntryToEmptyMap n a0 a1 a2 w = some w9) : zCt l yJ5_addEntryToEmptyMap cJ5_addEntryToEmptyMap 3 none 5 [vA a0, vA a1, vA a2] w (.inr (none, w9)) := by
  refine zCt_of (lv := [some (vA a0), some (vA a1), some (vA a2)]) (by decide +kernel) 0 rfl rfl ?_
  intro X hX hI hN hQ
  have hX : zGd X RJ5 cJ5_addEntryToEmptyMap 3 none 5 := hX
  unfold f_J5_addEntryToEmptyMap at hf
  refine j_aload_n (pc := 0) hX dJ5_addEntryToEmptyMap_0 rfl ?_
  refine j_aload_n (pc := 1) hX dJ5_addEntryToEmptyMap_1 rfl ?_
  refine j_aload_n (pc := 2) hX dJ5_addEntryToEmptyMap_2 rfl ?_
  obtain ⟨x2, w1, hc_, hf⟩ := zB2_e hf
  obtain ⟨hi_, hc_⟩ := zV_e hc_
  refine j_callV (pc := 3) hX (ci := 19) mt_J5_compare q590 q591 q592 hi_ ⟨_, rfl, rfl⟩ [vA a1, vA a1] rfl rfl (Nat.le_of_ble_eq_true rfl) (by decide) dJ5_addEntryToEmptyMap_3 (k_J5_compare _ _ hc_) ?_
  refine j_pop (pc := 6) hX rfl dJ5_addEntryToEmptyMap_6 ?_
  refine j_aload_n (pc := 7) hX dJ5_addEntryToEmptyMap_7 rfl ?_
  refine j_new (pc := 8) hX kJ24 q836 q837 q98 df_J24 df_J24_ok dJ5_addEntryToEmptyMap_8 hf (fun x3 w4 hf => ?_)
  refine j_dup (pc := 11) hX rfl dJ5_addEntryToEmptyMap_11 ?_
  refine j_aload_n (pc := 12) hX dJ5_addEntryToEmptyMap_12 rfl ?_
  refine j_aload_n (pc := 13) hX dJ5_addEntryToEmptyMap_13 rfl ?_
  refine j_null (pc := 14) hX dJ5_addEntryToEmptyMap_14 ?_
  obtain ⟨w5, hc_, hf⟩ := zob hf
  obtain ⟨hi_, hc_⟩ := zV_e hc_
  refine j_callI (pc := 15) hX mt_J24_init q838 q839 rfl rfl [vA a1, vA a2, vA none] rfl rfl (Nat.le_of_ble_eq_true rfl) (by decide) dJ5_addEntryToEmptyMap_15 (of_decide_eq_true hi_) (k_J24_init () _ hc_) ?_
  refine j_putA (pc := 18) hX kJ5 (k := 3) (Nat.le_of_ble_eq_true rfl) q196 (Or.inl rfl) rfl rfl dJ5_addEntryToEmptyMap_18 hf (fun w6 hf => ?_)
  refine j_aload_n (pc := 21) hX dJ5_addEntryToEmptyMap_21 rfl ?_
  refine j_iconst (pc := 22) hX (1 : Int32) dJ5_addEntryToEmptyMap_22 rfl ?_
  refine j_putI (pc := 23) hX kJ5 (k := 4) (Nat.le_of_ble_eq_true rfl) q197 (Or.inl rfl) rfl rfl dJ5_addEntryToEmptyMap_23 hf (fun w7 hf => ?_)
  refine j_aload_n (pc := 26) hX dJ5_addEntryToEmptyMap_26 rfl ?_
  refine j_dup (pc := 27) hX rfl dJ5_addEntryToEmptyMap_27 ?_
  refine j_getI (pc := 28) hX kJ5 (k := 5) (Nat.le_of_ble_eq_true rfl) q198 (Or.inl rfl) dJ5_addEntryToEmptyMap_28 hf (fun x8 hx_ hf => ?_)
  refine j_iconst (pc := 31) hX (1 : Int32) dJ5_addEntryToEmptyMap_31 rfl ?_
  refine j_iadd (pc := 32) hX dJ5_addEntryToEmptyMap_32 ?_
  refine j_putI (pc := 33) hX kJ5 (k := 5) (Nat.le_of_ble_eq_true rfl) q198 (Or.inl rfl) rfl rfl dJ5_addEntryToEmptyMap_33 hf (fun w9 hf => ?_)
  exact j_return (pc := 36) hX hQ (by cases hf; rfl) dJ5_addEntryToEmptyMap_36
def f_J25_requireNonNull (n : Nat) (a0 : Option Nat) (w : zWd) : Option ((Option Nat) × zWd) :=
  if a0 = none then
    none
  else
    some (a0, w)
theorem mt_J25_requireNonNull : zMt yJ25_requireNonNull cJ25_requireNonNull 1 (some (.object "java/lang/Object")) 1 := ⟨q867, q99, ⟨by decide, by decide⟩, by decide +kernel, by decide⟩
set_option maxHeartbeats 4000000 in
theorem k_J25_requireNonNull {l : Launch} {n : Nat} {a0 : Option Nat} {w : zWd} (r : Option Nat) (w9 : zWd) (hf : f_J25_requireNonNull n a0 w = some (r, w9)) : zCt l yJ25_requireNonNull cJ25_requireNonNull 1 (some (.object "java/lang/Object")) 1 [vA a0] w (.inr (some (vA r), w9)) := by
  refine zCt_of (lv := [some (vA a0)]) (by decide +kernel) 0 rfl rfl ?_
  intro X hX hI hN hQ
  have hX : zGd X RJ25 cJ25_requireNonNull 1 (some (.object "java/lang/Object")) 1 := hX
  unfold f_J25_requireNonNull at hf
  refine j_aload_n (pc := 0) hX dJ25_requireNonNull_0 rfl ?_
  refine j_ifnonnull (pc := 1) hX 12 dJ25_requireNonNull_1 rfl hf (fun h_ hf => ?_) (fun h_ hf => ?_)
  · refine j_aload_n (pc := 12) hX dJ25_requireNonNull_12 rfl ?_
    exact j_areturn (pc := 13) hX rfl hQ (by cases hf; rfl) dJ25_requireNonNull_13
  · cases hf
def f_J5_parentOf (n : Nat) (a0 : Option Nat) (w : zWd) : Option ((Option Nat) × zWd) :=
  (
    if a0 = none then
      some none
    else
      (gA w 21 4 a0).bind fun x1 =>
      some x1
    ).bind fun x2 =>
  some (x2, w)
theorem mt_J5_parentOf : zMt yJ5_parentOf cJ5_parentOf 1 (some (.object "java/util/TreeMap$Entry")) 1 := ⟨q878, q74, ⟨by decide, by decide⟩, by decide +kernel, by decide⟩
set_option maxHeartbeats 4000000 in
theorem k_J5_parentOf {l : Launch} {n : Nat} {a0 : Option Nat} {w : zWd} (r : Option Nat) (w9 : zWd) (hf : f_J5_parentOf n a0 w = some (r, w9)) : zCt l yJ5_parentOf cJ5_parentOf 1 (some (.object "java/util/TreeMap$Entry")) 1 [vA a0] w (.inr (some (vA r), w9)) := by
  refine zCt_of (lv := [some (vA a0)]) (by decide +kernel) 0 rfl rfl ?_
  intro X hX hI hN hQ
  have hX : zGd X RJ5 cJ5_parentOf 1 (some (.object "java/util/TreeMap$Entry")) 1 := hX
  unfold f_J5_parentOf at hf
  refine j_aload_n (pc := 0) hX dJ5_parentOf_0 rfl ?_
  obtain ⟨x2, hm_, hf⟩ := zob hf
  have kj1 : zJ X 12 [none] [vA x2] w := by
    clear hm_
    exact j_areturn (pc := 12) hX rfl hQ (by cases hf; rfl) dJ5_parentOf_12
  have hf := hm_
  refine j_ifnonnull (pc := 1) hX 8 dJ5_parentOf_1 rfl hf (fun h_ hf => ?_) (fun h_ hf => ?_)
  · refine j_aload_n (pc := 8) hX dJ5_parentOf_8 rfl ?_
    refine j_getA (pc := 9) hX kJ24 (k := 4) (Nat.le_of_ble_eq_true rfl) q849 (Or.inl rfl) dJ5_parentOf_9 hf (fun x1 hx_ hf => ?_)
    refine j_fg [0] [none] rfl ?_
    cases hf
    exact kj1
  · refine j_null (pc := 4) hX dJ5_parentOf_4 ?_
    refine j_goto (pc := 5) hX 12 dJ5_parentOf_5 rfl ?_
    refine j_fg [0] [none] rfl ?_
    cases hf
    exact kj1
def f_J5_leftOf (n : Nat) (a0 : Option Nat) (w : zWd) : Option ((Option Nat) × zWd) :=
  (
    if a0 = none then
      some none
    else
      (gA w 21 2 a0).bind fun x1 =>
      some x1
    ).bind fun x2 =>
  some (x2, w)
theorem mt_J5_leftOf : zMt yJ5_leftOf cJ5_leftOf 1 (some (.object "java/util/TreeMap$Entry")) 1 := ⟨q881, q74, ⟨by decide, by decide⟩, by decide +kernel, by decide⟩
set_option maxHeartbeats 4000000 in
theorem k_J5_leftOf {l : Launch} {n : Nat} {a0 : Option Nat} {w : zWd} (r : Option Nat) (w9 : zWd) (hf : f_J5_leftOf n a0 w = some (r, w9)) : zCt l yJ5_leftOf cJ5_leftOf 1 (some (.object "java/util/TreeMap$Entry")) 1 [vA a0] w (.inr (some (vA r), w9)) := by
  refine zCt_of (lv := [some (vA a0)]) (by decide +kernel) 0 rfl rfl ?_
  intro X hX hI hN hQ
  have hX : zGd X RJ5 cJ5_leftOf 1 (some (.object "java/util/TreeMap$Entry")) 1 := hX
  unfold f_J5_leftOf at hf
  refine j_aload_n (pc := 0) hX dJ5_leftOf_0 rfl ?_
  obtain ⟨x2, hm_, hf⟩ := zob hf
  have kj1 : zJ X 12 [none] [vA x2] w := by
    clear hm_
    exact j_areturn (pc := 12) hX rfl hQ (by cases hf; rfl) dJ5_leftOf_12
  have hf := hm_
  refine j_ifnonnull (pc := 1) hX 8 dJ5_leftOf_1 rfl hf (fun h_ hf => ?_) (fun h_ hf => ?_)
  · refine j_aload_n (pc := 8) hX dJ5_leftOf_8 rfl ?_
    refine j_getA (pc := 9) hX kJ24 (k := 2) (Nat.le_of_ble_eq_true rfl) q846 (Or.inl rfl) dJ5_leftOf_9 hf (fun x1 hx_ hf => ?_)
    refine j_fg [0] [none] rfl ?_
    cases hf
    exact kj1
  · refine j_null (pc := 4) hX dJ5_leftOf_4 ?_
    refine j_goto (pc := 5) hX 12 dJ5_leftOf_5 rfl ?_
    refine j_fg [0] [none] rfl ?_
    cases hf
    exact kj1
def f_J5_rightOf (n : Nat) (a0 : Option Nat) (w : zWd) : Option ((Option Nat) × zWd) :=
  (
    if a0 = none then
      some none
    else
      (gA w 21 3 a0).bind fun x1 =>
      some x1
    ).bind fun x2 =>
  some (x2, w)
theorem mt_J5_rightOf : zMt yJ5_rightOf cJ5_rightOf 1 (some (.object "java/util/TreeMap$Entry")) 1 := ⟨q884, q74, ⟨by decide, by decide⟩, by decide +kernel, by decide⟩
set_option maxHeartbeats 4000000 in
theorem k_J5_rightOf {l : Launch} {n : Nat} {a0 : Option Nat} {w : zWd} (r : Option Nat) (w9 : zWd) (hf : f_J5_rightOf n a0 w = some (r, w9)) : zCt l yJ5_rightOf cJ5_rightOf 1 (some (.object "java/util/TreeMap$Entry")) 1 [vA a0] w (.inr (some (vA r), w9)) := by
  refine zCt_of (lv := [some (vA a0)]) (by decide +kernel) 0 rfl rfl ?_
  intro X hX hI hN hQ
  have hX : zGd X RJ5 cJ5_rightOf 1 (some (.object "java/util/TreeMap$Entry")) 1 := hX
  unfold f_J5_rightOf at hf
  refine j_aload_n (pc := 0) hX dJ5_rightOf_0 rfl ?_
  obtain ⟨x2, hm_, hf⟩ := zob hf
  have kj1 : zJ X 12 [none] [vA x2] w := by
    clear hm_
    exact j_areturn (pc := 12) hX rfl hQ (by cases hf; rfl) dJ5_rightOf_12
  have hf := hm_
  refine j_ifnonnull (pc := 1) hX 8 dJ5_rightOf_1 rfl hf (fun h_ hf => ?_) (fun h_ hf => ?_)
  · refine j_aload_n (pc := 8) hX dJ5_rightOf_8 rfl ?_
    refine j_getA (pc := 9) hX kJ24 (k := 3) (Nat.le_of_ble_eq_true rfl) q847 (Or.inl rfl) dJ5_rightOf_9 hf (fun x1 hx_ hf => ?_)
    refine j_fg [0] [none] rfl ?_
    cases hf
    exact kj1
  · refine j_null (pc := 4) hX dJ5_rightOf_4 ?_
    refine j_goto (pc := 5) hX 12 dJ5_rightOf_5 rfl ?_
    refine j_fg [0] [none] rfl ?_
    cases hf
    exact kj1
def f_J5_colorOf (n : Nat) (a0 : Option Nat) (w : zWd) : Option (Int32 × zWd) :=
  (
    if a0 = none then
      some (1 : Int32)
    else
      (gI w 21 5 a0).bind fun x1 =>
      some x1
    ).bind fun x2 =>
  zRz x2 w
theorem mt_J5_colorOf : zMt yJ5_colorOf cJ5_colorOf 1 (some .boolean) 1 := ⟨q887, q74, ⟨by decide, by decide⟩, by decide +kernel, by decide⟩
set_option maxHeartbeats 4000000 in
theorem k_J5_colorOf {l : Launch} {n : Nat} {a0 : Option Nat} {w : zWd} (r : Int32) (w9 : zWd) (hf : f_J5_colorOf n a0 w = some (r, w9)) : zCt l yJ5_colorOf cJ5_colorOf 1 (some .boolean) 1 [vA a0] w (.inr (some (vI r), w9)) := by
  refine zCt_of (lv := [some (vA a0)]) (by decide +kernel) 0 rfl rfl ?_
  intro X hX hI hN hQ
  have hX : zGd X RJ5 cJ5_colorOf 1 (some .boolean) 1 := hX
  unfold f_J5_colorOf at hf
  refine j_aload_n (pc := 0) hX dJ5_colorOf_0 rfl ?_
  obtain ⟨x2, hm_, hf⟩ := zob hf
  have kj1 : zJ X 12 [none] [vI x2] w := by
    clear hm_
    obtain ⟨hz_, hf⟩ := zRz_e hf
    exact j_zreturn (pc := 12) hX hQ hz_ (by cases hf; rfl) dJ5_colorOf_12
  have hf := hm_
  refine j_ifnonnull (pc := 1) hX 8 dJ5_colorOf_1 rfl hf (fun h_ hf => ?_) (fun h_ hf => ?_)
  · refine j_aload_n (pc := 8) hX dJ5_colorOf_8 rfl ?_
    refine j_getI (pc := 9) hX kJ24 (k := 5) (Nat.le_of_ble_eq_true rfl) q851 (Or.inl rfl) dJ5_colorOf_9 hf (fun x1 hx_ hf => ?_)
    refine j_fg [0] [none] rfl ?_
    cases hf
    exact kj1
  · refine j_iconst (pc := 4) hX (1 : Int32) dJ5_colorOf_4 rfl ?_
    refine j_goto (pc := 5) hX 12 dJ5_colorOf_5 rfl ?_
    refine j_fg [0] [none] rfl ?_
    cases hf
    exact kj1
def f_J5_setColor (n : Nat) (a0 : Option Nat) (a1 : Int32) (w : zWd) : Option zWd :=
  (
    if a0 = none then
      some w
    else
      (pZ w 21 5 a0 a1).bind fun w1 =>
      some w1
    ).bind fun w2 =>
  some w2
theorem mt_J5_setColor : zMt yJ5_setColor cJ5_setColor 2 none 2 := ⟨q890, q74, ⟨by decide, by decide⟩, by decide +kernel, by decide⟩
set_option maxHeartbeats 4000000 in
theorem k_J5_setColor {l : Launch} {n : Nat} {a0 : Option Nat} {a1 : Int32} {w : zWd} (r : Unit) (w9 : zWd) (hf : f_J5_setColor n a0 a1 w = some w9) : zCt l yJ5_setColor cJ5_setColor 2 none 1 [vA a0, vI a1] w (.inr (none, w9)) := by
  refine zCt_of (lv := [some (vA a0), some (vI a1)]) (by decide +kernel) 0 rfl rfl ?_
  intro X hX hI hN hQ
  have hX : zGd X RJ5 cJ5_setColor 2 none 1 := hX
  unfold f_J5_setColor at hf
  refine j_aload_n (pc := 0) hX dJ5_setColor_0 rfl ?_
  obtain ⟨w2, hm_, hf⟩ := zob hf
  have kj1 : zJ X 9 [none, none] [] w2 := by
    clear hm_
    exact j_return (pc := 9) hX hQ (by cases hf; rfl) dJ5_setColor_9
  have hf := hm_
  refine j_ifnull (pc := 1) hX 9 dJ5_setColor_1 rfl hf (fun h_ hf => ?_) (fun h_ hf => ?_)
  · refine j_fg [0, 1] [none, none] rfl ?_
    cases hf
    exact kj1
  · refine j_aload_n (pc := 4) hX dJ5_setColor_4 rfl ?_
    refine j_iload_n (pc := 5) hX dJ5_setColor_5 rfl ?_
    refine j_putZ (pc := 6) hX kJ24 (k := 5) (Nat.le_of_ble_eq_true rfl) q851 (Or.inl rfl) rfl rfl dJ5_setColor_6 hf (fun w1 hf => ?_)
    refine j_fg [0, 1] [none, none] rfl ?_
    cases hf
    exact kj1
def f_J5_rotateLeft (n : Nat) (a0 : Option Nat) (a1 : Option Nat) (w : zWd) : Option zWd :=
  (
    if a1 = none then
      some w
    else
      (gA w 21 3 a1).bind fun x1 =>
      (gA w 21 2 x1).bind fun x2 =>
      (pA w 21 3 a1 x2).bind fun w3 =>
      (gA w3 21 2 x1).bind fun x4 =>
      (
        if x4 = none then
          some w3
        else
          (gA w3 21 2 x1).bind fun x5 =>
          (pA w3 21 4 x5 a1).bind fun w6 =>
          some w6
        ).bind fun w7 =>
      (gA w7 21 4 a1).bind fun x8 =>
      (pA w7 21 4 x1 x8).bind fun w9 =>
      (gA w9 21 4 a1).bind fun x10 =>
      (
        if x10 = none then
          (pA w9 19 3 a0 x1).bind fun w17 =>
          some w17
        else
          (gA w9 21 4 a1).bind fun x11 =>
          (gA w9 21 2 x11).bind fun x12 =>
          if x12 = a1 then
            (gA w9 21 4 a1).bind fun x15 =>
            (pA w9 21 2 x15 x1).bind fun w16 =>
            some w16
          else
            (gA w9 21 4 a1).bind fun x13 =>
            (pA w9 21 3 x13 x1).bind fun w14 =>
            some w14
        ).bind fun w18 =>
      (pA w18 21 2 x1 a1).bind fun w19 =>
      (pA w19 21 4 a1 x1).bind fun w20 =>
      some w20
    ).bind fun w21 =>
  some w21
theorem mt_J5_rotateLeft : zMt yJ5_rotateLeft cJ5_rotateLeft 3 none 1 := ⟨q894, q74, ⟨by decide, by decide⟩, by decide +kernel, by decide⟩
set_option maxHeartbeats 4000000 in
theorem k_J5_rotateLeft {l : Launch} {n : Nat} {a0 : Option Nat} {a1 : Option Nat} {w : zWd} (r : Unit) (w9 : zWd) (hf : f_J5_rotateLeft n a0 a1 w = some w9) : zCt l yJ5_rotateLeft cJ5_rotateLeft 3 none 1 [vA a0, vA a1] w (.inr (none, w9)) := by
  refine zCt_of (lv := [some (vA a0), some (vA a1), none]) (by decide +kernel) 1 rfl rfl ?_
  intro X hX hI hN hQ
  have hX : zGd X RJ5 cJ5_rotateLeft 3 none 1 := hX
  unfold f_J5_rotateLeft at hf
  refine j_aload_n (pc := 0) hX dJ5_rotateLeft_0 rfl ?_
  obtain ⟨w21, hm_, hf⟩ := zob hf
  have kj1 : zJ X 95 [none, none, none] [] w21 := by
    clear hm_
    exact j_return (pc := 95) hX hQ (by cases hf; rfl) dJ5_rotateLeft_95
  have hf := hm_
  refine j_ifnull (pc := 1) hX 95 dJ5_rotateLeft_1 rfl hf (fun h_ hf => ?_) (fun h_ hf => ?_)
  · refine j_fg [0, 1] [none, none, none] rfl ?_
    cases hf
    exact kj1
  · refine j_aload_n (pc := 4) hX dJ5_rotateLeft_4 rfl ?_
    refine j_getA (pc := 5) hX kJ24 (k := 3) (Nat.le_of_ble_eq_true rfl) q847 (Or.inl rfl) dJ5_rotateLeft_5 hf (fun x1 hx_ hf => ?_)
    refine j_astore_n (pc := 8) hX dJ5_rotateLeft_8 (by decide) [some (vA a0), some (vA a1), some (vA x1)] rfl ?_
    refine j_aload_n (pc := 9) hX dJ5_rotateLeft_9 rfl ?_
    refine j_aload_n (pc := 10) hX dJ5_rotateLeft_10 rfl ?_
    refine j_getA (pc := 11) hX kJ24 (k := 2) (Nat.le_of_ble_eq_true rfl) q846 (Or.inl rfl) dJ5_rotateLeft_11 hf (fun x2 hx_ hf => ?_)
    refine j_putA (pc := 14) hX kJ24 (k := 3) (Nat.le_of_ble_eq_true rfl) q847 (Or.inl rfl) rfl rfl dJ5_rotateLeft_14 hf (fun w3 hf => ?_)
    refine j_aload_n (pc := 17) hX dJ5_rotateLeft_17 rfl ?_
    refine j_getA (pc := 18) hX kJ24 (k := 2) (Nat.le_of_ble_eq_true rfl) q846 (Or.inl rfl) dJ5_rotateLeft_18 hf (fun x4 hx_ hf => ?_)
    obtain ⟨w7, hm_, hf⟩ := zob hf
    have kj21 : zJ X 32 [some (vA a0), some (vA a1), some (vA x1)] [] w7 := by
      clear hm_
      refine j_aload_n (pc := 32) hX dJ5_rotateLeft_32 rfl ?_
      refine j_aload_n (pc := 33) hX dJ5_rotateLeft_33 rfl ?_
      refine j_getA (pc := 34) hX kJ24 (k := 4) (Nat.le_of_ble_eq_true rfl) q849 (Or.inl rfl) dJ5_rotateLeft_34 hf (fun x8 hx_ hf => ?_)
      refine j_putA (pc := 37) hX kJ24 (k := 4) (Nat.le_of_ble_eq_true rfl) q849 (Or.inl rfl) rfl rfl dJ5_rotateLeft_37 hf (fun w9 hf => ?_)
      refine j_aload_n (pc := 40) hX dJ5_rotateLeft_40 rfl ?_
      refine j_getA (pc := 41) hX kJ24 (k := 4) (Nat.le_of_ble_eq_true rfl) q849 (Or.inl rfl) dJ5_rotateLeft_41 hf (fun x10 hx_ hf => ?_)
      obtain ⟨w18, hm_, hf⟩ := zob hf
      have kj44 : zJ X 85 [none, some (vA a1), some (vA x1)] [] w18 := by
        clear hm_
        refine j_aload_n (pc := 85) hX dJ5_rotateLeft_85 rfl ?_
        refine j_aload_n (pc := 86) hX dJ5_rotateLeft_86 rfl ?_
        refine j_putA (pc := 87) hX kJ24 (k := 2) (Nat.le_of_ble_eq_true rfl) q846 (Or.inl rfl) rfl rfl dJ5_rotateLeft_87 hf (fun w19 hf => ?_)
        refine j_aload_n (pc := 90) hX dJ5_rotateLeft_90 rfl ?_
        refine j_aload_n (pc := 91) hX dJ5_rotateLeft_91 rfl ?_
        refine j_putA (pc := 92) hX kJ24 (k := 4) (Nat.le_of_ble_eq_true rfl) q849 (Or.inl rfl) rfl rfl dJ5_rotateLeft_92 hf (fun w20 hf => ?_)
        refine j_fg [1, 2] [none, none, none] rfl ?_
        cases hf
        exact kj1
      have hf := hm_
      refine j_ifnonnull (pc := 44) hX 55 dJ5_rotateLeft_44 rfl hf (fun h_ hf => ?_) (fun h_ hf => ?_)
      · refine j_aload_n (pc := 55) hX dJ5_rotateLeft_55 rfl ?_
        refine j_getA (pc := 56) hX kJ24 (k := 4) (Nat.le_of_ble_eq_true rfl) q849 (Or.inl rfl) dJ5_rotateLeft_56 hf (fun x11 hx_ hf => ?_)
        refine j_getA (pc := 59) hX kJ24 (k := 2) (Nat.le_of_ble_eq_true rfl) q846 (Or.inl rfl) dJ5_rotateLeft_59 hf (fun x12 hx_ hf => ?_)
        refine j_aload_n (pc := 62) hX dJ5_rotateLeft_62 rfl ?_
        refine j_acmp_ne (pc := 63) hX 77 dJ5_rotateLeft_63 rfl hf (fun h_ hf => ?_) (fun h_ hf => ?_)
        · refine j_aload_n (pc := 77) hX dJ5_rotateLeft_77 rfl ?_
          refine j_getA (pc := 78) hX kJ24 (k := 4) (Nat.le_of_ble_eq_true rfl) q849 (Or.inl rfl) dJ5_rotateLeft_78 hf (fun x13 hx_ hf => ?_)
          refine j_aload_n (pc := 81) hX dJ5_rotateLeft_81 rfl ?_
          refine j_putA (pc := 82) hX kJ24 (k := 3) (Nat.le_of_ble_eq_true rfl) q847 (Or.inl rfl) rfl rfl dJ5_rotateLeft_82 hf (fun w14 hf => ?_)
          refine j_fg [0] [none, some (vA a1), some (vA x1)] rfl ?_
          cases hf
          exact kj44
        · refine j_aload_n (pc := 66) hX dJ5_rotateLeft_66 rfl ?_
          refine j_getA (pc := 67) hX kJ24 (k := 4) (Nat.le_of_ble_eq_true rfl) q849 (Or.inl rfl) dJ5_rotateLeft_67 hf (fun x15 hx_ hf => ?_)
          refine j_aload_n (pc := 70) hX dJ5_rotateLeft_70 rfl ?_
          refine j_putA (pc := 71) hX kJ24 (k := 2) (Nat.le_of_ble_eq_true rfl) q846 (Or.inl rfl) rfl rfl dJ5_rotateLeft_71 hf (fun w16 hf => ?_)
          refine j_goto (pc := 74) hX 85 dJ5_rotateLeft_74 rfl ?_
          refine j_fg [0] [none, some (vA a1), some (vA x1)] rfl ?_
          cases hf
          exact kj44
      · refine j_aload_n (pc := 47) hX dJ5_rotateLeft_47 rfl ?_
        refine j_aload_n (pc := 48) hX dJ5_rotateLeft_48 rfl ?_
        refine j_putA (pc := 49) hX kJ5 (k := 3) (Nat.le_of_ble_eq_true rfl) q196 (Or.inl rfl) rfl rfl dJ5_rotateLeft_49 hf (fun w17 hf => ?_)
        refine j_goto (pc := 52) hX 85 dJ5_rotateLeft_52 rfl ?_
        refine j_fg [0] [none, some (vA a1), some (vA x1)] rfl ?_
        cases hf
        exact kj44
    have hf := hm_
    refine j_ifnull (pc := 21) hX 32 dJ5_rotateLeft_21 rfl hf (fun h_ hf => ?_) (fun h_ hf => ?_)
    · cases hf
      exact kj21
    · refine j_aload_n (pc := 24) hX dJ5_rotateLeft_24 rfl ?_
      refine j_getA (pc := 25) hX kJ24 (k := 2) (Nat.le_of_ble_eq_true rfl) q846 (Or.inl rfl) dJ5_rotateLeft_25 hf (fun x5 hx_ hf => ?_)
      refine j_aload_n (pc := 28) hX dJ5_rotateLeft_28 rfl ?_
      refine j_putA (pc := 29) hX kJ24 (k := 4) (Nat.le_of_ble_eq_true rfl) q849 (Or.inl rfl) rfl rfl dJ5_rotateLeft_29 hf (fun w6 hf => ?_)
      cases hf
      exact kj21
def f_J5_rotateRight (n : Nat) (a0 : Option Nat) (a1 : Option Nat) (w : zWd) : Option zWd :=
  (
    if a1 = none then
      some w
    else
      (gA w 21 2 a1).bind fun x1 =>
      (gA w 21 3 x1).bind fun x2 =>
      (pA w 21 2 a1 x2).bind fun w3 =>
      (gA w3 21 3 x1).bind fun x4 =>
      (
        if x4 = none then
          some w3
        else
          (gA w3 21 3 x1).bind fun x5 =>
          (pA w3 21 4 x5 a1).bind fun w6 =>
          some w6
        ).bind fun w7 =>
      (gA w7 21 4 a1).bind fun x8 =>
      (pA w7 21 4 x1 x8).bind fun w9 =>
      (gA w9 21 4 a1).bind fun x10 =>
      (
        if x10 = none then
          (pA w9 19 3 a0 x1).bind fun w17 =>
          some w17
        else
          (gA w9 21 4 a1).bind fun x11 =>
          (gA w9 21 3 x11).bind fun x12 =>
          if x12 = a1 then
            (gA w9 21 4 a1).bind fun x15 =>
            (pA w9 21 3 x15 x1).bind fun w16 =>
            some w16
          else
            (gA w9 21 4 a1).bind fun x13 =>
            (pA w9 21 2 x13 x1).bind fun w14 =>
            some w14
        ).bind fun w18 =>
      (pA w18 21 3 x1 a1).bind fun w19 =>
      (pA w19 21 4 a1 x1).bind fun w20 =>
      some w20
    ).bind fun w21 =>
  some w21
theorem mt_J5_rotateRight : zMt yJ5_rotateRight cJ5_rotateRight 3 none 1 := ⟨q898, q74, ⟨by decide, by decide⟩, by decide +kernel, by decide⟩
set_option maxHeartbeats 4000000 in
theorem k_J5_rotateRight {l : Launch} {n : Nat} {a0 : Option Nat} {a1 : Option Nat} {w : zWd} (r : Unit) (w9 : zWd) (hf : f_J5_rotateRight n a0 a1 w = some w9) : zCt l yJ5_rotateRight cJ5_rotateRight 3 none 1 [vA a0, vA a1] w (.inr (none, w9)) := by
  refine zCt_of (lv := [some (vA a0), some (vA a1), none]) (by decide +kernel) 1 rfl rfl ?_
  intro X hX hI hN hQ
  have hX : zGd X RJ5 cJ5_rotateRight 3 none 1 := hX
  unfold f_J5_rotateRight at hf
  refine j_aload_n (pc := 0) hX dJ5_rotateRight_0 rfl ?_
  obtain ⟨w21, hm_, hf⟩ := zob hf
  have kj1 : zJ X 95 [none, none, none] [] w21 := by
    clear hm_
    exact j_return (pc := 95) hX hQ (by cases hf; rfl) dJ5_rotateRight_95
  have hf := hm_
  refine j_ifnull (pc := 1) hX 95 dJ5_rotateRight_1 rfl hf (fun h_ hf => ?_) (fun h_ hf => ?_)
  · refine j_fg [0, 1] [none, none, none] rfl ?_
    cases hf
    exact kj1
  · refine j_aload_n (pc := 4) hX dJ5_rotateRight_4 rfl ?_
    refine j_getA (pc := 5) hX kJ24 (k := 2) (Nat.le_of_ble_eq_true rfl) q846 (Or.inl rfl) dJ5_rotateRight_5 hf (fun x1 hx_ hf => ?_)
    refine j_astore_n (pc := 8) hX dJ5_rotateRight_8 (by decide) [some (vA a0), some (vA a1), some (vA x1)] rfl ?_
    refine j_aload_n (pc := 9) hX dJ5_rotateRight_9 rfl ?_
    refine j_aload_n (pc := 10) hX dJ5_rotateRight_10 rfl ?_
    refine j_getA (pc := 11) hX kJ24 (k := 3) (Nat.le_of_ble_eq_true rfl) q847 (Or.inl rfl) dJ5_rotateRight_11 hf (fun x2 hx_ hf => ?_)
    refine j_putA (pc := 14) hX kJ24 (k := 2) (Nat.le_of_ble_eq_true rfl) q846 (Or.inl rfl) rfl rfl dJ5_rotateRight_14 hf (fun w3 hf => ?_)
    refine j_aload_n (pc := 17) hX dJ5_rotateRight_17 rfl ?_
    refine j_getA (pc := 18) hX kJ24 (k := 3) (Nat.le_of_ble_eq_true rfl) q847 (Or.inl rfl) dJ5_rotateRight_18 hf (fun x4 hx_ hf => ?_)
    obtain ⟨w7, hm_, hf⟩ := zob hf
    have kj21 : zJ X 32 [some (vA a0), some (vA a1), some (vA x1)] [] w7 := by
      clear hm_
      refine j_aload_n (pc := 32) hX dJ5_rotateRight_32 rfl ?_
      refine j_aload_n (pc := 33) hX dJ5_rotateRight_33 rfl ?_
      refine j_getA (pc := 34) hX kJ24 (k := 4) (Nat.le_of_ble_eq_true rfl) q849 (Or.inl rfl) dJ5_rotateRight_34 hf (fun x8 hx_ hf => ?_)
      refine j_putA (pc := 37) hX kJ24 (k := 4) (Nat.le_of_ble_eq_true rfl) q849 (Or.inl rfl) rfl rfl dJ5_rotateRight_37 hf (fun w9 hf => ?_)
      refine j_aload_n (pc := 40) hX dJ5_rotateRight_40 rfl ?_
      refine j_getA (pc := 41) hX kJ24 (k := 4) (Nat.le_of_ble_eq_true rfl) q849 (Or.inl rfl) dJ5_rotateRight_41 hf (fun x10 hx_ hf => ?_)
      obtain ⟨w18, hm_, hf⟩ := zob hf
      have kj44 : zJ X 85 [none, some (vA a1), some (vA x1)] [] w18 := by
        clear hm_
        refine j_aload_n (pc := 85) hX dJ5_rotateRight_85 rfl ?_
        refine j_aload_n (pc := 86) hX dJ5_rotateRight_86 rfl ?_
        refine j_putA (pc := 87) hX kJ24 (k := 3) (Nat.le_of_ble_eq_true rfl) q847 (Or.inl rfl) rfl rfl dJ5_rotateRight_87 hf (fun w19 hf => ?_)
        refine j_aload_n (pc := 90) hX dJ5_rotateRight_90 rfl ?_
        refine j_aload_n (pc := 91) hX dJ5_rotateRight_91 rfl ?_
        refine j_putA (pc := 92) hX kJ24 (k := 4) (Nat.le_of_ble_eq_true rfl) q849 (Or.inl rfl) rfl rfl dJ5_rotateRight_92 hf (fun w20 hf => ?_)
        refine j_fg [1, 2] [none, none, none] rfl ?_
        cases hf
        exact kj1
      have hf := hm_
      refine j_ifnonnull (pc := 44) hX 55 dJ5_rotateRight_44 rfl hf (fun h_ hf => ?_) (fun h_ hf => ?_)
      · refine j_aload_n (pc := 55) hX dJ5_rotateRight_55 rfl ?_
        refine j_getA (pc := 56) hX kJ24 (k := 4) (Nat.le_of_ble_eq_true rfl) q849 (Or.inl rfl) dJ5_rotateRight_56 hf (fun x11 hx_ hf => ?_)
        refine j_getA (pc := 59) hX kJ24 (k := 3) (Nat.le_of_ble_eq_true rfl) q847 (Or.inl rfl) dJ5_rotateRight_59 hf (fun x12 hx_ hf => ?_)
        refine j_aload_n (pc := 62) hX dJ5_rotateRight_62 rfl ?_
        refine j_acmp_ne (pc := 63) hX 77 dJ5_rotateRight_63 rfl hf (fun h_ hf => ?_) (fun h_ hf => ?_)
        · refine j_aload_n (pc := 77) hX dJ5_rotateRight_77 rfl ?_
          refine j_getA (pc := 78) hX kJ24 (k := 4) (Nat.le_of_ble_eq_true rfl) q849 (Or.inl rfl) dJ5_rotateRight_78 hf (fun x13 hx_ hf => ?_)
          refine j_aload_n (pc := 81) hX dJ5_rotateRight_81 rfl ?_
          refine j_putA (pc := 82) hX kJ24 (k := 2) (Nat.le_of_ble_eq_true rfl) q846 (Or.inl rfl) rfl rfl dJ5_rotateRight_82 hf (fun w14 hf => ?_)
          refine j_fg [0] [none, some (vA a1), some (vA x1)] rfl ?_
          cases hf
          exact kj44
        · refine j_aload_n (pc := 66) hX dJ5_rotateRight_66 rfl ?_
          refine j_getA (pc := 67) hX kJ24 (k := 4) (Nat.le_of_ble_eq_true rfl) q849 (Or.inl rfl) dJ5_rotateRight_67 hf (fun x15 hx_ hf => ?_)
          refine j_aload_n (pc := 70) hX dJ5_rotateRight_70 rfl ?_
          refine j_putA (pc := 71) hX kJ24 (k := 3) (Nat.le_of_ble_eq_true rfl) q847 (Or.inl rfl) rfl rfl dJ5_rotateRight_71 hf (fun w16 hf => ?_)
          refine j_goto (pc := 74) hX 85 dJ5_rotateRight_74 rfl ?_
          refine j_fg [0] [none, some (vA a1), some (vA x1)] rfl ?_
          cases hf
          exact kj44
      · refine j_aload_n (pc := 47) hX dJ5_rotateRight_47 rfl ?_
        refine j_aload_n (pc := 48) hX dJ5_rotateRight_48 rfl ?_
        refine j_putA (pc := 49) hX kJ5 (k := 3) (Nat.le_of_ble_eq_true rfl) q196 (Or.inl rfl) rfl rfl dJ5_rotateRight_49 hf (fun w17 hf => ?_)
        refine j_goto (pc := 52) hX 85 dJ5_rotateRight_52 rfl ?_
        refine j_fg [0] [none, some (vA a1), some (vA x1)] rfl ?_
        cases hf
        exact kj44
    have hf := hm_
    refine j_ifnull (pc := 21) hX 32 dJ5_rotateRight_21 rfl hf (fun h_ hf => ?_) (fun h_ hf => ?_)
    · cases hf
      exact kj21
    · refine j_aload_n (pc := 24) hX dJ5_rotateRight_24 rfl ?_
      refine j_getA (pc := 25) hX kJ24 (k := 3) (Nat.le_of_ble_eq_true rfl) q847 (Or.inl rfl) dJ5_rotateRight_25 hf (fun x5 hx_ hf => ?_)
      refine j_aload_n (pc := 28) hX dJ5_rotateRight_28 rfl ?_
      refine j_putA (pc := 29) hX kJ24 (k := 4) (Nat.le_of_ble_eq_true rfl) q849 (Or.inl rfl) rfl rfl dJ5_rotateRight_29 hf (fun w6 hf => ?_)
      cases hf
      exact kj21
def f_J5_fixAfterInsertion_L5b (n : Nat) (c0 : Option Nat) (rec : (Option Nat) → zWd → Option (zWd)) (v1 : Option Nat) (w : zWd) : Option (zWd) :=
  if v1 = none then
    some w
  else
    (gA w 19 3 c0).bind fun x2 =>
    if v1 = x2 then
      some w
    else
      (gA w 21 4 v1).bind fun x3 =>
      (gI w 21 5 x3).bind fun x4 =>
      if x4 = (0 : Int32) then
        zB2 (f_J5_parentOf n v1 w) fun x6 w5 =>
        zB2 (f_J5_parentOf n v1 w5) fun x8 w7 =>
        zB2 (f_J5_parentOf n x8 w7) fun x10 w9 =>
        zB2 (f_J5_leftOf n x10 w9) fun x12 w11 =>
        if x6 = x12 then
          zB2 (f_J5_parentOf n v1 w11) fun x59 w58 =>
          zB2 (f_J5_parentOf n x59 w58) fun x61 w60 =>
          zB2 (f_J5_rightOf n x61 w60) fun x63 w62 =>
          zB2 (f_J5_colorOf n x63 w62) fun x65 w64 =>
          zB2 (
            if x65 = (0 : Int32) then
              zB2 (f_J5_parentOf n v1 w64) fun x89 w88 =>
              (f_J5_setColor n x89 (1 : Int32) w88).bind fun w90 =>
              (f_J5_setColor n x63 (1 : Int32) w90).bind fun w91 =>
              zB2 (f_J5_parentOf n v1 w91) fun x93 w92 =>
              zB2 (f_J5_parentOf n x93 w92) fun x95 w94 =>
              (f_J5_setColor n x95 (0 : Int32) w94).bind fun w96 =>
              zB2 (f_J5_parentOf n v1 w96) fun x98 w97 =>
              zB2 (f_J5_parentOf n x98 w97) fun x100 w99 =>
              some (x100, w99)
            else
              zB2 (f_J5_parentOf n v1 w64) fun x67 w66 =>
              zB2 (f_J5_rightOf n x67 w66) fun x69 w68 =>
              zB2 (
                if v1 = x69 then
                  zB2 (f_J5_parentOf n v1 w68) fun x71 w70 =>
                  (zV (isC w70 19 c0) (f_J5_rotateLeft n c0 x71 w70)).bind fun w72 =>
                  some (x71, w72)
                else
                  some (v1, w68)
                ) fun x73 w74 =>
              zB2 (f_J5_parentOf n x73 w74) fun x76 w75 =>
              (f_J5_setColor n x76 (1 : Int32) w75).bind fun w77 =>
              zB2 (f_J5_parentOf n x73 w77) fun x79 w78 =>
              zB2 (f_J5_parentOf n x79 w78) fun x81 w80 =>
              (f_J5_setColor n x81 (0 : Int32) w80).bind fun w82 =>
              zB2 (f_J5_parentOf n x73 w82) fun x84 w83 =>
              zB2 (f_J5_parentOf n x84 w83) fun x86 w85 =>
              (zV (isC w85 19 c0) (f_J5_rotateRight n c0 x86 w85)).bind fun w87 =>
              some (x73, w87)
            ) fun x101 w102 =>
          rec x101 w102
        else
          zB2 (f_J5_parentOf n v1 w11) fun x14 w13 =>
          zB2 (f_J5_parentOf n x14 w13) fun x16 w15 =>
          zB2 (f_J5_leftOf n x16 w15) fun x18 w17 =>
          zB2 (f_J5_colorOf n x18 w17) fun x20 w19 =>
          zB2 (
            if x20 = (0 : Int32) then
              zB2 (f_J5_parentOf n v1 w19) fun x44 w43 =>
              (f_J5_setColor n x44 (1 : Int32) w43).bind fun w45 =>
              (f_J5_setColor n x18 (1 : Int32) w45).bind fun w46 =>
              zB2 (f_J5_parentOf n v1 w46) fun x48 w47 =>
              zB2 (f_J5_parentOf n x48 w47) fun x50 w49 =>
              (f_J5_setColor n x50 (0 : Int32) w49).bind fun w51 =>
              zB2 (f_J5_parentOf n v1 w51) fun x53 w52 =>
              zB2 (f_J5_parentOf n x53 w52) fun x55 w54 =>
              some (x55, w54)
            else
              zB2 (f_J5_parentOf n v1 w19) fun x22 w21 =>
              zB2 (f_J5_leftOf n x22 w21) fun x24 w23 =>
              zB2 (
                if v1 = x24 then
                  zB2 (f_J5_parentOf n v1 w23) fun x26 w25 =>
                  (zV (isC w25 19 c0) (f_J5_rotateRight n c0 x26 w25)).bind fun w27 =>
                  some (x26, w27)
                else
                  some (v1, w23)
                ) fun x28 w29 =>
              zB2 (f_J5_parentOf n x28 w29) fun x31 w30 =>
              (f_J5_setColor n x31 (1 : Int32) w30).bind fun w32 =>
              zB2 (f_J5_parentOf n x28 w32) fun x34 w33 =>
              zB2 (f_J5_parentOf n x34 w33) fun x36 w35 =>
              (f_J5_setColor n x36 (0 : Int32) w35).bind fun w37 =>
              zB2 (f_J5_parentOf n x28 w37) fun x39 w38 =>
              zB2 (f_J5_parentOf n x39 w38) fun x41 w40 =>
              (zV (isC w40 19 c0) (f_J5_rotateLeft n c0 x41 w40)).bind fun w42 =>
              some (x28, w42)
            ) fun x56 w57 =>
          rec x56 w57
      else
        some w
def f_J5_fixAfterInsertion_L5 (n : Nat) (c0 : Option Nat) : Nat → (Option Nat) → zWd → Option (zWd)
  | 0, _, _ => none
  | k + 1, v1, w => f_J5_fixAfterInsertion_L5b n c0 (f_J5_fixAfterInsertion_L5 n c0 k) v1 w
def f_J5_fixAfterInsertion (n : Nat) (a0 : Option Nat) (a1 : Option Nat) (w : zWd) : Option zWd :=
  (pZ w 21 5 a1 (0 : Int32)).bind fun w1 =>
  (f_J5_fixAfterInsertion_L5 n a0 n a1 w1).bind fun w103 =>
  (gA w103 19 3 a0).bind fun x104 =>
  (pZ w103 21 5 x104 (1 : Int32)).bind fun w105 =>
  some w105
theorem mt_J5_fixAfterInsertion : zMt yJ5_fixAfterInsertion cJ5_fixAfterInsertion 3 none 1 := ⟨q875, q74, ⟨by decide, by decide⟩, by decide +kernel, by decide⟩
set_option maxHeartbeats 4000000 in
theorem lp_J5_fixAfterInsertion_L5 {X : zX} (hX : zGd X RJ5 cJ5_fixAfterInsertion 3 none 2) (n : Nat) (c0 : Option Nat) : ∀ (k : Nat) (v1 : Option Nat) (w : zWd) (w9 : zWd) , f_J5_fixAfterInsertion_L5 n c0 k v1 w = some w9 → zJ X 258 [some (vA c0), none, none] [] w9 → zJ X 5 [some (vA c0), some (vA v1), none] [] w := by
  intro k
  induction k with
  | zero => intro v1 w w9 hf _; exact nomatch (show (none : Option (zWd)) = _ from hf)
  | succ k ih =>
    intro v1 w w9 hf kx
    have hf : f_J5_fixAfterInsertion_L5b n c0 (f_J5_fixAfterInsertion_L5 n c0 k) v1 w = _ := hf
    unfold f_J5_fixAfterInsertion_L5b at hf
    refine j_aload_n (pc := 5) hX dJ5_fixAfterInsertion_5 rfl ?_
    refine j_ifnull (pc := 6) hX 258 dJ5_fixAfterInsertion_6 rfl hf (fun h_ hf => ?_) (fun h_ hf => ?_)
    · refine j_fg [1] [some (vA c0), none, none] rfl ?_
      cases hf
      exact kx
    · refine j_aload_n (pc := 9) hX dJ5_fixAfterInsertion_9 rfl ?_
      refine j_aload_n (pc := 10) hX dJ5_fixAfterInsertion_10 rfl ?_
      refine j_getA (pc := 11) hX kJ5 (k := 3) (Nat.le_of_ble_eq_true rfl) q196 (Or.inl rfl) dJ5_fixAfterInsertion_11 hf (fun x2 hx_ hf => ?_)
      refine j_acmp_eq (pc := 14) hX 258 dJ5_fixAfterInsertion_14 rfl hf (fun h_ hf => ?_) (fun h_ hf => ?_)
      · refine j_fg [1] [some (vA c0), none, none] rfl ?_
        cases hf
        exact kx
      · refine j_aload_n (pc := 17) hX dJ5_fixAfterInsertion_17 rfl ?_
        refine j_getA (pc := 18) hX kJ24 (k := 4) (Nat.le_of_ble_eq_true rfl) q849 (Or.inl rfl) dJ5_fixAfterInsertion_18 hf (fun x3 hx_ hf => ?_)
        refine j_getI (pc := 21) hX kJ24 (k := 5) (Nat.le_of_ble_eq_true rfl) q851 (Or.inl rfl) dJ5_fixAfterInsertion_21 hf (fun x4 hx_ hf => ?_)
        refine j_if_ne (pc := 24) hX 258 dJ5_fixAfterInsertion_24 rfl hf (fun h_ hf => ?_) (fun h_ hf => ?_)
        · refine j_fg [1] [some (vA c0), none, none] rfl ?_
          cases hf
          exact kx
        · refine j_aload_n (pc := 27) hX dJ5_fixAfterInsertion_27 rfl ?_
          obtain ⟨x6, w5, hc_, hf⟩ := zB2_e hf
          refine j_callS (pc := 28) hX mt_J5_parentOf q876 q877 [vA v1] rfl rfl (Nat.le_of_ble_eq_true rfl) (by decide) dJ5_fixAfterInsertion_28 (k_J5_parentOf _ _ hc_) ?_
          refine j_aload_n (pc := 31) hX dJ5_fixAfterInsertion_31 rfl ?_
          obtain ⟨x8, w7, hc_, hf⟩ := zB2_e hf
          refine j_callS (pc := 32) hX mt_J5_parentOf q876 q877 [vA v1] rfl rfl (Nat.le_of_ble_eq_true rfl) (by decide) dJ5_fixAfterInsertion_32 (k_J5_parentOf _ _ hc_) ?_
          obtain ⟨x10, w9, hc_, hf⟩ := zB2_e hf
          refine j_callS (pc := 35) hX mt_J5_parentOf q876 q877 [vA x8] rfl rfl (Nat.le_of_ble_eq_true rfl) (by decide) dJ5_fixAfterInsertion_35 (k_J5_parentOf _ _ hc_) ?_
          obtain ⟨x12, w11, hc_, hf⟩ := zB2_e hf
          refine j_callS (pc := 38) hX mt_J5_leftOf q879 q880 [vA x10] rfl rfl (Nat.le_of_ble_eq_true rfl) (by decide) dJ5_fixAfterInsertion_38 (k_J5_leftOf _ _ hc_) ?_
          refine j_acmp_ne (pc := 41) hX 151 dJ5_fixAfterInsertion_41 rfl hf (fun h_ hf => ?_) (fun h_ hf => ?_)
          · refine j_aload_n (pc := 151) hX dJ5_fixAfterInsertion_151 rfl ?_
            obtain ⟨x14, w13, hc_, hf⟩ := zB2_e hf
            refine j_callS (pc := 152) hX mt_J5_parentOf q876 q877 [vA v1] rfl rfl (Nat.le_of_ble_eq_true rfl) (by decide) dJ5_fixAfterInsertion_152 (k_J5_parentOf _ _ hc_) ?_
            obtain ⟨x16, w15, hc_, hf⟩ := zB2_e hf
            refine j_callS (pc := 155) hX mt_J5_parentOf q876 q877 [vA x14] rfl rfl (Nat.le_of_ble_eq_true rfl) (by decide) dJ5_fixAfterInsertion_155 (k_J5_parentOf _ _ hc_) ?_
            obtain ⟨x18, w17, hc_, hf⟩ := zB2_e hf
            refine j_callS (pc := 158) hX mt_J5_leftOf q879 q880 [vA x16] rfl rfl (Nat.le_of_ble_eq_true rfl) (by decide) dJ5_fixAfterInsertion_158 (k_J5_leftOf _ _ hc_) ?_
            refine j_astore_n (pc := 161) hX dJ5_fixAfterInsertion_161 (by decide) [some (vA c0), some (vA v1), some (vA x18)] rfl ?_
            refine j_aload_n (pc := 162) hX dJ5_fixAfterInsertion_162 rfl ?_
            obtain ⟨x20, w19, hc_, hf⟩ := zB2_e hf
            refine j_callS (pc := 163) hX mt_J5_colorOf q885 q886 [vA x18] rfl rfl (Nat.le_of_ble_eq_true rfl) (by decide) dJ5_fixAfterInsertion_163 (k_J5_colorOf _ _ hc_) ?_
            obtain ⟨x56, w57, hm_, hf⟩ := zB2_e hf
            have kj166 : zJ X 255 [some (vA c0), some (vA x56), none] [] w57 := by
              clear hm_
              refine j_goto (pc := 255) hX 5 dJ5_fixAfterInsertion_255 rfl ?_
              exact ih _ _ _ hf kx
            have hf := hm_
            refine j_if_ne (pc := 166) hX 204 dJ5_fixAfterInsertion_166 rfl hf (fun h_ hf => ?_) (fun h_ hf => ?_)
            · refine j_aload_n (pc := 204) hX dJ5_fixAfterInsertion_204 rfl ?_
              refine j_aload_n (pc := 205) hX dJ5_fixAfterInsertion_205 rfl ?_
              obtain ⟨x22, w21, hc_, hf⟩ := zB2_e hf
              refine j_callS (pc := 206) hX mt_J5_parentOf q876 q877 [vA v1] rfl rfl (Nat.le_of_ble_eq_true rfl) (by decide) dJ5_fixAfterInsertion_206 (k_J5_parentOf _ _ hc_) ?_
              obtain ⟨x24, w23, hc_, hf⟩ := zB2_e hf
              refine j_callS (pc := 209) hX mt_J5_leftOf q879 q880 [vA x22] rfl rfl (Nat.le_of_ble_eq_true rfl) (by decide) dJ5_fixAfterInsertion_209 (k_J5_leftOf _ _ hc_) ?_
              obtain ⟨x28, w29, hm_, hf⟩ := zB2_e hf
              have kj212 : zJ X 225 [some (vA c0), some (vA x28), none] [] w29 := by
                clear hm_
                refine j_aload_n (pc := 225) hX dJ5_fixAfterInsertion_225 rfl ?_
                obtain ⟨x31, w30, hc_, hf⟩ := zB2_e hf
                refine j_callS (pc := 226) hX mt_J5_parentOf q876 q877 [vA x28] rfl rfl (Nat.le_of_ble_eq_true rfl) (by decide) dJ5_fixAfterInsertion_226 (k_J5_parentOf _ _ hc_) ?_
                refine j_iconst (pc := 229) hX (1 : Int32) dJ5_fixAfterInsertion_229 rfl ?_
                obtain ⟨w32, hc_, hf⟩ := zob hf
                refine j_callS (pc := 230) hX mt_J5_setColor q888 q889 [vA x31, vI (1 : Int32)] rfl rfl (Nat.le_of_ble_eq_true rfl) (by decide) dJ5_fixAfterInsertion_230 (k_J5_setColor () _ hc_) ?_
                refine j_aload_n (pc := 233) hX dJ5_fixAfterInsertion_233 rfl ?_
                obtain ⟨x34, w33, hc_, hf⟩ := zB2_e hf
                refine j_callS (pc := 234) hX mt_J5_parentOf q876 q877 [vA x28] rfl rfl (Nat.le_of_ble_eq_true rfl) (by decide) dJ5_fixAfterInsertion_234 (k_J5_parentOf _ _ hc_) ?_
                obtain ⟨x36, w35, hc_, hf⟩ := zB2_e hf
                refine j_callS (pc := 237) hX mt_J5_parentOf q876 q877 [vA x34] rfl rfl (Nat.le_of_ble_eq_true rfl) (by decide) dJ5_fixAfterInsertion_237 (k_J5_parentOf _ _ hc_) ?_
                refine j_iconst (pc := 240) hX (0 : Int32) dJ5_fixAfterInsertion_240 rfl ?_
                obtain ⟨w37, hc_, hf⟩ := zob hf
                refine j_callS (pc := 241) hX mt_J5_setColor q888 q889 [vA x36, vI (0 : Int32)] rfl rfl (Nat.le_of_ble_eq_true rfl) (by decide) dJ5_fixAfterInsertion_241 (k_J5_setColor () _ hc_) ?_
                refine j_aload_n (pc := 244) hX dJ5_fixAfterInsertion_244 rfl ?_
                refine j_aload_n (pc := 245) hX dJ5_fixAfterInsertion_245 rfl ?_
                obtain ⟨x39, w38, hc_, hf⟩ := zB2_e hf
                refine j_callS (pc := 246) hX mt_J5_parentOf q876 q877 [vA x28] rfl rfl (Nat.le_of_ble_eq_true rfl) (by decide) dJ5_fixAfterInsertion_246 (k_J5_parentOf _ _ hc_) ?_
                obtain ⟨x41, w40, hc_, hf⟩ := zB2_e hf
                refine j_callS (pc := 249) hX mt_J5_parentOf q876 q877 [vA x39] rfl rfl (Nat.le_of_ble_eq_true rfl) (by decide) dJ5_fixAfterInsertion_249 (k_J5_parentOf _ _ hc_) ?_
                obtain ⟨w42, hc_, hf⟩ := zob hf
                obtain ⟨hi_, hc_⟩ := zV_e hc_
                refine j_callV (pc := 252) hX (ci := 19) mt_J5_rotateLeft q891 q893 qs8 hi_ ⟨_, rfl, rfl⟩ [vA x41] rfl rfl (Nat.le_of_ble_eq_true rfl) (by decide) dJ5_fixAfterInsertion_252 (k_J5_rotateLeft () _ hc_) ?_
                cases hf
                exact kj166
              have hf := hm_
              refine j_acmp_ne (pc := 212) hX 225 dJ5_fixAfterInsertion_212 rfl hf (fun h_ hf => ?_) (fun h_ hf => ?_)
              · refine j_fg [2] [some (vA c0), some (vA v1), none] rfl ?_
                cases hf
                exact kj212
              · refine j_aload_n (pc := 215) hX dJ5_fixAfterInsertion_215 rfl ?_
                obtain ⟨x26, w25, hc_, hf⟩ := zB2_e hf
                refine j_callS (pc := 216) hX mt_J5_parentOf q876 q877 [vA v1] rfl rfl (Nat.le_of_ble_eq_true rfl) (by decide) dJ5_fixAfterInsertion_216 (k_J5_parentOf _ _ hc_) ?_
                refine j_astore_n (pc := 219) hX dJ5_fixAfterInsertion_219 (by decide) [some (vA c0), some (vA x26), some (vA x18)] rfl ?_
                refine j_aload_n (pc := 220) hX dJ5_fixAfterInsertion_220 rfl ?_
                refine j_aload_n (pc := 221) hX dJ5_fixAfterInsertion_221 rfl ?_
                obtain ⟨w27, hc_, hf⟩ := zob hf
                obtain ⟨hi_, hc_⟩ := zV_e hc_
                refine j_callV (pc := 222) hX (ci := 19) mt_J5_rotateRight q895 q897 qs9 hi_ ⟨_, rfl, rfl⟩ [vA x26] rfl rfl (Nat.le_of_ble_eq_true rfl) (by decide) dJ5_fixAfterInsertion_222 (k_J5_rotateRight () _ hc_) ?_
                refine j_fg [2] [some (vA c0), some (vA x26), none] rfl ?_
                cases hf
                exact kj212
            · refine j_aload_n (pc := 169) hX dJ5_fixAfterInsertion_169 rfl ?_
              obtain ⟨x44, w43, hc_, hf⟩ := zB2_e hf
              refine j_callS (pc := 170) hX mt_J5_parentOf q876 q877 [vA v1] rfl rfl (Nat.le_of_ble_eq_true rfl) (by decide) dJ5_fixAfterInsertion_170 (k_J5_parentOf _ _ hc_) ?_
              refine j_iconst (pc := 173) hX (1 : Int32) dJ5_fixAfterInsertion_173 rfl ?_
              obtain ⟨w45, hc_, hf⟩ := zob hf
              refine j_callS (pc := 174) hX mt_J5_setColor q888 q889 [vA x44, vI (1 : Int32)] rfl rfl (Nat.le_of_ble_eq_true rfl) (by decide) dJ5_fixAfterInsertion_174 (k_J5_setColor () _ hc_) ?_
              refine j_aload_n (pc := 177) hX dJ5_fixAfterInsertion_177 rfl ?_
              refine j_iconst (pc := 178) hX (1 : Int32) dJ5_fixAfterInsertion_178 rfl ?_
              obtain ⟨w46, hc_, hf⟩ := zob hf
              refine j_callS (pc := 179) hX mt_J5_setColor q888 q889 [vA x18, vI (1 : Int32)] rfl rfl (Nat.le_of_ble_eq_true rfl) (by decide) dJ5_fixAfterInsertion_179 (k_J5_setColor () _ hc_) ?_
              refine j_aload_n (pc := 182) hX dJ5_fixAfterInsertion_182 rfl ?_
              obtain ⟨x48, w47, hc_, hf⟩ := zB2_e hf
              refine j_callS (pc := 183) hX mt_J5_parentOf q876 q877 [vA v1] rfl rfl (Nat.le_of_ble_eq_true rfl) (by decide) dJ5_fixAfterInsertion_183 (k_J5_parentOf _ _ hc_) ?_
              obtain ⟨x50, w49, hc_, hf⟩ := zB2_e hf
              refine j_callS (pc := 186) hX mt_J5_parentOf q876 q877 [vA x48] rfl rfl (Nat.le_of_ble_eq_true rfl) (by decide) dJ5_fixAfterInsertion_186 (k_J5_parentOf _ _ hc_) ?_
              refine j_iconst (pc := 189) hX (0 : Int32) dJ5_fixAfterInsertion_189 rfl ?_
              obtain ⟨w51, hc_, hf⟩ := zob hf
              refine j_callS (pc := 190) hX mt_J5_setColor q888 q889 [vA x50, vI (0 : Int32)] rfl rfl (Nat.le_of_ble_eq_true rfl) (by decide) dJ5_fixAfterInsertion_190 (k_J5_setColor () _ hc_) ?_
              refine j_aload_n (pc := 193) hX dJ5_fixAfterInsertion_193 rfl ?_
              obtain ⟨x53, w52, hc_, hf⟩ := zB2_e hf
              refine j_callS (pc := 194) hX mt_J5_parentOf q876 q877 [vA v1] rfl rfl (Nat.le_of_ble_eq_true rfl) (by decide) dJ5_fixAfterInsertion_194 (k_J5_parentOf _ _ hc_) ?_
              obtain ⟨x55, w54, hc_, hf⟩ := zB2_e hf
              refine j_callS (pc := 197) hX mt_J5_parentOf q876 q877 [vA x53] rfl rfl (Nat.le_of_ble_eq_true rfl) (by decide) dJ5_fixAfterInsertion_197 (k_J5_parentOf _ _ hc_) ?_
              refine j_astore_n (pc := 200) hX dJ5_fixAfterInsertion_200 (by decide) [some (vA c0), some (vA x55), some (vA x18)] rfl ?_
              refine j_goto (pc := 201) hX 255 dJ5_fixAfterInsertion_201 rfl ?_
              refine j_fg [2] [some (vA c0), some (vA x55), none] rfl ?_
              cases hf
              exact kj166
          · refine j_aload_n (pc := 44) hX dJ5_fixAfterInsertion_44 rfl ?_
            obtain ⟨x59, w58, hc_, hf⟩ := zB2_e hf
            refine j_callS (pc := 45) hX mt_J5_parentOf q876 q877 [vA v1] rfl rfl (Nat.le_of_ble_eq_true rfl) (by decide) dJ5_fixAfterInsertion_45 (k_J5_parentOf _ _ hc_) ?_
            obtain ⟨x61, w60, hc_, hf⟩ := zB2_e hf
            refine j_callS (pc := 48) hX mt_J5_parentOf q876 q877 [vA x59] rfl rfl (Nat.le_of_ble_eq_true rfl) (by decide) dJ5_fixAfterInsertion_48 (k_J5_parentOf _ _ hc_) ?_
            obtain ⟨x63, w62, hc_, hf⟩ := zB2_e hf
            refine j_callS (pc := 51) hX mt_J5_rightOf q882 q883 [vA x61] rfl rfl (Nat.le_of_ble_eq_true rfl) (by decide) dJ5_fixAfterInsertion_51 (k_J5_rightOf _ _ hc_) ?_
            refine j_astore_n (pc := 54) hX dJ5_fixAfterInsertion_54 (by decide) [some (vA c0), some (vA v1), some (vA x63)] rfl ?_
            refine j_aload_n (pc := 55) hX dJ5_fixAfterInsertion_55 rfl ?_
            obtain ⟨x65, w64, hc_, hf⟩ := zB2_e hf
            refine j_callS (pc := 56) hX mt_J5_colorOf q885 q886 [vA x63] rfl rfl (Nat.le_of_ble_eq_true rfl) (by decide) dJ5_fixAfterInsertion_56 (k_J5_colorOf _ _ hc_) ?_
            obtain ⟨x101, w102, hm_, hf⟩ := zB2_e hf
            have kj59 : zJ X 148 [some (vA c0), some (vA x101), none] [] w102 := by
              clear hm_
              refine j_goto (pc := 148) hX 5 dJ5_fixAfterInsertion_148 rfl ?_
              exact ih _ _ _ hf kx
            have hf := hm_
            refine j_if_ne (pc := 59) hX 97 dJ5_fixAfterInsertion_59 rfl hf (fun h_ hf => ?_) (fun h_ hf => ?_)
            · refine j_aload_n (pc := 97) hX dJ5_fixAfterInsertion_97 rfl ?_
              refine j_aload_n (pc := 98) hX dJ5_fixAfterInsertion_98 rfl ?_
              obtain ⟨x67, w66, hc_, hf⟩ := zB2_e hf
              refine j_callS (pc := 99) hX mt_J5_parentOf q876 q877 [vA v1] rfl rfl (Nat.le_of_ble_eq_true rfl) (by decide) dJ5_fixAfterInsertion_99 (k_J5_parentOf _ _ hc_) ?_
              obtain ⟨x69, w68, hc_, hf⟩ := zB2_e hf
              refine j_callS (pc := 102) hX mt_J5_rightOf q882 q883 [vA x67] rfl rfl (Nat.le_of_ble_eq_true rfl) (by decide) dJ5_fixAfterInsertion_102 (k_J5_rightOf _ _ hc_) ?_
              obtain ⟨x73, w74, hm_, hf⟩ := zB2_e hf
              have kj105 : zJ X 118 [some (vA c0), some (vA x73), none] [] w74 := by
                clear hm_
                refine j_aload_n (pc := 118) hX dJ5_fixAfterInsertion_118 rfl ?_
                obtain ⟨x76, w75, hc_, hf⟩ := zB2_e hf
                refine j_callS (pc := 119) hX mt_J5_parentOf q876 q877 [vA x73] rfl rfl (Nat.le_of_ble_eq_true rfl) (by decide) dJ5_fixAfterInsertion_119 (k_J5_parentOf _ _ hc_) ?_
                refine j_iconst (pc := 122) hX (1 : Int32) dJ5_fixAfterInsertion_122 rfl ?_
                obtain ⟨w77, hc_, hf⟩ := zob hf
                refine j_callS (pc := 123) hX mt_J5_setColor q888 q889 [vA x76, vI (1 : Int32)] rfl rfl (Nat.le_of_ble_eq_true rfl) (by decide) dJ5_fixAfterInsertion_123 (k_J5_setColor () _ hc_) ?_
                refine j_aload_n (pc := 126) hX dJ5_fixAfterInsertion_126 rfl ?_
                obtain ⟨x79, w78, hc_, hf⟩ := zB2_e hf
                refine j_callS (pc := 127) hX mt_J5_parentOf q876 q877 [vA x73] rfl rfl (Nat.le_of_ble_eq_true rfl) (by decide) dJ5_fixAfterInsertion_127 (k_J5_parentOf _ _ hc_) ?_
                obtain ⟨x81, w80, hc_, hf⟩ := zB2_e hf
                refine j_callS (pc := 130) hX mt_J5_parentOf q876 q877 [vA x79] rfl rfl (Nat.le_of_ble_eq_true rfl) (by decide) dJ5_fixAfterInsertion_130 (k_J5_parentOf _ _ hc_) ?_
                refine j_iconst (pc := 133) hX (0 : Int32) dJ5_fixAfterInsertion_133 rfl ?_
                obtain ⟨w82, hc_, hf⟩ := zob hf
                refine j_callS (pc := 134) hX mt_J5_setColor q888 q889 [vA x81, vI (0 : Int32)] rfl rfl (Nat.le_of_ble_eq_true rfl) (by decide) dJ5_fixAfterInsertion_134 (k_J5_setColor () _ hc_) ?_
                refine j_aload_n (pc := 137) hX dJ5_fixAfterInsertion_137 rfl ?_
                refine j_aload_n (pc := 138) hX dJ5_fixAfterInsertion_138 rfl ?_
                obtain ⟨x84, w83, hc_, hf⟩ := zB2_e hf
                refine j_callS (pc := 139) hX mt_J5_parentOf q876 q877 [vA x73] rfl rfl (Nat.le_of_ble_eq_true rfl) (by decide) dJ5_fixAfterInsertion_139 (k_J5_parentOf _ _ hc_) ?_
                obtain ⟨x86, w85, hc_, hf⟩ := zB2_e hf
                refine j_callS (pc := 142) hX mt_J5_parentOf q876 q877 [vA x84] rfl rfl (Nat.le_of_ble_eq_true rfl) (by decide) dJ5_fixAfterInsertion_142 (k_J5_parentOf _ _ hc_) ?_
                obtain ⟨w87, hc_, hf⟩ := zob hf
                obtain ⟨hi_, hc_⟩ := zV_e hc_
                refine j_callV (pc := 145) hX (ci := 19) mt_J5_rotateRight q895 q897 qs9 hi_ ⟨_, rfl, rfl⟩ [vA x86] rfl rfl (Nat.le_of_ble_eq_true rfl) (by decide) dJ5_fixAfterInsertion_145 (k_J5_rotateRight () _ hc_) ?_
                cases hf
                exact kj59
              have hf := hm_
              refine j_acmp_ne (pc := 105) hX 118 dJ5_fixAfterInsertion_105 rfl hf (fun h_ hf => ?_) (fun h_ hf => ?_)
              · refine j_fg [2] [some (vA c0), some (vA v1), none] rfl ?_
                cases hf
                exact kj105
              · refine j_aload_n (pc := 108) hX dJ5_fixAfterInsertion_108 rfl ?_
                obtain ⟨x71, w70, hc_, hf⟩ := zB2_e hf
                refine j_callS (pc := 109) hX mt_J5_parentOf q876 q877 [vA v1] rfl rfl (Nat.le_of_ble_eq_true rfl) (by decide) dJ5_fixAfterInsertion_109 (k_J5_parentOf _ _ hc_) ?_
                refine j_astore_n (pc := 112) hX dJ5_fixAfterInsertion_112 (by decide) [some (vA c0), some (vA x71), some (vA x63)] rfl ?_
                refine j_aload_n (pc := 113) hX dJ5_fixAfterInsertion_113 rfl ?_
                refine j_aload_n (pc := 114) hX dJ5_fixAfterInsertion_114 rfl ?_
                obtain ⟨w72, hc_, hf⟩ := zob hf
                obtain ⟨hi_, hc_⟩ := zV_e hc_
                refine j_callV (pc := 115) hX (ci := 19) mt_J5_rotateLeft q891 q893 qs8 hi_ ⟨_, rfl, rfl⟩ [vA x71] rfl rfl (Nat.le_of_ble_eq_true rfl) (by decide) dJ5_fixAfterInsertion_115 (k_J5_rotateLeft () _ hc_) ?_
                refine j_fg [2] [some (vA c0), some (vA x71), none] rfl ?_
                cases hf
                exact kj105
            · refine j_aload_n (pc := 62) hX dJ5_fixAfterInsertion_62 rfl ?_
              obtain ⟨x89, w88, hc_, hf⟩ := zB2_e hf
              refine j_callS (pc := 63) hX mt_J5_parentOf q876 q877 [vA v1] rfl rfl (Nat.le_of_ble_eq_true rfl) (by decide) dJ5_fixAfterInsertion_63 (k_J5_parentOf _ _ hc_) ?_
              refine j_iconst (pc := 66) hX (1 : Int32) dJ5_fixAfterInsertion_66 rfl ?_
              obtain ⟨w90, hc_, hf⟩ := zob hf
              refine j_callS (pc := 67) hX mt_J5_setColor q888 q889 [vA x89, vI (1 : Int32)] rfl rfl (Nat.le_of_ble_eq_true rfl) (by decide) dJ5_fixAfterInsertion_67 (k_J5_setColor () _ hc_) ?_
              refine j_aload_n (pc := 70) hX dJ5_fixAfterInsertion_70 rfl ?_
              refine j_iconst (pc := 71) hX (1 : Int32) dJ5_fixAfterInsertion_71 rfl ?_
              obtain ⟨w91, hc_, hf⟩ := zob hf
              refine j_callS (pc := 72) hX mt_J5_setColor q888 q889 [vA x63, vI (1 : Int32)] rfl rfl (Nat.le_of_ble_eq_true rfl) (by decide) dJ5_fixAfterInsertion_72 (k_J5_setColor () _ hc_) ?_
              refine j_aload_n (pc := 75) hX dJ5_fixAfterInsertion_75 rfl ?_
              obtain ⟨x93, w92, hc_, hf⟩ := zB2_e hf
              refine j_callS (pc := 76) hX mt_J5_parentOf q876 q877 [vA v1] rfl rfl (Nat.le_of_ble_eq_true rfl) (by decide) dJ5_fixAfterInsertion_76 (k_J5_parentOf _ _ hc_) ?_
              obtain ⟨x95, w94, hc_, hf⟩ := zB2_e hf
              refine j_callS (pc := 79) hX mt_J5_parentOf q876 q877 [vA x93] rfl rfl (Nat.le_of_ble_eq_true rfl) (by decide) dJ5_fixAfterInsertion_79 (k_J5_parentOf _ _ hc_) ?_
              refine j_iconst (pc := 82) hX (0 : Int32) dJ5_fixAfterInsertion_82 rfl ?_
              obtain ⟨w96, hc_, hf⟩ := zob hf
              refine j_callS (pc := 83) hX mt_J5_setColor q888 q889 [vA x95, vI (0 : Int32)] rfl rfl (Nat.le_of_ble_eq_true rfl) (by decide) dJ5_fixAfterInsertion_83 (k_J5_setColor () _ hc_) ?_
              refine j_aload_n (pc := 86) hX dJ5_fixAfterInsertion_86 rfl ?_
              obtain ⟨x98, w97, hc_, hf⟩ := zB2_e hf
              refine j_callS (pc := 87) hX mt_J5_parentOf q876 q877 [vA v1] rfl rfl (Nat.le_of_ble_eq_true rfl) (by decide) dJ5_fixAfterInsertion_87 (k_J5_parentOf _ _ hc_) ?_
              obtain ⟨x100, w99, hc_, hf⟩ := zB2_e hf
              refine j_callS (pc := 90) hX mt_J5_parentOf q876 q877 [vA x98] rfl rfl (Nat.le_of_ble_eq_true rfl) (by decide) dJ5_fixAfterInsertion_90 (k_J5_parentOf _ _ hc_) ?_
              refine j_astore_n (pc := 93) hX dJ5_fixAfterInsertion_93 (by decide) [some (vA c0), some (vA x100), some (vA x63)] rfl ?_
              refine j_goto (pc := 94) hX 148 dJ5_fixAfterInsertion_94 rfl ?_
              refine j_fg [2] [some (vA c0), some (vA x100), none] rfl ?_
              cases hf
              exact kj59
set_option maxHeartbeats 4000000 in
theorem k_J5_fixAfterInsertion {l : Launch} {n : Nat} {a0 : Option Nat} {a1 : Option Nat} {w : zWd} (r : Unit) (w9 : zWd) (hf : f_J5_fixAfterInsertion n a0 a1 w = some w9) : zCt l yJ5_fixAfterInsertion cJ5_fixAfterInsertion 3 none 2 [vA a0, vA a1] w (.inr (none, w9)) := by
  refine zCt_of (lv := [some (vA a0), some (vA a1), none]) (by decide +kernel) 1 rfl rfl ?_
  intro X hX hI hN hQ
  have hX : zGd X RJ5 cJ5_fixAfterInsertion 3 none 2 := hX
  unfold f_J5_fixAfterInsertion at hf
  refine j_aload_n (pc := 0) hX dJ5_fixAfterInsertion_0 rfl ?_
  refine j_iconst (pc := 1) hX (0 : Int32) dJ5_fixAfterInsertion_1 rfl ?_
  refine j_putZ (pc := 2) hX kJ24 (k := 5) (Nat.le_of_ble_eq_true rfl) q851 (Or.inl rfl) rfl rfl dJ5_fixAfterInsertion_2 hf (fun w1 hf => ?_)
  obtain ⟨w103, hm_, hf⟩ := zob hf
  refine lp_J5_fixAfterInsertion_L5 hX n _ _ _ _ _ hm_ ?_
  refine j_aload_n (pc := 258) hX dJ5_fixAfterInsertion_258 rfl ?_
  refine j_getA (pc := 259) hX kJ5 (k := 3) (Nat.le_of_ble_eq_true rfl) q196 (Or.inl rfl) dJ5_fixAfterInsertion_259 hf (fun x104 hx_ hf => ?_)
  refine j_iconst (pc := 262) hX (1 : Int32) dJ5_fixAfterInsertion_262 rfl ?_
  refine j_putZ (pc := 263) hX kJ24 (k := 5) (Nat.le_of_ble_eq_true rfl) q851 (Or.inl rfl) rfl rfl dJ5_fixAfterInsertion_263 hf (fun w105 hf => ?_)
  exact j_return (pc := 266) hX hQ (by cases hf; rfl) dJ5_fixAfterInsertion_266
def f_J5_addEntry (n : Nat) (a0 : Option Nat) (a1 : Option Nat) (a2 : Option Nat) (a3 : Option Nat) (a4 : Int32) (w : zWd) : Option zWd :=
  zB2 (zNew w 6 (.inr (21, df_J24))) fun x1 w2 =>
  (zV (decide (x1 ≠ none)) (f_J24_init n x1 a1 a2 a3 w2)).bind fun w3 =>
  (
    if a4 = (0 : Int32) then
      (pA w3 21 3 a3 x1).bind fun w4 =>
      some w4
    else
      (pA w3 21 2 a3 x1).bind fun w5 =>
      some w5
    ).bind fun w6 =>
  (zV (isC w6 19 a0) (f_J5_fixAfterInsertion n a0 x1 w6)).bind fun w7 =>
  (gI w7 19 4 a0).bind fun x8 =>
  (pI w7 19 4 a0 (x8 + (1 : Int32))).bind fun w9 =>
  (gI w9 19 5 a0).bind fun x10 =>
  (pI w9 19 5 a0 (x10 + (1 : Int32))).bind fun w11 =>
  some w11
theorem mt_J5_addEntry : zMt yJ5_addEntry cJ5_addEntry 6 none 4 := ⟨q871, q74, ⟨by decide, by decide⟩, by decide +kernel, by decide⟩
set_option maxHeartbeats 4000000 in
theorem k_J5_addEntry {l : Launch} {n : Nat} {a0 : Option Nat} {a1 : Option Nat} {a2 : Option Nat} {a3 : Option Nat} {a4 : Int32} {w : zWd} (r : Unit) (w9 : zWd) (hf : f_J5_addEntry n a0 a1 a2 a3 a4 w = some w9) : zCt l yJ5_addEntry cJ5_addEntry 6 none 3 [vA a0, vA a1, vA a2, vA a3, vI a4] w (.inr (none, w9)) := by
  refine zCt_of (lv := [some (vA a0), some (vA a1), some (vA a2), some (vA a3), some (vI a4), none]) (by decide +kernel) 1 rfl rfl ?_
  intro X hX hI hN hQ
  have hX : zGd X RJ5 cJ5_addEntry 6 none 3 := hX
  unfold f_J5_addEntry at hf
  refine j_new (pc := 0) hX kJ24 q836 q837 q98 df_J24 df_J24_ok dJ5_addEntry_0 hf (fun x1 w2 hf => ?_)
  refine j_dup (pc := 3) hX rfl dJ5_addEntry_3 ?_
  refine j_aload_n (pc := 4) hX dJ5_addEntry_4 rfl ?_
  refine j_aload_n (pc := 5) hX dJ5_addEntry_5 rfl ?_
  refine j_aload_n (pc := 6) hX dJ5_addEntry_6 rfl ?_
  obtain ⟨w3, hc_, hf⟩ := zob hf
  obtain ⟨hi_, hc_⟩ := zV_e hc_
  refine j_callI (pc := 7) hX mt_J24_init q838 q839 rfl rfl [vA a1, vA a2, vA a3] rfl rfl (Nat.le_of_ble_eq_true rfl) (by decide) dJ5_addEntry_7 (of_decide_eq_true hi_) (k_J24_init () _ hc_) ?_
  refine j_astore (pc := 10) hX dJ5_addEntry_10 (by decide) [some (vA a0), some (vA a1), some (vA a2), some (vA a3), some (vI a4), some (vA x1)] rfl ?_
  refine j_iload (pc := 12) hX dJ5_addEntry_12 rfl ?_
  obtain ⟨w6, hm_, hf⟩ := zob hf
  have kj14 : zJ X 32 [some (vA a0), none, none, none, none, some (vA x1)] [] w6 := by
    clear hm_
    refine j_aload_n (pc := 32) hX dJ5_addEntry_32 rfl ?_
    refine j_aload (pc := 33) hX dJ5_addEntry_33 rfl ?_
    obtain ⟨w7, hc_, hf⟩ := zob hf
    obtain ⟨hi_, hc_⟩ := zV_e hc_
    refine j_callV (pc := 35) hX (ci := 19) mt_J5_fixAfterInsertion q872 q874 qs7 hi_ ⟨_, rfl, rfl⟩ [vA x1] rfl rfl (Nat.le_of_ble_eq_true rfl) (by decide) dJ5_addEntry_35 (k_J5_fixAfterInsertion () _ hc_) ?_
    refine j_aload_n (pc := 38) hX dJ5_addEntry_38 rfl ?_
    refine j_dup (pc := 39) hX rfl dJ5_addEntry_39 ?_
    refine j_getI (pc := 40) hX kJ5 (k := 4) (Nat.le_of_ble_eq_true rfl) q197 (Or.inl rfl) dJ5_addEntry_40 hf (fun x8 hx_ hf => ?_)
    refine j_iconst (pc := 43) hX (1 : Int32) dJ5_addEntry_43 rfl ?_
    refine j_iadd (pc := 44) hX dJ5_addEntry_44 ?_
    refine j_putI (pc := 45) hX kJ5 (k := 4) (Nat.le_of_ble_eq_true rfl) q197 (Or.inl rfl) rfl rfl dJ5_addEntry_45 hf (fun w9 hf => ?_)
    refine j_aload_n (pc := 48) hX dJ5_addEntry_48 rfl ?_
    refine j_dup (pc := 49) hX rfl dJ5_addEntry_49 ?_
    refine j_getI (pc := 50) hX kJ5 (k := 5) (Nat.le_of_ble_eq_true rfl) q198 (Or.inl rfl) dJ5_addEntry_50 hf (fun x10 hx_ hf => ?_)
    refine j_iconst (pc := 53) hX (1 : Int32) dJ5_addEntry_53 rfl ?_
    refine j_iadd (pc := 54) hX dJ5_addEntry_54 ?_
    refine j_putI (pc := 55) hX kJ5 (k := 5) (Nat.le_of_ble_eq_true rfl) q198 (Or.inl rfl) rfl rfl dJ5_addEntry_55 hf (fun w11 hf => ?_)
    exact j_return (pc := 58) hX hQ (by cases hf; rfl) dJ5_addEntry_58
  have hf := hm_
  refine j_if_eq (pc := 14) hX 26 dJ5_addEntry_14 rfl hf (fun h_ hf => ?_) (fun h_ hf => ?_)
  · refine j_aload_n (pc := 26) hX dJ5_addEntry_26 rfl ?_
    refine j_aload (pc := 27) hX dJ5_addEntry_27 rfl ?_
    refine j_putA (pc := 29) hX kJ24 (k := 3) (Nat.le_of_ble_eq_true rfl) q847 (Or.inl rfl) rfl rfl dJ5_addEntry_29 hf (fun w4 hf => ?_)
    refine j_fg [1, 2, 3, 4] [some (vA a0), none, none, none, none, some (vA x1)] rfl ?_
    cases hf
    exact kj14
  · refine j_aload_n (pc := 17) hX dJ5_addEntry_17 rfl ?_
    refine j_aload (pc := 18) hX dJ5_addEntry_18 rfl ?_
    refine j_putA (pc := 20) hX kJ24 (k := 2) (Nat.le_of_ble_eq_true rfl) q846 (Or.inl rfl) rfl rfl dJ5_addEntry_20 hf (fun w5 hf => ?_)
    refine j_goto (pc := 23) hX 32 dJ5_addEntry_23 rfl ?_
    refine j_fg [1, 2, 3, 4] [some (vA a0), none, none, none, none, some (vA x1)] rfl ?_
    cases hf
    exact kj14
def f_J5_put_2_L123b (n : Nat) (c0 : Option Nat) (c1 : Option Nat) (c2 : Option Nat) (c3 : Int32) (c8 : Option Nat) (rec : (Option Nat) → zWd → Option ((Option Nat) × zWd)) (v4 : Option Nat) (w : zWd) : Option ((Option Nat) × zWd) :=
  (gA w 21 0 v4).bind fun x5 =>
  zB2 (zV (isC w 20 c8) (f_J10_compareTo n c8 x5 w)) fun x7 w6 =>
  if (0 : Int32) ≤ x7 then
    if x7 ≤ (0 : Int32) then
      (gA w6 21 1 v4).bind fun x8 =>
      (
        if c3 = (0 : Int32) then
          if x8 = none then
            (pA w6 21 1 v4 c2).bind fun w10 =>
            some w10
          else
            some w6
        else
          (pA w6 21 1 v4 c2).bind fun w9 =>
          some w9
        ).bind fun w11 =>
      some (x8, w11)
    else
      (gA w6 21 3 v4).bind fun x12 =>
      if x12 = none then
        (
          if (0 : Int32) ≤ x7 then
            some (0 : Int32)
          else
            some (1 : Int32)
          ).bind fun x13 =>
        (zV (isC w6 19 c0) (f_J5_addEntry n c0 c1 c2 v4 x13 w6)).bind fun w14 =>
        some (none, w14)
      else
        rec x12 w6
  else
    (gA w6 21 2 v4).bind fun x15 =>
    if x15 = none then
      (
        if (0 : Int32) ≤ x7 then
          some (0 : Int32)
        else
          some (1 : Int32)
        ).bind fun x16 =>
      (zV (isC w6 19 c0) (f_J5_addEntry n c0 c1 c2 v4 x16 w6)).bind fun w17 =>
      some (none, w17)
    else
      rec x15 w6
def f_J5_put_2_L123 (n : Nat) (c0 : Option Nat) (c1 : Option Nat) (c2 : Option Nat) (c3 : Int32) (c8 : Option Nat) : Nat → (Option Nat) → zWd → Option ((Option Nat) × zWd)
  | 0, _, _ => none
  | k + 1, v4, w => f_J5_put_2_L123b n c0 c1 c2 c3 c8 (f_J5_put_2_L123 n c0 c1 c2 c3 c8 k) v4 w
def f_J5_put_2_L30b (n : Nat) (c0 : Option Nat) (c1 : Option Nat) (c2 : Option Nat) (c3 : Int32) (c7 : Option Nat) (rec : (Option Nat) → zWd → Option ((Option Nat) × zWd)) (v4 : Option Nat) (w : zWd) : Option ((Option Nat) × zWd) :=
  (gA w 21 0 v4).bind fun x18 =>
  zB2 (zV (isC w 15 c7) (f_X16_compare n c7 c1 x18 w)) fun x20 w19 =>
  if (0 : Int32) ≤ x20 then
    if x20 ≤ (0 : Int32) then
      (gA w19 21 1 v4).bind fun x21 =>
      (
        if c3 = (0 : Int32) then
          if x21 = none then
            (pA w19 21 1 v4 c2).bind fun w23 =>
            some w23
          else
            some w19
        else
          (pA w19 21 1 v4 c2).bind fun w22 =>
          some w22
        ).bind fun w24 =>
      some (x21, w24)
    else
      (gA w19 21 3 v4).bind fun x25 =>
      if x25 = none then
        (
          if (0 : Int32) ≤ x20 then
            some (0 : Int32)
          else
            some (1 : Int32)
          ).bind fun x26 =>
        (zV (isC w19 19 c0) (f_J5_addEntry n c0 c1 c2 v4 x26 w19)).bind fun w27 =>
        some (none, w27)
      else
        rec x25 w19
  else
    (gA w19 21 2 v4).bind fun x28 =>
    if x28 = none then
      (
        if (0 : Int32) ≤ x20 then
          some (0 : Int32)
        else
          some (1 : Int32)
        ).bind fun x29 =>
      (zV (isC w19 19 c0) (f_J5_addEntry n c0 c1 c2 v4 x29 w19)).bind fun w30 =>
      some (none, w30)
    else
      rec x28 w19
def f_J5_put_2_L30 (n : Nat) (c0 : Option Nat) (c1 : Option Nat) (c2 : Option Nat) (c3 : Int32) (c7 : Option Nat) : Nat → (Option Nat) → zWd → Option ((Option Nat) × zWd)
  | 0, _, _ => none
  | k + 1, v4, w => f_J5_put_2_L30b n c0 c1 c2 c3 c7 (f_J5_put_2_L30 n c0 c1 c2 c3 c7 k) v4 w
def f_J5_put_2 (n : Nat) (a0 : Option Nat) (a1 : Option Nat) (a2 : Option Nat) (a3 : Int32) (w : zWd) : Option ((Option Nat) × zWd) :=
  (gA w 19 3 a0).bind fun x1 =>
  if x1 = none then
    (zV (isC w 19 a0) (f_J5_addEntryToEmptyMap n a0 a1 a2 w)).bind fun w31 =>
    some (none, w31)
  else
    (gA w 19 2 a0).bind fun x2 =>
    if x2 = none then
      zB2 (f_J25_requireNonNull n a1 w) fun x4 w3 =>
      (cK w3 [20] a1).bind fun _ =>
      f_J5_put_2_L123 n a0 a1 a2 a3 a1 n x1 w3
    else
      f_J5_put_2_L30 n a0 a1 a2 a3 x2 n x1 w
theorem mt_J5_put_2 : zMt yJ5_put_2 cJ5_put_2 10 (some (.object "java/lang/Object")) 3 := ⟨q585, q74, ⟨by decide, by decide⟩, by decide +kernel, by decide⟩
set_option maxHeartbeats 4000000 in
theorem lp_J5_put_2_L123 {X : zX} (hX : zGd X RJ5 cJ5_put_2 10 (some (.object "java/lang/Object")) 6) (hN : zNh X) {w0 w9 : zWd} {r : Option Nat} (hQ : zFin X w0 (.inr (some (vA r), w9))) (n : Nat) (c0 : Option Nat) (c1 : Option Nat) (c2 : Option Nat) (c3 : Int32) (c8 : Option Nat) : ∀ (k : Nat) (v4 : Option Nat) (w : zWd) , f_J5_put_2_L123 n c0 c1 c2 c3 c8 k v4 w = some (r, w9) → zJ X 123 [some (vA c0), some (vA c1), some (vA c2), some (vI c3), some (vA v4), none, none, none, some (vA c8), none] [] w := by
  intro k
  induction k with
  | zero => intro v4 w hf; exact nomatch (show (none : Option ((Option Nat) × zWd)) = _ from hf)
  | succ k ih =>
    intro v4 w hf
    have hf : f_J5_put_2_L123b n c0 c1 c2 c3 c8 (f_J5_put_2_L123 n c0 c1 c2 c3 c8 k) v4 w = _ := hf
    unfold f_J5_put_2_L123b at hf
    refine j_aload (pc := 123) hX dJ5_put_2_123 rfl ?_
    refine j_astore (pc := 125) hX dJ5_put_2_125 (by decide) [some (vA c0), some (vA c1), some (vA c2), some (vI c3), some (vA v4), none, some (vA v4), none, some (vA c8), none] rfl ?_
    refine j_aload (pc := 127) hX dJ5_put_2_127 rfl ?_
    refine j_aload (pc := 129) hX dJ5_put_2_129 rfl ?_
    refine j_getA (pc := 131) hX kJ24 (k := 0) (Nat.le_of_ble_eq_true rfl) q843 (Or.inl rfl) dJ5_put_2_131 hf (fun x5 hx_ hf => ?_)
    obtain ⟨x7, w6, hc_, hf⟩ := zB2_e hf
    obtain ⟨hi_, hc_⟩ := zV_e hc_
    refine j_callF (pc := 134) hX (ci := 20) mt_J10_compareTo q596 q602 q600 (by decide +kernel) rfl hi_ ⟨_, rfl, rfl⟩ [vA x5] rfl rfl (Nat.le_of_ble_eq_true rfl) (by decide) dJ5_put_2_134 (k_J10_compareTo _ _ hc_) ?_
    refine j_istore (pc := 139) hX dJ5_put_2_139 (by decide) [some (vA c0), some (vA c1), some (vA c2), some (vI c3), some (vA v4), some (vI x7), some (vA v4), none, some (vA c8), none] rfl ?_
    refine j_iload (pc := 141) hX dJ5_put_2_141 rfl ?_
    refine j_if_ge (pc := 143) hX 156 dJ5_put_2_143 rfl hf (fun h_ hf => ?_) (fun h_ hf => ?_)
    · refine j_iload (pc := 156) hX dJ5_put_2_156 rfl ?_
      refine j_if_le (pc := 158) hX 171 dJ5_put_2_158 rfl hf (fun h_ hf => ?_) (fun h_ hf => ?_)
      · refine j_aload (pc := 171) hX dJ5_put_2_171 rfl ?_
        refine j_getA (pc := 173) hX kJ24 (k := 1) (Nat.le_of_ble_eq_true rfl) q845 (Or.inl rfl) dJ5_put_2_173 hf (fun x8 hx_ hf => ?_)
        refine j_astore (pc := 176) hX dJ5_put_2_176 (by decide) [some (vA c0), some (vA c1), some (vA c2), some (vI c3), some (vA v4), some (vI x7), some (vA v4), none, some (vA c8), some (vA x8)] rfl ?_
        refine j_iload_n (pc := 178) hX dJ5_put_2_178 rfl ?_
        obtain ⟨w11, hm_, hf⟩ := zob hf
        have kj179 : zJ X 193 [none, none, none, none, none, none, none, none, none, some (vA x8)] [] w11 := by
          clear hm_
          refine j_aload (pc := 193) hX dJ5_put_2_193 rfl ?_
          exact j_areturn (pc := 195) hX rfl hQ (by cases hf; rfl) dJ5_put_2_195
        have hf := hm_
        refine j_if_ne (pc := 179) hX 187 dJ5_put_2_179 rfl hf (fun h_ hf => ?_) (fun h_ hf => ?_)
        · refine j_aload (pc := 187) hX dJ5_put_2_187 rfl ?_
          refine j_aload_n (pc := 189) hX dJ5_put_2_189 rfl ?_
          refine j_putA (pc := 190) hX kJ24 (k := 1) (Nat.le_of_ble_eq_true rfl) q845 (Or.inl rfl) rfl rfl dJ5_put_2_190 hf (fun w9 hf => ?_)
          refine j_fg [0, 1, 2, 3, 4, 5, 6, 8] [none, none, none, none, none, none, none, none, none, some (vA x8)] rfl ?_
          cases hf
          exact kj179
        · refine j_aload (pc := 182) hX dJ5_put_2_182 rfl ?_
          refine j_ifnonnull (pc := 184) hX 193 dJ5_put_2_184 rfl hf (fun h_ hf => ?_) (fun h_ hf => ?_)
          · refine j_fg [0, 1, 2, 3, 4, 5, 6, 8] [none, none, none, none, none, none, none, none, none, some (vA x8)] rfl ?_
            cases hf
            exact kj179
          · refine j_aload (pc := 187) hX dJ5_put_2_187 rfl ?_
            refine j_aload_n (pc := 189) hX dJ5_put_2_189 rfl ?_
            refine j_putA (pc := 190) hX kJ24 (k := 1) (Nat.le_of_ble_eq_true rfl) q845 (Or.inl rfl) rfl rfl dJ5_put_2_190 hf (fun w10 hf => ?_)
            refine j_fg [0, 1, 2, 3, 4, 5, 6, 8] [none, none, none, none, none, none, none, none, none, some (vA x8)] rfl ?_
            cases hf
            exact kj179
      · refine j_aload (pc := 161) hX dJ5_put_2_161 rfl ?_
        refine j_getA (pc := 163) hX kJ24 (k := 3) (Nat.le_of_ble_eq_true rfl) q847 (Or.inl rfl) dJ5_put_2_163 hf (fun x12 hx_ hf => ?_)
        refine j_astore (pc := 166) hX dJ5_put_2_166 (by decide) [some (vA c0), some (vA c1), some (vA c2), some (vI c3), some (vA x12), some (vI x7), some (vA v4), none, some (vA c8), none] rfl ?_
        refine j_goto (pc := 168) hX 196 dJ5_put_2_168 rfl ?_
        refine j_aload (pc := 196) hX dJ5_put_2_196 rfl ?_
        refine j_ifnonnull (pc := 198) hX 123 dJ5_put_2_198 rfl hf (fun h_ hf => ?_) (fun h_ hf => ?_)
        · refine j_fg [5, 6] [some (vA c0), some (vA c1), some (vA c2), some (vI c3), some (vA x12), none, none, none, some (vA c8), none] rfl ?_
          exact ih _ _ hf
        · refine j_aload_n (pc := 201) hX dJ5_put_2_201 rfl ?_
          refine j_aload_n (pc := 202) hX dJ5_put_2_202 rfl ?_
          refine j_aload_n (pc := 203) hX dJ5_put_2_203 rfl ?_
          refine j_aload (pc := 204) hX dJ5_put_2_204 rfl ?_
          refine j_iload (pc := 206) hX dJ5_put_2_206 rfl ?_
          obtain ⟨x13, hm_, hf⟩ := zob hf
          have kj208 : zJ X 216 [none, none, none, none, none, none, none, none, none, none] [vI x13, vA v4, vA c2, vA c1, vA c0] w6 := by
            clear hm_
            obtain ⟨w14, hc_, hf⟩ := zob hf
            obtain ⟨hi_, hc_⟩ := zV_e hc_
            refine j_callV (pc := 216) hX (ci := 19) mt_J5_addEntry q868 q870 qs6 hi_ ⟨_, rfl, rfl⟩ [vA c1, vA c2, vA v4, vI x13] rfl rfl (Nat.le_of_ble_eq_true rfl) (by decide) dJ5_put_2_216 (k_J5_addEntry () _ hc_) ?_
            refine j_null (pc := 219) hX dJ5_put_2_219 ?_
            exact j_areturn (pc := 220) hX rfl hQ (by cases hf; rfl) dJ5_put_2_220
          have hf := hm_
          refine j_if_ge (pc := 208) hX 215 dJ5_put_2_208 rfl hf (fun h_ hf => ?_) (fun h_ hf => ?_)
          · refine j_iconst (pc := 215) hX (0 : Int32) dJ5_put_2_215 rfl ?_
            refine j_fg [0, 1, 2, 3, 4, 5, 6, 8] [none, none, none, none, none, none, none, none, none, none] rfl ?_
            cases hf
            exact kj208
          · refine j_iconst (pc := 211) hX (1 : Int32) dJ5_put_2_211 rfl ?_
            refine j_goto (pc := 212) hX 216 dJ5_put_2_212 rfl ?_
            refine j_fg [0, 1, 2, 3, 4, 5, 6, 8] [none, none, none, none, none, none, none, none, none, none] rfl ?_
            cases hf
            exact kj208
    · refine j_aload (pc := 146) hX dJ5_put_2_146 rfl ?_
      refine j_getA (pc := 148) hX kJ24 (k := 2) (Nat.le_of_ble_eq_true rfl) q846 (Or.inl rfl) dJ5_put_2_148 hf (fun x15 hx_ hf => ?_)
      refine j_astore (pc := 151) hX dJ5_put_2_151 (by decide) [some (vA c0), some (vA c1), some (vA c2), some (vI c3), some (vA x15), some (vI x7), some (vA v4), none, some (vA c8), none] rfl ?_
      refine j_goto (pc := 153) hX 196 dJ5_put_2_153 rfl ?_
      refine j_aload (pc := 196) hX dJ5_put_2_196 rfl ?_
      refine j_ifnonnull (pc := 198) hX 123 dJ5_put_2_198 rfl hf (fun h_ hf => ?_) (fun h_ hf => ?_)
      · refine j_fg [5, 6] [some (vA c0), some (vA c1), some (vA c2), some (vI c3), some (vA x15), none, none, none, some (vA c8), none] rfl ?_
        exact ih _ _ hf
      · refine j_aload_n (pc := 201) hX dJ5_put_2_201 rfl ?_
        refine j_aload_n (pc := 202) hX dJ5_put_2_202 rfl ?_
        refine j_aload_n (pc := 203) hX dJ5_put_2_203 rfl ?_
        refine j_aload (pc := 204) hX dJ5_put_2_204 rfl ?_
        refine j_iload (pc := 206) hX dJ5_put_2_206 rfl ?_
        obtain ⟨x16, hm_, hf⟩ := zob hf
        have kj208 : zJ X 216 [none, none, none, none, none, none, none, none, none, none] [vI x16, vA v4, vA c2, vA c1, vA c0] w6 := by
          clear hm_
          obtain ⟨w17, hc_, hf⟩ := zob hf
          obtain ⟨hi_, hc_⟩ := zV_e hc_
          refine j_callV (pc := 216) hX (ci := 19) mt_J5_addEntry q868 q870 qs6 hi_ ⟨_, rfl, rfl⟩ [vA c1, vA c2, vA v4, vI x16] rfl rfl (Nat.le_of_ble_eq_true rfl) (by decide) dJ5_put_2_216 (k_J5_addEntry () _ hc_) ?_
          refine j_null (pc := 219) hX dJ5_put_2_219 ?_
          exact j_areturn (pc := 220) hX rfl hQ (by cases hf; rfl) dJ5_put_2_220
        have hf := hm_
        refine j_if_ge (pc := 208) hX 215 dJ5_put_2_208 rfl hf (fun h_ hf => ?_) (fun h_ hf => ?_)
        · refine j_iconst (pc := 215) hX (0 : Int32) dJ5_put_2_215 rfl ?_
          refine j_fg [0, 1, 2, 3, 4, 5, 6, 8] [none, none, none, none, none, none, none, none, none, none] rfl ?_
          cases hf
          exact kj208
        · refine j_iconst (pc := 211) hX (1 : Int32) dJ5_put_2_211 rfl ?_
          refine j_goto (pc := 212) hX 216 dJ5_put_2_212 rfl ?_
          refine j_fg [0, 1, 2, 3, 4, 5, 6, 8] [none, none, none, none, none, none, none, none, none, none] rfl ?_
          cases hf
          exact kj208
set_option maxHeartbeats 4000000 in
theorem lp_J5_put_2_L30 {X : zX} (hX : zGd X RJ5 cJ5_put_2 10 (some (.object "java/lang/Object")) 6) (hN : zNh X) {w0 w9 : zWd} {r : Option Nat} (hQ : zFin X w0 (.inr (some (vA r), w9))) (n : Nat) (c0 : Option Nat) (c1 : Option Nat) (c2 : Option Nat) (c3 : Int32) (c7 : Option Nat) : ∀ (k : Nat) (v4 : Option Nat) (w : zWd) , f_J5_put_2_L30 n c0 c1 c2 c3 c7 k v4 w = some (r, w9) → zJ X 30 [some (vA c0), some (vA c1), some (vA c2), some (vI c3), some (vA v4), none, none, some (vA c7), none, none] [] w := by
  intro k
  induction k with
  | zero => intro v4 w hf; exact nomatch (show (none : Option ((Option Nat) × zWd)) = _ from hf)
  | succ k ih =>
    intro v4 w hf
    have hf : f_J5_put_2_L30b n c0 c1 c2 c3 c7 (f_J5_put_2_L30 n c0 c1 c2 c3 c7 k) v4 w = _ := hf
    unfold f_J5_put_2_L30b at hf
    refine j_aload (pc := 30) hX dJ5_put_2_30 rfl ?_
    refine j_astore (pc := 32) hX dJ5_put_2_32 (by decide) [some (vA c0), some (vA c1), some (vA c2), some (vI c3), some (vA v4), none, some (vA v4), some (vA c7), none, none] rfl ?_
    refine j_aload (pc := 34) hX dJ5_put_2_34 rfl ?_
    refine j_aload_n (pc := 36) hX dJ5_put_2_36 rfl ?_
    refine j_aload (pc := 37) hX dJ5_put_2_37 rfl ?_
    refine j_getA (pc := 39) hX kJ24 (k := 0) (Nat.le_of_ble_eq_true rfl) q843 (Or.inl rfl) dJ5_put_2_39 hf (fun x18 hx_ hf => ?_)
    obtain ⟨x20, w19, hc_, hf⟩ := zB2_e hf
    obtain ⟨hi_, hc_⟩ := zV_e hc_
    refine j_callF (pc := 42) hX (ci := 15) mt_X16_compare q822 q828 q826 (by decide +kernel) rfl hi_ ⟨_, rfl, rfl⟩ [vA c1, vA x18] rfl rfl (Nat.le_of_ble_eq_true rfl) (by decide) dJ5_put_2_42 (k_X16_compare _ _ hc_) ?_
    refine j_istore (pc := 47) hX dJ5_put_2_47 (by decide) [some (vA c0), some (vA c1), some (vA c2), some (vI c3), some (vA v4), some (vI x20), some (vA v4), some (vA c7), none, none] rfl ?_
    refine j_iload (pc := 49) hX dJ5_put_2_49 rfl ?_
    refine j_if_ge (pc := 51) hX 64 dJ5_put_2_51 rfl hf (fun h_ hf => ?_) (fun h_ hf => ?_)
    · refine j_iload (pc := 64) hX dJ5_put_2_64 rfl ?_
      refine j_if_le (pc := 66) hX 79 dJ5_put_2_66 rfl hf (fun h_ hf => ?_) (fun h_ hf => ?_)
      · refine j_aload (pc := 79) hX dJ5_put_2_79 rfl ?_
        refine j_getA (pc := 81) hX kJ24 (k := 1) (Nat.le_of_ble_eq_true rfl) q845 (Or.inl rfl) dJ5_put_2_81 hf (fun x21 hx_ hf => ?_)
        refine j_astore (pc := 84) hX dJ5_put_2_84 (by decide) [some (vA c0), some (vA c1), some (vA c2), some (vI c3), some (vA v4), some (vI x20), some (vA v4), some (vA c7), some (vA x21), none] rfl ?_
        refine j_iload_n (pc := 86) hX dJ5_put_2_86 rfl ?_
        obtain ⟨w24, hm_, hf⟩ := zob hf
        have kj87 : zJ X 101 [none, none, none, none, none, none, none, none, some (vA x21), none] [] w24 := by
          clear hm_
          refine j_aload (pc := 101) hX dJ5_put_2_101 rfl ?_
          exact j_areturn (pc := 103) hX rfl hQ (by cases hf; rfl) dJ5_put_2_103
        have hf := hm_
        refine j_if_ne (pc := 87) hX 95 dJ5_put_2_87 rfl hf (fun h_ hf => ?_) (fun h_ hf => ?_)
        · refine j_aload (pc := 95) hX dJ5_put_2_95 rfl ?_
          refine j_aload_n (pc := 97) hX dJ5_put_2_97 rfl ?_
          refine j_putA (pc := 98) hX kJ24 (k := 1) (Nat.le_of_ble_eq_true rfl) q845 (Or.inl rfl) rfl rfl dJ5_put_2_98 hf (fun w22 hf => ?_)
          refine j_fg [0, 1, 2, 3, 4, 5, 6, 7] [none, none, none, none, none, none, none, none, some (vA x21), none] rfl ?_
          cases hf
          exact kj87
        · refine j_aload (pc := 90) hX dJ5_put_2_90 rfl ?_
          refine j_ifnonnull (pc := 92) hX 101 dJ5_put_2_92 rfl hf (fun h_ hf => ?_) (fun h_ hf => ?_)
          · refine j_fg [0, 1, 2, 3, 4, 5, 6, 7] [none, none, none, none, none, none, none, none, some (vA x21), none] rfl ?_
            cases hf
            exact kj87
          · refine j_aload (pc := 95) hX dJ5_put_2_95 rfl ?_
            refine j_aload_n (pc := 97) hX dJ5_put_2_97 rfl ?_
            refine j_putA (pc := 98) hX kJ24 (k := 1) (Nat.le_of_ble_eq_true rfl) q845 (Or.inl rfl) rfl rfl dJ5_put_2_98 hf (fun w23 hf => ?_)
            refine j_fg [0, 1, 2, 3, 4, 5, 6, 7] [none, none, none, none, none, none, none, none, some (vA x21), none] rfl ?_
            cases hf
            exact kj87
      · refine j_aload (pc := 69) hX dJ5_put_2_69 rfl ?_
        refine j_getA (pc := 71) hX kJ24 (k := 3) (Nat.le_of_ble_eq_true rfl) q847 (Or.inl rfl) dJ5_put_2_71 hf (fun x25 hx_ hf => ?_)
        refine j_astore (pc := 74) hX dJ5_put_2_74 (by decide) [some (vA c0), some (vA c1), some (vA c2), some (vI c3), some (vA x25), some (vI x20), some (vA v4), some (vA c7), none, none] rfl ?_
        refine j_goto (pc := 76) hX 104 dJ5_put_2_76 rfl ?_
        refine j_aload (pc := 104) hX dJ5_put_2_104 rfl ?_
        refine j_ifnonnull (pc := 106) hX 30 dJ5_put_2_106 rfl hf (fun h_ hf => ?_) (fun h_ hf => ?_)
        · refine j_fg [5, 6] [some (vA c0), some (vA c1), some (vA c2), some (vI c3), some (vA x25), none, none, some (vA c7), none, none] rfl ?_
          exact ih _ _ hf
        · refine j_goto (pc := 109) hX 201 dJ5_put_2_109 rfl ?_
          refine j_aload_n (pc := 201) hX dJ5_put_2_201 rfl ?_
          refine j_aload_n (pc := 202) hX dJ5_put_2_202 rfl ?_
          refine j_aload_n (pc := 203) hX dJ5_put_2_203 rfl ?_
          refine j_aload (pc := 204) hX dJ5_put_2_204 rfl ?_
          refine j_iload (pc := 206) hX dJ5_put_2_206 rfl ?_
          obtain ⟨x26, hm_, hf⟩ := zob hf
          have kj208 : zJ X 216 [none, none, none, none, none, none, none, none, none, none] [vI x26, vA v4, vA c2, vA c1, vA c0] w19 := by
            clear hm_
            obtain ⟨w27, hc_, hf⟩ := zob hf
            obtain ⟨hi_, hc_⟩ := zV_e hc_
            refine j_callV (pc := 216) hX (ci := 19) mt_J5_addEntry q868 q870 qs6 hi_ ⟨_, rfl, rfl⟩ [vA c1, vA c2, vA v4, vI x26] rfl rfl (Nat.le_of_ble_eq_true rfl) (by decide) dJ5_put_2_216 (k_J5_addEntry () _ hc_) ?_
            refine j_null (pc := 219) hX dJ5_put_2_219 ?_
            exact j_areturn (pc := 220) hX rfl hQ (by cases hf; rfl) dJ5_put_2_220
          have hf := hm_
          refine j_if_ge (pc := 208) hX 215 dJ5_put_2_208 rfl hf (fun h_ hf => ?_) (fun h_ hf => ?_)
          · refine j_iconst (pc := 215) hX (0 : Int32) dJ5_put_2_215 rfl ?_
            refine j_fg [0, 1, 2, 3, 4, 5, 6, 7] [none, none, none, none, none, none, none, none, none, none] rfl ?_
            cases hf
            exact kj208
          · refine j_iconst (pc := 211) hX (1 : Int32) dJ5_put_2_211 rfl ?_
            refine j_goto (pc := 212) hX 216 dJ5_put_2_212 rfl ?_
            refine j_fg [0, 1, 2, 3, 4, 5, 6, 7] [none, none, none, none, none, none, none, none, none, none] rfl ?_
            cases hf
            exact kj208
    · refine j_aload (pc := 54) hX dJ5_put_2_54 rfl ?_
      refine j_getA (pc := 56) hX kJ24 (k := 2) (Nat.le_of_ble_eq_true rfl) q846 (Or.inl rfl) dJ5_put_2_56 hf (fun x28 hx_ hf => ?_)
      refine j_astore (pc := 59) hX dJ5_put_2_59 (by decide) [some (vA c0), some (vA c1), some (vA c2), some (vI c3), some (vA x28), some (vI x20), some (vA v4), some (vA c7), none, none] rfl ?_
      refine j_goto (pc := 61) hX 104 dJ5_put_2_61 rfl ?_
      refine j_aload (pc := 104) hX dJ5_put_2_104 rfl ?_
      refine j_ifnonnull (pc := 106) hX 30 dJ5_put_2_106 rfl hf (fun h_ hf => ?_) (fun h_ hf => ?_)
      · refine j_fg [5, 6] [some (vA c0), some (vA c1), some (vA c2), some (vI c3), some (vA x28), none, none, some (vA c7), none, none] rfl ?_
        exact ih _ _ hf
      · refine j_goto (pc := 109) hX 201 dJ5_put_2_109 rfl ?_
        refine j_aload_n (pc := 201) hX dJ5_put_2_201 rfl ?_
        refine j_aload_n (pc := 202) hX dJ5_put_2_202 rfl ?_
        refine j_aload_n (pc := 203) hX dJ5_put_2_203 rfl ?_
        refine j_aload (pc := 204) hX dJ5_put_2_204 rfl ?_
        refine j_iload (pc := 206) hX dJ5_put_2_206 rfl ?_
        obtain ⟨x29, hm_, hf⟩ := zob hf
        have kj208 : zJ X 216 [none, none, none, none, none, none, none, none, none, none] [vI x29, vA v4, vA c2, vA c1, vA c0] w19 := by
          clear hm_
          obtain ⟨w30, hc_, hf⟩ := zob hf
          obtain ⟨hi_, hc_⟩ := zV_e hc_
          refine j_callV (pc := 216) hX (ci := 19) mt_J5_addEntry q868 q870 qs6 hi_ ⟨_, rfl, rfl⟩ [vA c1, vA c2, vA v4, vI x29] rfl rfl (Nat.le_of_ble_eq_true rfl) (by decide) dJ5_put_2_216 (k_J5_addEntry () _ hc_) ?_
          refine j_null (pc := 219) hX dJ5_put_2_219 ?_
          exact j_areturn (pc := 220) hX rfl hQ (by cases hf; rfl) dJ5_put_2_220
        have hf := hm_
        refine j_if_ge (pc := 208) hX 215 dJ5_put_2_208 rfl hf (fun h_ hf => ?_) (fun h_ hf => ?_)
        · refine j_iconst (pc := 215) hX (0 : Int32) dJ5_put_2_215 rfl ?_
          refine j_fg [0, 1, 2, 3, 4, 5, 6, 7] [none, none, none, none, none, none, none, none, none, none] rfl ?_
          cases hf
          exact kj208
        · refine j_iconst (pc := 211) hX (1 : Int32) dJ5_put_2_211 rfl ?_
          refine j_goto (pc := 212) hX 216 dJ5_put_2_212 rfl ?_
          refine j_fg [0, 1, 2, 3, 4, 5, 6, 7] [none, none, none, none, none, none, none, none, none, none] rfl ?_
          cases hf
          exact kj208
set_option maxHeartbeats 4000000 in
theorem k_J5_put_2 {l : Launch} {n : Nat} {a0 : Option Nat} {a1 : Option Nat} {a2 : Option Nat} {a3 : Int32} {w : zWd} (r : Option Nat) (w9 : zWd) (hf : f_J5_put_2 n a0 a1 a2 a3 w = some (r, w9)) : zCt l yJ5_put_2 cJ5_put_2 10 (some (.object "java/lang/Object")) 6 [vA a0, vA a1, vA a2, vI a3] w (.inr (some (vA r), w9)) := by
  refine zCt_of (lv := [some (vA a0), some (vA a1), some (vA a2), some (vI a3), none, none, none, none, none, none]) (by decide +kernel) 6 rfl rfl ?_
  intro X hX hI hN hQ
  have hX : zGd X RJ5 cJ5_put_2 10 (some (.object "java/lang/Object")) 6 := hX
  unfold f_J5_put_2 at hf
  refine j_aload_n (pc := 0) hX dJ5_put_2_0 rfl ?_
  refine j_getA (pc := 1) hX kJ5 (k := 3) (Nat.le_of_ble_eq_true rfl) q196 (Or.inl rfl) dJ5_put_2_1 hf (fun x1 hx_ hf => ?_)
  refine j_astore (pc := 4) hX dJ5_put_2_4 (by decide) [some (vA a0), some (vA a1), some (vA a2), some (vI a3), some (vA x1), none, none, none, none, none] rfl ?_
  refine j_aload (pc := 6) hX dJ5_put_2_6 rfl ?_
  refine j_ifnonnull (pc := 8) hX 19 dJ5_put_2_8 rfl hf (fun h_ hf => ?_) (fun h_ hf => ?_)
  · refine j_aload_n (pc := 19) hX dJ5_put_2_19 rfl ?_
    refine j_getA (pc := 20) hX kJ5 (k := 2) (Nat.le_of_ble_eq_true rfl) q195 (Or.inl rfl) dJ5_put_2_20 hf (fun x2 hx_ hf => ?_)
    refine j_astore (pc := 23) hX dJ5_put_2_23 (by decide) [some (vA a0), some (vA a1), some (vA a2), some (vI a3), some (vA x1), none, none, some (vA x2), none, none] rfl ?_
    refine j_aload (pc := 25) hX dJ5_put_2_25 rfl ?_
    refine j_ifnull (pc := 27) hX 112 dJ5_put_2_27 rfl hf (fun h_ hf => ?_) (fun h_ hf => ?_)
    · refine j_aload_n (pc := 112) hX dJ5_put_2_112 rfl ?_
      obtain ⟨x4, w3, hc_, hf⟩ := zB2_e hf
      refine j_callS (pc := 113) hX mt_J25_requireNonNull q865 q866 [vA a1] rfl rfl (Nat.le_of_ble_eq_true rfl) (by decide) dJ5_put_2_113 (k_J25_requireNonNull _ _ hc_) ?_
      refine j_pop (pc := 116) hX rfl dJ5_put_2_116 ?_
      refine j_aload_n (pc := 117) hX dJ5_put_2_117 rfl ?_
      refine j_cast (pc := 118) hX q594 [20] (zC1 ⟨_, rfl, Or.inr q599⟩) dJ5_put_2_118 hf (fun hf => ?_)
      refine j_astore (pc := 121) hX dJ5_put_2_121 (by decide) [some (vA a0), some (vA a1), some (vA a2), some (vI a3), some (vA x1), none, none, some (vA x2), some (vA a1), none] rfl ?_
      refine j_fg [7] [some (vA a0), some (vA a1), some (vA a2), some (vI a3), some (vA x1), none, none, none, some (vA a1), none] rfl ?_
      exact lp_J5_put_2_L123 hX hN hQ n _ _ _ _ _ _ _ _ hf
    · exact lp_J5_put_2_L30 hX hN hQ n _ _ _ _ _ _ _ _ hf
  · refine j_aload_n (pc := 11) hX dJ5_put_2_11 rfl ?_
    refine j_aload_n (pc := 12) hX dJ5_put_2_12 rfl ?_
    refine j_aload_n (pc := 13) hX dJ5_put_2_13 rfl ?_
    obtain ⟨w31, hc_, hf⟩ := zob hf
    obtain ⟨hi_, hc_⟩ := zV_e hc_
    refine j_callV (pc := 14) hX (ci := 19) mt_J5_addEntryToEmptyMap q586 q588 qs5 hi_ ⟨_, rfl, rfl⟩ [vA a1, vA a2] rfl rfl (Nat.le_of_ble_eq_true rfl) (by decide) dJ5_put_2_14 (k_J5_addEntryToEmptyMap () _ hc_) ?_
    refine j_null (pc := 17) hX dJ5_put_2_17 ?_
    exact j_areturn (pc := 18) hX rfl hQ (by cases hf; rfl) dJ5_put_2_18
