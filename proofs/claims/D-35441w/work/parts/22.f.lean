set_option maxRecDepth 100000
def f_J5_put (n : Nat) (a0 : Option Nat) (a1 : Option Nat) (a2 : Option Nat) (w : zWd) : Option ((Option Nat) × zWd) :=
  zB2 (zV (isC w 19 a0) (f_J5_put_2 n a0 a1 a2 (1 : Int32) w)) fun x2 w1 =>
  some (x2, w1)
theorem mt_J5_put : zMt yJ5_put cJ5_put 3 (some (.object "java/lang/Object")) 2 := ⟨q581, q74, ⟨by decide, by decide⟩, by decide +kernel, by decide⟩
set_option maxHeartbeats 4000000 in
theorem k_J5_put {l : Launch} {n : Nat} {a0 : Option Nat} {a1 : Option Nat} {a2 : Option Nat} {w : zWd} (r : Option Nat) (w9 : zWd) (hf : f_J5_put n a0 a1 a2 w = some (r, w9)) : zCt l yJ5_put cJ5_put 3 (some (.object "java/lang/Object")) 7 [vA a0, vA a1, vA a2] w (.inr (some (vA r), w9)) := by
  refine zCt_of (lv := [some (vA a0), some (vA a1), some (vA a2)]) (by decide +kernel) 0 rfl rfl ?_
  intro X hX hI hN hQ
  have hX : zGd X RJ5 cJ5_put 3 (some (.object "java/lang/Object")) 7 := hX
  unfold f_J5_put at hf
  refine j_aload_n (pc := 0) hX dJ5_put_0 rfl ?_
  refine j_aload_n (pc := 1) hX dJ5_put_1 rfl ?_
  refine j_aload_n (pc := 2) hX dJ5_put_2 rfl ?_
  refine j_iconst (pc := 3) hX (1 : Int32) dJ5_put_3 rfl ?_
  obtain ⟨x2, w1, hc_, hf⟩ := zB2_e hf
  obtain ⟨hi_, hc_⟩ := zV_e hc_
  refine j_callV (pc := 4) hX (ci := 19) mt_J5_put_2 q582 q584 qs4 hi_ ⟨_, rfl, rfl⟩ [vA a1, vA a2, vI (1 : Int32)] rfl rfl (Nat.le_of_ble_eq_true rfl) (by decide) dJ5_put_4 (k_J5_put_2 _ _ hc_) ?_
  exact j_areturn (pc := 7) hX rfl hQ (by cases hf; rfl) dJ5_put_7
def f_J5_getEntryUsingComparator_L17b (n : Nat) (c2 : Option Nat) (c3 : Option Nat) (rec : (Option Nat) → zWd → Option ((Option Nat) × zWd)) (v4 : Option Nat) (w : zWd) : Option ((Option Nat) × zWd) :=
  if v4 = none then
    some (none, w)
  else
    (gA w 21 0 v4).bind fun x3 =>
    zB2 (zV (isC w 15 c3) (f_X16_compare n c3 c2 x3 w)) fun x5 w4 =>
    if (0 : Int32) ≤ x5 then
      if x5 ≤ (0 : Int32) then
        some (v4, w4)
      else
        (gA w4 21 3 v4).bind fun x6 =>
        rec x6 w4
    else
      (gA w4 21 2 v4).bind fun x7 =>
      rec x7 w4
def f_J5_getEntryUsingComparator_L17 (n : Nat) (c2 : Option Nat) (c3 : Option Nat) : Nat → (Option Nat) → zWd → Option ((Option Nat) × zWd)
  | 0, _, _ => none
  | k + 1, v4, w => f_J5_getEntryUsingComparator_L17b n c2 c3 (f_J5_getEntryUsingComparator_L17 n c2 c3 k) v4 w
def f_J5_getEntryUsingComparator (n : Nat) (a0 : Option Nat) (a1 : Option Nat) (w : zWd) : Option ((Option Nat) × zWd) :=
  (gA w 19 2 a0).bind fun x1 =>
  if x1 = none then
    some (none, w)
  else
    (gA w 19 3 a0).bind fun x2 =>
    f_J5_getEntryUsingComparator_L17 n a1 x1 n x2 w
theorem mt_J5_getEntryUsingComparator : zMt yJ5_getEntryUsingComparator cJ5_getEntryUsingComparator 6 (some (.object "java/util/TreeMap$Entry")) 1 := ⟨q911, q74, ⟨by decide, by decide⟩, by decide +kernel, by decide⟩
set_option maxHeartbeats 4000000 in
theorem lp_J5_getEntryUsingComparator_L17 {X : zX} (hX : zGd X RJ5 cJ5_getEntryUsingComparator 6 (some (.object "java/util/TreeMap$Entry")) 3) (hN : zNh X) {w0 w9 : zWd} {r : Option Nat} (hQ : zFin X w0 (.inr (some (vA r), w9))) (n : Nat) (c2 : Option Nat) (c3 : Option Nat) : ∀ (k : Nat) (v4 : Option Nat) (w : zWd) , f_J5_getEntryUsingComparator_L17 n c2 c3 k v4 w = some (r, w9) → zJ X 17 [none, none, some (vA c2), some (vA c3), some (vA v4), none] [] w := by
  intro k
  induction k with
  | zero => intro v4 w hf; exact nomatch (show (none : Option ((Option Nat) × zWd)) = _ from hf)
  | succ k ih =>
    intro v4 w hf
    have hf : f_J5_getEntryUsingComparator_L17b n c2 c3 (f_J5_getEntryUsingComparator_L17 n c2 c3 k) v4 w = _ := hf
    unfold f_J5_getEntryUsingComparator_L17b at hf
    refine j_aload (pc := 17) hX dJ5_getEntryUsingComparator_17 rfl ?_
    refine j_ifnull (pc := 19) hX 72 dJ5_getEntryUsingComparator_19 rfl hf (fun h_ hf => ?_) (fun h_ hf => ?_)
    · refine j_null (pc := 72) hX dJ5_getEntryUsingComparator_72 ?_
      exact j_areturn (pc := 73) hX rfl hQ (by cases hf; rfl) dJ5_getEntryUsingComparator_73
    · refine j_aload_n (pc := 22) hX dJ5_getEntryUsingComparator_22 rfl ?_
      refine j_aload_n (pc := 23) hX dJ5_getEntryUsingComparator_23 rfl ?_
      refine j_aload (pc := 24) hX dJ5_getEntryUsingComparator_24 rfl ?_
      refine j_getA (pc := 26) hX kJ24 (k := 0) (Nat.le_of_ble_eq_true rfl) q843 (Or.inl rfl) dJ5_getEntryUsingComparator_26 hf (fun x3 hx_ hf => ?_)
      obtain ⟨x5, w4, hc_, hf⟩ := zB2_e hf
      obtain ⟨hi_, hc_⟩ := zV_e hc_
      refine j_callF (pc := 29) hX (ci := 15) mt_X16_compare q822 q828 q826 (by decide +kernel) rfl hi_ ⟨_, rfl, rfl⟩ [vA c2, vA x3] rfl rfl (Nat.le_of_ble_eq_true rfl) (by decide) dJ5_getEntryUsingComparator_29 (k_X16_compare _ _ hc_) ?_
      refine j_istore (pc := 34) hX dJ5_getEntryUsingComparator_34 (by decide) [none, none, some (vA c2), some (vA c3), some (vA v4), some (vI x5)] rfl ?_
      refine j_iload (pc := 36) hX dJ5_getEntryUsingComparator_36 rfl ?_
      refine j_if_ge (pc := 38) hX 51 dJ5_getEntryUsingComparator_38 rfl hf (fun h_ hf => ?_) (fun h_ hf => ?_)
      · refine j_iload (pc := 51) hX dJ5_getEntryUsingComparator_51 rfl ?_
        refine j_if_le (pc := 53) hX 66 dJ5_getEntryUsingComparator_53 rfl hf (fun h_ hf => ?_) (fun h_ hf => ?_)
        · refine j_aload (pc := 66) hX dJ5_getEntryUsingComparator_66 rfl ?_
          exact j_areturn (pc := 68) hX rfl hQ (by cases hf; rfl) dJ5_getEntryUsingComparator_68
        · refine j_aload (pc := 56) hX dJ5_getEntryUsingComparator_56 rfl ?_
          refine j_getA (pc := 58) hX kJ24 (k := 3) (Nat.le_of_ble_eq_true rfl) q847 (Or.inl rfl) dJ5_getEntryUsingComparator_58 hf (fun x6 hx_ hf => ?_)
          refine j_astore (pc := 61) hX dJ5_getEntryUsingComparator_61 (by decide) [none, none, some (vA c2), some (vA c3), some (vA x6), some (vI x5)] rfl ?_
          refine j_goto (pc := 63) hX 69 dJ5_getEntryUsingComparator_63 rfl ?_
          refine j_goto (pc := 69) hX 17 dJ5_getEntryUsingComparator_69 rfl ?_
          refine j_fg [5] [none, none, some (vA c2), some (vA c3), some (vA x6), none] rfl ?_
          exact ih _ _ hf
      · refine j_aload (pc := 41) hX dJ5_getEntryUsingComparator_41 rfl ?_
        refine j_getA (pc := 43) hX kJ24 (k := 2) (Nat.le_of_ble_eq_true rfl) q846 (Or.inl rfl) dJ5_getEntryUsingComparator_43 hf (fun x7 hx_ hf => ?_)
        refine j_astore (pc := 46) hX dJ5_getEntryUsingComparator_46 (by decide) [none, none, some (vA c2), some (vA c3), some (vA x7), some (vI x5)] rfl ?_
        refine j_goto (pc := 48) hX 69 dJ5_getEntryUsingComparator_48 rfl ?_
        refine j_goto (pc := 69) hX 17 dJ5_getEntryUsingComparator_69 rfl ?_
        refine j_fg [5] [none, none, some (vA c2), some (vA c3), some (vA x7), none] rfl ?_
        exact ih _ _ hf
set_option maxHeartbeats 4000000 in
theorem k_J5_getEntryUsingComparator {l : Launch} {n : Nat} {a0 : Option Nat} {a1 : Option Nat} {w : zWd} (r : Option Nat) (w9 : zWd) (hf : f_J5_getEntryUsingComparator n a0 a1 w = some (r, w9)) : zCt l yJ5_getEntryUsingComparator cJ5_getEntryUsingComparator 6 (some (.object "java/util/TreeMap$Entry")) 3 [vA a0, vA a1] w (.inr (some (vA r), w9)) := by
  refine zCt_of (lv := [some (vA a0), some (vA a1), none, none, none, none]) (by decide +kernel) 4 rfl rfl ?_
  intro X hX hI hN hQ
  have hX : zGd X RJ5 cJ5_getEntryUsingComparator 6 (some (.object "java/util/TreeMap$Entry")) 3 := hX
  unfold f_J5_getEntryUsingComparator at hf
  refine j_aload_n (pc := 0) hX dJ5_getEntryUsingComparator_0 rfl ?_
  refine j_astore_n (pc := 1) hX dJ5_getEntryUsingComparator_1 (by decide) [some (vA a0), some (vA a1), some (vA a1), none, none, none] rfl ?_
  refine j_aload_n (pc := 2) hX dJ5_getEntryUsingComparator_2 rfl ?_
  refine j_getA (pc := 3) hX kJ5 (k := 2) (Nat.le_of_ble_eq_true rfl) q195 (Or.inl rfl) dJ5_getEntryUsingComparator_3 hf (fun x1 hx_ hf => ?_)
  refine j_astore_n (pc := 6) hX dJ5_getEntryUsingComparator_6 (by decide) [some (vA a0), some (vA a1), some (vA a1), some (vA x1), none, none] rfl ?_
  refine j_aload_n (pc := 7) hX dJ5_getEntryUsingComparator_7 rfl ?_
  refine j_ifnull (pc := 8) hX 72 dJ5_getEntryUsingComparator_8 rfl hf (fun h_ hf => ?_) (fun h_ hf => ?_)
  · refine j_null (pc := 72) hX dJ5_getEntryUsingComparator_72 ?_
    exact j_areturn (pc := 73) hX rfl hQ (by cases hf; rfl) dJ5_getEntryUsingComparator_73
  · refine j_aload_n (pc := 11) hX dJ5_getEntryUsingComparator_11 rfl ?_
    refine j_getA (pc := 12) hX kJ5 (k := 3) (Nat.le_of_ble_eq_true rfl) q196 (Or.inl rfl) dJ5_getEntryUsingComparator_12 hf (fun x2 hx_ hf => ?_)
    refine j_astore (pc := 15) hX dJ5_getEntryUsingComparator_15 (by decide) [some (vA a0), some (vA a1), some (vA a1), some (vA x1), some (vA x2), none] rfl ?_
    refine j_fg [0, 1] [none, none, some (vA a1), some (vA x1), some (vA x2), none] rfl ?_
    exact lp_J5_getEntryUsingComparator_L17 hX hN hQ n _ _ _ _ _ hf
def f_J5_getEntry_L28b (n : Nat) (c2 : Option Nat) (rec : (Option Nat) → zWd → Option ((Option Nat) × zWd)) (v3 : Option Nat) (w : zWd) : Option ((Option Nat) × zWd) :=
  if v3 = none then
    some (none, w)
  else
    (gA w 21 0 v3).bind fun x5 =>
    zB2 (zV (isC w 20 c2) (f_J10_compareTo n c2 x5 w)) fun x7 w6 =>
    if (0 : Int32) ≤ x7 then
      if x7 ≤ (0 : Int32) then
        some (v3, w6)
      else
        (gA w6 21 3 v3).bind fun x8 =>
        rec x8 w6
    else
      (gA w6 21 2 v3).bind fun x9 =>
      rec x9 w6
def f_J5_getEntry_L28 (n : Nat) (c2 : Option Nat) : Nat → (Option Nat) → zWd → Option ((Option Nat) × zWd)
  | 0, _, _ => none
  | k + 1, v3, w => f_J5_getEntry_L28b n c2 (f_J5_getEntry_L28 n c2 k) v3 w
def f_J5_getEntry (n : Nat) (a0 : Option Nat) (a1 : Option Nat) (w : zWd) : Option ((Option Nat) × zWd) :=
  (gA w 19 2 a0).bind fun x1 =>
  if x1 = none then
    zB2 (f_J25_requireNonNull n a1 w) fun x3 w2 =>
    (cK w2 [20] a1).bind fun _ =>
    (gA w2 19 3 a0).bind fun x4 =>
    f_J5_getEntry_L28 n a1 n x4 w2
  else
    zB2 (zV (isC w 19 a0) (f_J5_getEntryUsingComparator n a0 a1 w)) fun x11 w10 =>
    some (x11, w10)
theorem mt_J5_getEntry : zMt yJ5_getEntry cJ5_getEntry 5 (some (.object "java/util/TreeMap$Entry")) 1 := ⟨q907, q74, ⟨by decide, by decide⟩, by decide +kernel, by decide⟩
set_option maxHeartbeats 4000000 in
theorem lp_J5_getEntry_L28 {X : zX} (hX : zGd X RJ5 cJ5_getEntry 5 (some (.object "java/util/TreeMap$Entry")) 4) (hN : zNh X) {w0 w9 : zWd} {r : Option Nat} (hQ : zFin X w0 (.inr (some (vA r), w9))) (n : Nat) (c2 : Option Nat) : ∀ (k : Nat) (v3 : Option Nat) (w : zWd) , f_J5_getEntry_L28 n c2 k v3 w = some (r, w9) → zJ X 28 [none, none, some (vA c2), some (vA v3), none] [] w := by
  intro k
  induction k with
  | zero => intro v3 w hf; exact nomatch (show (none : Option ((Option Nat) × zWd)) = _ from hf)
  | succ k ih =>
    intro v3 w hf
    have hf : f_J5_getEntry_L28b n c2 (f_J5_getEntry_L28 n c2 k) v3 w = _ := hf
    unfold f_J5_getEntry_L28b at hf
    refine j_aload_n (pc := 28) hX dJ5_getEntry_28 rfl ?_
    refine j_ifnull (pc := 29) hX 75 dJ5_getEntry_29 rfl hf (fun h_ hf => ?_) (fun h_ hf => ?_)
    · refine j_null (pc := 75) hX dJ5_getEntry_75 ?_
      exact j_areturn (pc := 76) hX rfl hQ (by cases hf; rfl) dJ5_getEntry_76
    · refine j_aload_n (pc := 32) hX dJ5_getEntry_32 rfl ?_
      refine j_aload_n (pc := 33) hX dJ5_getEntry_33 rfl ?_
      refine j_getA (pc := 34) hX kJ24 (k := 0) (Nat.le_of_ble_eq_true rfl) q843 (Or.inl rfl) dJ5_getEntry_34 hf (fun x5 hx_ hf => ?_)
      obtain ⟨x7, w6, hc_, hf⟩ := zB2_e hf
      obtain ⟨hi_, hc_⟩ := zV_e hc_
      refine j_callF (pc := 37) hX (ci := 20) mt_J10_compareTo q596 q602 q600 (by decide +kernel) rfl hi_ ⟨_, rfl, rfl⟩ [vA x5] rfl rfl (Nat.le_of_ble_eq_true rfl) (by decide) dJ5_getEntry_37 (k_J10_compareTo _ _ hc_) ?_
      refine j_istore (pc := 42) hX dJ5_getEntry_42 (by decide) [none, none, some (vA c2), some (vA v3), some (vI x7)] rfl ?_
      refine j_iload (pc := 44) hX dJ5_getEntry_44 rfl ?_
      refine j_if_ge (pc := 46) hX 57 dJ5_getEntry_46 rfl hf (fun h_ hf => ?_) (fun h_ hf => ?_)
      · refine j_iload (pc := 57) hX dJ5_getEntry_57 rfl ?_
        refine j_if_le (pc := 59) hX 70 dJ5_getEntry_59 rfl hf (fun h_ hf => ?_) (fun h_ hf => ?_)
        · refine j_aload_n (pc := 70) hX dJ5_getEntry_70 rfl ?_
          exact j_areturn (pc := 71) hX rfl hQ (by cases hf; rfl) dJ5_getEntry_71
        · refine j_aload_n (pc := 62) hX dJ5_getEntry_62 rfl ?_
          refine j_getA (pc := 63) hX kJ24 (k := 3) (Nat.le_of_ble_eq_true rfl) q847 (Or.inl rfl) dJ5_getEntry_63 hf (fun x8 hx_ hf => ?_)
          refine j_astore_n (pc := 66) hX dJ5_getEntry_66 (by decide) [none, none, some (vA c2), some (vA x8), some (vI x7)] rfl ?_
          refine j_goto (pc := 67) hX 72 dJ5_getEntry_67 rfl ?_
          refine j_goto (pc := 72) hX 28 dJ5_getEntry_72 rfl ?_
          refine j_fg [4] [none, none, some (vA c2), some (vA x8), none] rfl ?_
          exact ih _ _ hf
      · refine j_aload_n (pc := 49) hX dJ5_getEntry_49 rfl ?_
        refine j_getA (pc := 50) hX kJ24 (k := 2) (Nat.le_of_ble_eq_true rfl) q846 (Or.inl rfl) dJ5_getEntry_50 hf (fun x9 hx_ hf => ?_)
        refine j_astore_n (pc := 53) hX dJ5_getEntry_53 (by decide) [none, none, some (vA c2), some (vA x9), some (vI x7)] rfl ?_
        refine j_goto (pc := 54) hX 72 dJ5_getEntry_54 rfl ?_
        refine j_goto (pc := 72) hX 28 dJ5_getEntry_72 rfl ?_
        refine j_fg [4] [none, none, some (vA c2), some (vA x9), none] rfl ?_
        exact ih _ _ hf
set_option maxHeartbeats 4000000 in
theorem k_J5_getEntry {l : Launch} {n : Nat} {a0 : Option Nat} {a1 : Option Nat} {w : zWd} (r : Option Nat) (w9 : zWd) (hf : f_J5_getEntry n a0 a1 w = some (r, w9)) : zCt l yJ5_getEntry cJ5_getEntry 5 (some (.object "java/util/TreeMap$Entry")) 4 [vA a0, vA a1] w (.inr (some (vA r), w9)) := by
  refine zCt_of (lv := [some (vA a0), some (vA a1), none, none, none]) (by decide +kernel) 3 rfl rfl ?_
  intro X hX hI hN hQ
  have hX : zGd X RJ5 cJ5_getEntry 5 (some (.object "java/util/TreeMap$Entry")) 4 := hX
  unfold f_J5_getEntry at hf
  refine j_aload_n (pc := 0) hX dJ5_getEntry_0 rfl ?_
  refine j_getA (pc := 1) hX kJ5 (k := 2) (Nat.le_of_ble_eq_true rfl) q195 (Or.inl rfl) dJ5_getEntry_1 hf (fun x1 hx_ hf => ?_)
  refine j_ifnull (pc := 4) hX 13 dJ5_getEntry_4 rfl hf (fun h_ hf => ?_) (fun h_ hf => ?_)
  · refine j_aload_n (pc := 13) hX dJ5_getEntry_13 rfl ?_
    obtain ⟨x3, w2, hc_, hf⟩ := zB2_e hf
    refine j_callS (pc := 14) hX mt_J25_requireNonNull q865 q866 [vA a1] rfl rfl (Nat.le_of_ble_eq_true rfl) (by decide) dJ5_getEntry_14 (k_J25_requireNonNull _ _ hc_) ?_
    refine j_pop (pc := 17) hX rfl dJ5_getEntry_17 ?_
    refine j_aload_n (pc := 18) hX dJ5_getEntry_18 rfl ?_
    refine j_cast (pc := 19) hX q594 [20] (zC1 ⟨_, rfl, Or.inr q599⟩) dJ5_getEntry_19 hf (fun hf => ?_)
    refine j_astore_n (pc := 22) hX dJ5_getEntry_22 (by decide) [some (vA a0), some (vA a1), some (vA a1), none, none] rfl ?_
    refine j_aload_n (pc := 23) hX dJ5_getEntry_23 rfl ?_
    refine j_getA (pc := 24) hX kJ5 (k := 3) (Nat.le_of_ble_eq_true rfl) q196 (Or.inl rfl) dJ5_getEntry_24 hf (fun x4 hx_ hf => ?_)
    refine j_astore_n (pc := 27) hX dJ5_getEntry_27 (by decide) [some (vA a0), some (vA a1), some (vA a1), some (vA x4), none] rfl ?_
    refine j_fg [0, 1] [none, none, some (vA a1), some (vA x4), none] rfl ?_
    exact lp_J5_getEntry_L28 hX hN hQ n _ _ _ _ hf
  · refine j_aload_n (pc := 7) hX dJ5_getEntry_7 rfl ?_
    refine j_aload_n (pc := 8) hX dJ5_getEntry_8 rfl ?_
    obtain ⟨x11, w10, hc_, hf⟩ := zB2_e hf
    obtain ⟨hi_, hc_⟩ := zV_e hc_
    refine j_callV (pc := 9) hX (ci := 19) mt_J5_getEntryUsingComparator q908 q909 q910 hi_ ⟨_, rfl, rfl⟩ [vA a1] rfl rfl (Nat.le_of_ble_eq_true rfl) (by decide) dJ5_getEntry_9 (k_J5_getEntryUsingComparator _ _ hc_) ?_
    exact j_areturn (pc := 12) hX rfl hQ (by cases hf; rfl) dJ5_getEntry_12
def f_J5_get (n : Nat) (a0 : Option Nat) (a1 : Option Nat) (w : zWd) : Option ((Option Nat) × zWd) :=
  zB2 (zV (isC w 19 a0) (f_J5_getEntry n a0 a1 w)) fun x2 w1 =>
  (
    if x2 = none then
      some none
    else
      (gA w1 21 1 x2).bind fun x3 =>
      some x3
    ).bind fun x4 =>
  some (x4, w1)
theorem mt_J5_get : zMt yJ5_get cJ5_get 3 (some (.object "java/lang/Object")) 1 := ⟨q903, q74, ⟨by decide, by decide⟩, by decide +kernel, by decide⟩
set_option maxHeartbeats 4000000 in
theorem k_J5_get {l : Launch} {n : Nat} {a0 : Option Nat} {a1 : Option Nat} {w : zWd} (r : Option Nat) (w9 : zWd) (hf : f_J5_get n a0 a1 w = some (r, w9)) : zCt l yJ5_get cJ5_get 3 (some (.object "java/lang/Object")) 5 [vA a0, vA a1] w (.inr (some (vA r), w9)) := by
  refine zCt_of (lv := [some (vA a0), some (vA a1), none]) (by decide +kernel) 1 rfl rfl ?_
  intro X hX hI hN hQ
  have hX : zGd X RJ5 cJ5_get 3 (some (.object "java/lang/Object")) 5 := hX
  unfold f_J5_get at hf
  refine j_aload_n (pc := 0) hX dJ5_get_0 rfl ?_
  refine j_aload_n (pc := 1) hX dJ5_get_1 rfl ?_
  obtain ⟨x2, w1, hc_, hf⟩ := zB2_e hf
  obtain ⟨hi_, hc_⟩ := zV_e hc_
  refine j_callV (pc := 2) hX (ci := 19) mt_J5_getEntry q904 q905 q906 hi_ ⟨_, rfl, rfl⟩ [vA a1] rfl rfl (Nat.le_of_ble_eq_true rfl) (by decide) dJ5_get_2 (k_J5_getEntry _ _ hc_) ?_
  refine j_astore_n (pc := 5) hX dJ5_get_5 (by decide) [some (vA a0), some (vA a1), some (vA x2)] rfl ?_
  refine j_aload_n (pc := 6) hX dJ5_get_6 rfl ?_
  obtain ⟨x4, hm_, hf⟩ := zob hf
  have kj7 : zJ X 18 [none, none, none] [vA x4] w1 := by
    clear hm_
    exact j_areturn (pc := 18) hX rfl hQ (by cases hf; rfl) dJ5_get_18
  have hf := hm_
  refine j_ifnonnull (pc := 7) hX 14 dJ5_get_7 rfl hf (fun h_ hf => ?_) (fun h_ hf => ?_)
  · refine j_aload_n (pc := 14) hX dJ5_get_14 rfl ?_
    refine j_getA (pc := 15) hX kJ24 (k := 1) (Nat.le_of_ble_eq_true rfl) q845 (Or.inl rfl) dJ5_get_15 hf (fun x3 hx_ hf => ?_)
    refine j_fg [0, 1, 2] [none, none, none] rfl ?_
    cases hf
    exact kj7
  · refine j_null (pc := 10) hX dJ5_get_10 ?_
    refine j_goto (pc := 11) hX 18 dJ5_get_11 rfl ?_
    refine j_fg [0, 1, 2] [none, none, none] rfl ?_
    cases hf
    exact kj7
def f_J10_intValue (n : Nat) (a0 : Option Nat) (w : zWd) : Option (Int32 × zWd) :=
  (gI w 20 0 a0).bind fun x1 =>
  some (x1, w)
theorem mt_J10_intValue : zMt yJ10_intValue cJ10_intValue 1 (some .int) 0 := ⟨q915, q80, ⟨by decide, by decide⟩, by decide +kernel, by decide⟩
set_option maxHeartbeats 4000000 in
theorem k_J10_intValue {l : Launch} {n : Nat} {a0 : Option Nat} {w : zWd} (r : Int32) (w9 : zWd) (hf : f_J10_intValue n a0 w = some (r, w9)) : zCt l yJ10_intValue cJ10_intValue 1 (some .int) 1 [vA a0] w (.inr (some (vI r), w9)) := by
  refine zCt_of (lv := [some (vA a0)]) (by decide +kernel) 0 rfl rfl ?_
  intro X hX hI hN hQ
  have hX : zGd X RJ10 cJ10_intValue 1 (some .int) 1 := hX
  unfold f_J10_intValue at hf
  refine j_aload_n (pc := 0) hX dJ10_intValue_0 rfl ?_
  refine j_getI (pc := 1) hX kJ10 (k := 0) (Nat.le_of_ble_eq_true rfl) q326 (Or.inl rfl) dJ10_intValue_1 hf (fun x1 hx_ hf => ?_)
  exact j_ireturn (pc := 4) hX hQ (by cases hf; rfl) dJ10_intValue_4
def f_X5_tell_L35b (n : Nat) (c0 : Option Nat) (rec : Int32 → Int32 → zWd → Option (zWd)) (v4 : Int32) (v5 : Int32) (w : zWd) : Option (zWd) :=
  if (720 : Int32) ≤ v5 then
    some w
  else
    (gI w 4 3 c0).bind fun x12 =>
    zB2 (
      if x12 < v5 then
        some (none, w)
      else
        (gA w 4 6 c0).bind fun x13 =>
        zB2 (f_J10_valueOf n v5 w) fun x15 w14 =>
        zB2 (zV (isC w14 19 x13) (f_J5_get n x13 x15 w14)) fun x17 w16 =>
        (cK w16 [20] x17).bind fun _ =>
        some (x17, w16)
      ) fun x18 w19 =>
    zB2 (
      if x18 = none then
        some (v4, w19)
      else
        zB2 (zV (isC w19 20 x18) (f_J10_intValue n x18 w19)) fun x21 w20 =>
        some (x21, w20)
      ) fun x22 w23 =>
    (gA w23 4 8 c0).bind fun x24 =>
    (sI w23 x24 v5 x22).bind fun w25 =>
    rec x22 (v5 + (1)) w25
def f_X5_tell_L35 (n : Nat) (c0 : Option Nat) : Nat → Int32 → Int32 → zWd → Option (zWd)
  | 0, _, _, _ => none
  | k + 1, v4, v5, w => f_X5_tell_L35b n c0 (f_X5_tell_L35 n c0 k) v4 v5 w
def f_X5_tell (n : Nat) (a0 : Option Nat) (a1 : Int32) (a2 : Int32) (w : zWd) : Option zWd :=
  (gA w 4 6 a0).bind fun x1 =>
  (gI w 4 2 a0).bind fun x2 =>
  zB2 (f_J7_max n x2 a1 w) fun x4 w3 =>
  zB2 (f_J10_valueOf n x4 w3) fun x6 w5 =>
  zB2 (f_J10_valueOf n a2 w5) fun x8 w7 =>
  zB2 (zV (isC w7 19 x1) (f_J5_put n x1 x6 x8 w7)) fun x10 w9 =>
  (cK w9 [20] x10).bind fun _ =>
  (gI w9 4 2 a0).bind fun x11 =>
  (f_X5_tell_L35 n a0 n (0 : Int32) x11 w9).bind fun w26 =>
  some w26
theorem mt_X5_tell : zMt yX5_tell cX5_tell 7 none 2 := ⟨q575, q91, ⟨by decide, by decide⟩, by decide +kernel, by decide⟩
set_option maxHeartbeats 4000000 in
theorem lp_X5_tell_L35 {X : zX} (hX : zGd X RX5 cX5_tell 7 none 8) (n : Nat) (c0 : Option Nat) : ∀ (k : Nat) (v4 : Int32) (v5 : Int32) (w : zWd) (w9 : zWd) , f_X5_tell_L35 n c0 k v4 v5 w = some w9 → zJ X 105 [some (vA c0), none, none, none, none, none, none] [] w9 → zJ X 35 [some (vA c0), none, none, none, some (vI v4), some (vI v5), none] [] w := by
  intro k
  induction k with
  | zero => intro v4 v5 w w9 hf _; exact nomatch (show (none : Option (zWd)) = _ from hf)
  | succ k ih =>
    intro v4 v5 w w9 hf kx
    have hf : f_X5_tell_L35b n c0 (f_X5_tell_L35 n c0 k) v4 v5 w = _ := hf
    unfold f_X5_tell_L35b at hf
    refine j_iload (pc := 35) hX dX5_tell_35 rfl ?_
    refine j_sipush (pc := 37) hX (720 : Int32) dX5_tell_37 (by decide +kernel) ?_
    refine j_icmp_ge (pc := 40) hX 105 dX5_tell_40 rfl hf (fun h_ hf => ?_) (fun h_ hf => ?_)
    · refine j_fg [4, 5] [some (vA c0), none, none, none, none, none, none] rfl ?_
      cases hf
      exact kx
    · refine j_iload (pc := 43) hX dX5_tell_43 rfl ?_
      refine j_aload_n (pc := 45) hX dX5_tell_45 rfl ?_
      refine j_getI (pc := 46) hX kX5 (k := 3) (Nat.le_of_ble_eq_true rfl) q923 (Or.inl rfl) dX5_tell_46 hf (fun x12 hx_ hf => ?_)
      obtain ⟨x18, w19, hm_, hf⟩ := zB2_e hf
      have kj49 : zJ X 71 [some (vA c0), none, none, none, some (vI v4), some (vI v5), none] [vA x18] w19 := by
        clear hm_
        refine j_astore (pc := 71) hX dX5_tell_71 (by decide) [some (vA c0), none, none, none, some (vI v4), some (vI v5), some (vA x18)] rfl ?_
        refine j_aload (pc := 73) hX dX5_tell_73 rfl ?_
        obtain ⟨x22, w23, hm_, hf⟩ := zB2_e hf
        have kj75 : zJ X 88 [some (vA c0), none, none, none, none, some (vI v5), none] [vI x22] w23 := by
          clear hm_
          refine j_istore (pc := 88) hX dX5_tell_88 (by decide) [some (vA c0), none, none, none, some (vI x22), some (vI v5), none] rfl ?_
          refine j_aload_n (pc := 90) hX dX5_tell_90 rfl ?_
          refine j_getA (pc := 91) hX kX5 (k := 8) (Nat.le_of_ble_eq_true rfl) q928 (Or.inl rfl) dX5_tell_91 hf (fun x24 hx_ hf => ?_)
          refine j_iload (pc := 94) hX dX5_tell_94 rfl ?_
          refine j_iload (pc := 96) hX dX5_tell_96 rfl ?_
          refine j_iastore (pc := 98) hX dX5_tell_98 hf (fun w25 hf => ?_)
          refine j_iinc (pc := 99) hX (1) dX5_tell_99 rfl rfl (by decide) [some (vA c0), none, none, none, some (vI x22), some (vI (v5 + (1))), none] rfl ?_
          refine j_goto (pc := 102) hX 35 dX5_tell_102 rfl ?_
          exact ih _ _ _ _ hf kx
        have hf := hm_
        refine j_ifnonnull (pc := 75) hX 83 dX5_tell_75 rfl hf (fun h_ hf => ?_) (fun h_ hf => ?_)
        · refine j_aload (pc := 83) hX dX5_tell_83 rfl ?_
          obtain ⟨x21, w20, hc_, hf⟩ := zB2_e hf
          obtain ⟨hi_, hc_⟩ := zV_e hc_
          refine j_callV (pc := 85) hX (ci := 20) mt_J10_intValue q912 q913 q914 hi_ ⟨_, rfl, rfl⟩ [] rfl rfl (Nat.le_of_ble_eq_true rfl) (by decide) dX5_tell_85 (k_J10_intValue _ _ hc_) ?_
          refine j_fg [4, 6] [some (vA c0), none, none, none, none, some (vI v5), none] rfl ?_
          cases hf
          exact kj75
        · refine j_iload (pc := 78) hX dX5_tell_78 rfl ?_
          refine j_goto (pc := 80) hX 88 dX5_tell_80 rfl ?_
          refine j_fg [4, 6] [some (vA c0), none, none, none, none, some (vI v5), none] rfl ?_
          cases hf
          exact kj75
      have hf := hm_
      refine j_icmp_gt (pc := 49) hX 70 dX5_tell_49 rfl hf (fun h_ hf => ?_) (fun h_ hf => ?_)
      · refine j_null (pc := 70) hX dX5_tell_70 ?_
        cases hf
        exact kj49
      · refine j_aload_n (pc := 52) hX dX5_tell_52 rfl ?_
        refine j_getA (pc := 53) hX kX5 (k := 6) (Nat.le_of_ble_eq_true rfl) q926 (Or.inl rfl) dX5_tell_53 hf (fun x13 hx_ hf => ?_)
        refine j_iload (pc := 56) hX dX5_tell_56 rfl ?_
        obtain ⟨x15, w14, hc_, hf⟩ := zB2_e hf
        refine j_callS (pc := 58) hX mt_J10_valueOf q577 q311 [vI v5] rfl rfl (Nat.le_of_ble_eq_true rfl) (by decide) dX5_tell_58 (k_J10_valueOf _ _ hc_) ?_
        obtain ⟨x17, w16, hc_, hf⟩ := zB2_e hf
        obtain ⟨hi_, hc_⟩ := zV_e hc_
        refine j_callV (pc := 61) hX (ci := 19) mt_J5_get q900 q901 q902 hi_ ⟨_, rfl, rfl⟩ [vA x15] rfl rfl (Nat.le_of_ble_eq_true rfl) (by decide) dX5_tell_61 (k_J5_get _ _ hc_) ?_
        refine j_cast (pc := 64) hX q899 [20] (zC1 ⟨_, rfl, Or.inl rfl⟩) dX5_tell_64 hf (fun hf => ?_)
        refine j_goto (pc := 67) hX 71 dX5_tell_67 rfl ?_
        cases hf
        exact kj49
set_option maxHeartbeats 4000000 in
theorem k_X5_tell {l : Launch} {n : Nat} {a0 : Option Nat} {a1 : Int32} {a2 : Int32} {w : zWd} (r : Unit) (w9 : zWd) (hf : f_X5_tell n a0 a1 a2 w = some w9) : zCt l yX5_tell cX5_tell 7 none 8 [vA a0, vI a1, vI a2] w (.inr (none, w9)) := by
  refine zCt_of (lv := [some (vA a0), some (vI a1), some (vI a2), none, none, none, none]) (by decide +kernel) 4 rfl rfl ?_
  intro X hX hI hN hQ
  have hX : zGd X RX5 cX5_tell 7 none 8 := hX
  unfold f_X5_tell at hf
  refine j_aload_n (pc := 0) hX dX5_tell_0 rfl ?_
  refine j_getA (pc := 1) hX kX5 (k := 6) (Nat.le_of_ble_eq_true rfl) q926 (Or.inl rfl) dX5_tell_1 hf (fun x1 hx_ hf => ?_)
  refine j_aload_n (pc := 4) hX dX5_tell_4 rfl ?_
  refine j_getI (pc := 5) hX kX5 (k := 2) (Nat.le_of_ble_eq_true rfl) q922 (Or.inl rfl) dX5_tell_5 hf (fun x2 hx_ hf => ?_)
  refine j_iload_n (pc := 8) hX dX5_tell_8 rfl ?_
  obtain ⟨x4, w3, hc_, hf⟩ := zB2_e hf
  refine j_callS (pc := 9) hX mt_J7_max q576 q251 [vI x2, vI a1] rfl rfl (Nat.le_of_ble_eq_true rfl) (by decide) dX5_tell_9 (k_J7_max _ _ hc_) ?_
  obtain ⟨x6, w5, hc_, hf⟩ := zB2_e hf
  refine j_callS (pc := 12) hX mt_J10_valueOf q577 q311 [vI x4] rfl rfl (Nat.le_of_ble_eq_true rfl) (by decide) dX5_tell_12 (k_J10_valueOf _ _ hc_) ?_
  refine j_iload_n (pc := 15) hX dX5_tell_15 rfl ?_
  obtain ⟨x8, w7, hc_, hf⟩ := zB2_e hf
  refine j_callS (pc := 16) hX mt_J10_valueOf q577 q311 [vI a2] rfl rfl (Nat.le_of_ble_eq_true rfl) (by decide) dX5_tell_16 (k_J10_valueOf _ _ hc_) ?_
  obtain ⟨x10, w9, hc_, hf⟩ := zB2_e hf
  obtain ⟨hi_, hc_⟩ := zV_e hc_
  refine j_callV (pc := 19) hX (ci := 19) mt_J5_put q578 q579 q580 hi_ ⟨_, rfl, rfl⟩ [vA x6, vA x8] rfl rfl (Nat.le_of_ble_eq_true rfl) (by decide) dX5_tell_19 (k_J5_put _ _ hc_) ?_
  refine j_cast (pc := 22) hX q899 [20] (zC1 ⟨_, rfl, Or.inl rfl⟩) dX5_tell_22 hf (fun hf => ?_)
  refine j_astore_n (pc := 25) hX dX5_tell_25 (by decide) [some (vA a0), some (vI a1), some (vI a2), some (vA x10), none, none, none] rfl ?_
  refine j_iconst (pc := 26) hX (0 : Int32) dX5_tell_26 rfl ?_
  refine j_istore (pc := 27) hX dX5_tell_27 (by decide) [some (vA a0), some (vI a1), some (vI a2), some (vA x10), some (vI (0 : Int32)), none, none] rfl ?_
  refine j_aload_n (pc := 29) hX dX5_tell_29 rfl ?_
  refine j_getI (pc := 30) hX kX5 (k := 2) (Nat.le_of_ble_eq_true rfl) q922 (Or.inl rfl) dX5_tell_30 hf (fun x11 hx_ hf => ?_)
  refine j_istore (pc := 33) hX dX5_tell_33 (by decide) [some (vA a0), some (vI a1), some (vI a2), some (vA x10), some (vI (0 : Int32)), some (vI x11), none] rfl ?_
  obtain ⟨w26, hm_, hf⟩ := zob hf
  refine j_fg [1, 2, 3] [some (vA a0), none, none, none, some (vI (0 : Int32)), some (vI x11), none] rfl ?_
  refine lp_X5_tell_L35 hX n _ _ _ _ _ _ hm_ ?_
  exact j_return (pc := 105) hX hQ (by cases hf; rfl) dX5_tell_105
def f_X5_init (n : Nat) (a0 : Option Nat) (a1 : Int32) (a2 : Int32) (a3 : Int32) (a4 : Int32) (a5 : Int32) (a6 : Int32) (a7 : Int32) (w : zWd) : Option zWd :=
  if a0 = none then none else
  zB2 (zNew w 9 (.inr (19, df_J5))) fun x1 w2 =>
  (zV (decide (x1 ≠ none)) (f_J5_init n x1 w2)).bind fun w3 =>
  (pA w3 4 6 a0 x1).bind fun w4 =>
  zB2 (zNew w4 3 (.inr (18, df_J2))) fun x5 w6 =>
  (zV (decide (x5 ≠ none)) (f_J2_init n x5 w6)).bind fun w7 =>
  (pA w7 4 7 a0 x5).bind fun w8 =>
  zB2 (nI_ w8 (720 : Int32)) fun x9 w10 =>
  (pA w10 4 8 a0 x9).bind fun w11 =>
  zB2 (nI_ w11 (720 : Int32)) fun x12 w13 =>
  (pA w13 4 9 a0 x12).bind fun w14 =>
  (pI w14 4 0 a0 a1).bind fun w15 =>
  (pI w15 4 1 a0 a2).bind fun w16 =>
  (pI w16 4 2 a0 a3).bind fun w17 =>
  (pI w17 4 3 a0 a4).bind fun w18 =>
  (pZ w18 4 4 a0 a5).bind fun w19 =>
  (pI w19 4 5 a0 a6).bind fun w20 =>
  (zV (isC w20 4 a0) (f_X5_tell n a0 a3 a7 w20)).bind fun w21 =>
  some w21
theorem mt_X5_init : zMt yX5_init cX5_init 8 none 7 := ⟨q566, q91, ⟨by decide, by decide⟩, by decide +kernel, by decide⟩
set_option maxHeartbeats 4000000 in
theorem k_X5_init {l : Launch} {n : Nat} {a0 : Option Nat} {a1 : Int32} {a2 : Int32} {a3 : Int32} {a4 : Int32} {a5 : Int32} {a6 : Int32} {a7 : Int32} {w : zWd} (r : Unit) (w9 : zWd) (hf : f_X5_init n a0 a1 a2 a3 a4 a5 a6 a7 w = some w9) : zCt l yX5_init cX5_init 8 none 9 [vA a0, vI a1, vI a2, vI a3, vI a4, vI a5, vI a6, vI a7] w (.inr (none, w9)) := by
  refine zCt_of (lv := [some (vA a0), some (vI a1), some (vI a2), some (vI a3), some (vI a4), some (vI a5), some (vI a6), some (vI a7)]) (by decide +kernel) 0 rfl rfl ?_
  intro X hX hI hN hQ
  have hX : zGd X RX5 cX5_init 8 none 9 := hX
  unfold f_X5_init at hf
  refine j_aload_n (pc := 0) hX dX5_init_0 rfl ?_
  obtain ⟨hne_, hf⟩ := zGd_e hf
  refine j_objInit (pc := 1) hX (by decide) q567 q124 q125 (by rw [zCs_eq]; exact Nat.le_of_ble_eq_true rfl) dX5_init_1 hne_ ?_
  refine j_aload_n (pc := 4) hX dX5_init_4 rfl ?_
  refine j_new (pc := 5) hX kJ5 q568 q187 q74 df_J5 df_J5_ok dX5_init_5 hf (fun x1 w2 hf => ?_)
  refine j_dup (pc := 8) hX rfl dX5_init_8 ?_
  obtain ⟨w3, hc_, hf⟩ := zob hf
  obtain ⟨hi_, hc_⟩ := zV_e hc_
  refine j_callI (pc := 9) hX mt_J5_init q569 q189 rfl rfl [] rfl rfl (Nat.le_of_ble_eq_true rfl) (by decide) dX5_init_9 (of_decide_eq_true hi_) (k_J5_init () _ hc_) ?_
  refine j_putAF (pc := 12) hX hI kX5 (k := 6) (Nat.le_of_ble_eq_true rfl) q926 rfl rfl rfl rfl dX5_init_12 hf (fun w4 hf => ?_)
  refine j_aload_n (pc := 15) hX dX5_init_15 rfl ?_
  refine j_new (pc := 16) hX kJ2 q570 q127 q69 df_J2 df_J2_ok dX5_init_16 hf (fun x5 w6 hf => ?_)
  refine j_dup (pc := 19) hX rfl dX5_init_19 ?_
  obtain ⟨w7, hc_, hf⟩ := zob hf
  obtain ⟨hi_, hc_⟩ := zV_e hc_
  refine j_callI (pc := 20) hX mt_J2_init q571 q129 rfl rfl [] rfl rfl (Nat.le_of_ble_eq_true rfl) (by decide) dX5_init_20 (of_decide_eq_true hi_) (k_J2_init () _ hc_) ?_
  refine j_putAF (pc := 23) hX hI kX5 (k := 7) (Nat.le_of_ble_eq_true rfl) q927 rfl rfl rfl rfl dX5_init_23 hf (fun w8 hf => ?_)
  refine j_aload_n (pc := 26) hX dX5_init_26 rfl ?_
  refine j_sipush (pc := 27) hX (720 : Int32) dX5_init_27 (by decide +kernel) ?_
  refine j_newarrI (pc := 30) hX q180 dX5_init_30 hf (fun x9 w10 hf => ?_)
  refine j_putAF (pc := 32) hX hI kX5 (k := 8) (Nat.le_of_ble_eq_true rfl) q928 rfl rfl rfl rfl dX5_init_32 hf (fun w11 hf => ?_)
  refine j_aload_n (pc := 35) hX dX5_init_35 rfl ?_
  refine j_sipush (pc := 36) hX (720 : Int32) dX5_init_36 (by decide +kernel) ?_
  refine j_newarrI (pc := 39) hX q180 dX5_init_39 hf (fun x12 w13 hf => ?_)
  refine j_putAF (pc := 41) hX hI kX5 (k := 9) (Nat.le_of_ble_eq_true rfl) q929 rfl rfl rfl rfl dX5_init_41 hf (fun w14 hf => ?_)
  refine j_aload_n (pc := 44) hX dX5_init_44 rfl ?_
  refine j_iload_n (pc := 45) hX dX5_init_45 rfl ?_
  refine j_putIF (pc := 46) hX hI kX5 (k := 0) (Nat.le_of_ble_eq_true rfl) q916 rfl rfl rfl rfl dX5_init_46 hf (fun w15 hf => ?_)
  refine j_aload_n (pc := 49) hX dX5_init_49 rfl ?_
  refine j_iload_n (pc := 50) hX dX5_init_50 rfl ?_
  refine j_putIF (pc := 51) hX hI kX5 (k := 1) (Nat.le_of_ble_eq_true rfl) q920 rfl rfl rfl rfl dX5_init_51 hf (fun w16 hf => ?_)
  refine j_aload_n (pc := 54) hX dX5_init_54 rfl ?_
  refine j_iload_n (pc := 55) hX dX5_init_55 rfl ?_
  refine j_putIF (pc := 56) hX hI kX5 (k := 2) (Nat.le_of_ble_eq_true rfl) q922 rfl rfl rfl rfl dX5_init_56 hf (fun w17 hf => ?_)
  refine j_aload_n (pc := 59) hX dX5_init_59 rfl ?_
  refine j_iload (pc := 60) hX dX5_init_60 rfl ?_
  refine j_putIF (pc := 62) hX hI kX5 (k := 3) (Nat.le_of_ble_eq_true rfl) q923 rfl rfl rfl rfl dX5_init_62 hf (fun w18 hf => ?_)
  refine j_aload_n (pc := 65) hX dX5_init_65 rfl ?_
  refine j_iload (pc := 66) hX dX5_init_66 rfl ?_
  refine j_putZF (pc := 68) hX hI kX5 (k := 4) (Nat.le_of_ble_eq_true rfl) q924 rfl rfl rfl rfl dX5_init_68 hf (fun w19 hf => ?_)
  refine j_aload_n (pc := 71) hX dX5_init_71 rfl ?_
  refine j_iload (pc := 72) hX dX5_init_72 rfl ?_
  refine j_putIF (pc := 74) hX hI kX5 (k := 5) (Nat.le_of_ble_eq_true rfl) q925 rfl rfl rfl rfl dX5_init_74 hf (fun w20 hf => ?_)
  refine j_aload_n (pc := 77) hX dX5_init_77 rfl ?_
  refine j_iload_n (pc := 78) hX dX5_init_78 rfl ?_
  refine j_iload (pc := 79) hX dX5_init_79 rfl ?_
  obtain ⟨w21, hc_, hf⟩ := zob hf
  obtain ⟨hi_, hc_⟩ := zV_e hc_
  refine j_callV (pc := 81) hX (ci := 4) mt_X5_tell q572 q573 q574 hi_ ⟨_, rfl, rfl⟩ [vI a3, vI a7] rfl rfl (Nat.le_of_ble_eq_true rfl) (by decide) dX5_init_81 (k_X5_tell () _ hc_) ?_
  exact j_return (pc := 84) hX hQ (by cases hf; rfl) dX5_init_84
def f_X1_contract (n : Nat) (a0 : Option Nat) (a1 : Int32) (a2 : Int32) (a3 : Int32) (a4 : Int32) (a5 : Int32) (a6 : Int32) (a7 : Int32) (w : zWd) : Option ((String ⊕ Int32) × zWd) :=
  zBX (f_X1_at n a1 (6 : Int32) w) fun x2 w1 =>
  zBX (f_X1_at n a2 (3 : Int32) w1) fun x4 w3 =>
  zBX (f_X1_at n a3 (720 : Int32) w3) fun x6 w5 =>
  zBX (f_X1_at n a4 (720 : Int32) w5) fun x8 w7 =>
  zBX (f_X1_in n a4 a3 (720 : Int32) w7) fun x10 w9 =>
  zBX (f_X1_in n a6 (60 : Int32) (600 : Int32) w9) fun x12 w11 =>
  zBX (f_X1_in n a7 (0 : Int32) (1000000 : Int32) w11) fun x14 w13 =>
  (gA w13 0 0 a0).bind fun x15 =>
  zB2 (zV (isC w13 18 x15) (f_J2_size n x15 w13)) fun x17 w16 =>
  (
    if (10 : Int32) ≤ x17 then
      some (0 : Int32)
    else
      some (1 : Int32)
    ).bind fun x18 =>
  zBX (f_X1_must n x18 w16) fun _u w19 =>
  (gA w19 0 0 a0).bind fun x20 =>
  zB2 (zNew w19 10 (.inr (4, df_X5))) fun x21 w22 =>
  (zV (decide (x21 ≠ none)) (f_X5_init n x21 a1 a2 a3 a4 a5 a6 a7 w22)).bind fun w23 =>
  zB2 (zV (isC w23 18 x20) (f_J2_add n x20 x21 w23)) fun x25 w24 =>
  (gA w24 0 0 a0).bind fun x26 =>
  zB2 (zV (isC w24 18 x26) (f_J2_size n x26 w24)) fun x28 w27 =>
  some (.inr (x28 - (1 : Int32)), w27)
theorem mt_X1_contract : zMt yX1_contract cX1_contract 8 (some .int) 7 := ⟨q506, q66, ⟨by decide, by decide⟩, by decide +kernel, by decide⟩
set_option maxHeartbeats 4000000 in
theorem k_X1_contract {l : Launch} {n : Nat} {a0 : Option Nat} {a1 : Int32} {a2 : Int32} {a3 : Int32} {a4 : Int32} {a5 : Int32} {a6 : Int32} {a7 : Int32} {w : zWd} (r : String ⊕ Int32) (w9 : zWd) (hf : f_X1_contract n a0 a1 a2 a3 a4 a5 a6 a7 w = some (r, w9)) : zCt l yX1_contract cX1_contract 8 (some .int) 10 [vA a0, vI a1, vI a2, vI a3, vI a4, vI a5, vI a6, vI a7] w (zXI r w9) := by
  refine zCt_of (lv := [some (vA a0), some (vI a1), some (vI a2), some (vI a3), some (vI a4), some (vI a5), some (vI a6), some (vI a7)]) (by decide +kernel) 0 rfl rfl ?_
  intro X hX hI hN hQ
  have hX : zGd X RX1 cX1_contract 8 (some .int) 10 := hX
  unfold f_X1_contract at hf
  refine j_iload_n (pc := 0) hX dX1_contract_0 rfl ?_
  refine j_bipush (pc := 1) hX (6 : Int32) dX1_contract_1 (by decide +kernel) ?_
  obtain ⟨⟨q_, w1⟩, hc_, hf⟩ := zob hf
  cases q_ with
  | inl E_ =>
    cases hf
    exact j_callSX (pc := 3) hX mt_X1_at q507 q508 [vI a1, vI (6 : Int32)] rfl rfl (Nat.le_of_ble_eq_true rfl) (by decide) dX1_contract_3 hN hQ (k_X1_at _ _ hc_)
  | inr x2 =>
    refine j_callS (pc := 3) hX mt_X1_at q507 q508 [vI a1, vI (6 : Int32)] rfl rfl (Nat.le_of_ble_eq_true rfl) (by decide) dX1_contract_3 (k_X1_at _ _ hc_) ?_
    refine j_pop (pc := 6) hX rfl dX1_contract_6 ?_
    refine j_iload_n (pc := 7) hX dX1_contract_7 rfl ?_
    refine j_iconst (pc := 8) hX (3 : Int32) dX1_contract_8 rfl ?_
    obtain ⟨⟨q_, w3⟩, hc_, hf⟩ := zob hf
    cases q_ with
    | inl E_ =>
      cases hf
      exact j_callSX (pc := 9) hX mt_X1_at q507 q508 [vI a2, vI (3 : Int32)] rfl rfl (Nat.le_of_ble_eq_true rfl) (by decide) dX1_contract_9 hN hQ (k_X1_at _ _ hc_)
    | inr x4 =>
      refine j_callS (pc := 9) hX mt_X1_at q507 q508 [vI a2, vI (3 : Int32)] rfl rfl (Nat.le_of_ble_eq_true rfl) (by decide) dX1_contract_9 (k_X1_at _ _ hc_) ?_
      refine j_pop (pc := 12) hX rfl dX1_contract_12 ?_
      refine j_iload_n (pc := 13) hX dX1_contract_13 rfl ?_
      refine j_sipush (pc := 14) hX (720 : Int32) dX1_contract_14 (by decide +kernel) ?_
      obtain ⟨⟨q_, w5⟩, hc_, hf⟩ := zob hf
      cases q_ with
      | inl E_ =>
        cases hf
        exact j_callSX (pc := 17) hX mt_X1_at q507 q508 [vI a3, vI (720 : Int32)] rfl rfl (Nat.le_of_ble_eq_true rfl) (by decide) dX1_contract_17 hN hQ (k_X1_at _ _ hc_)
      | inr x6 =>
        refine j_callS (pc := 17) hX mt_X1_at q507 q508 [vI a3, vI (720 : Int32)] rfl rfl (Nat.le_of_ble_eq_true rfl) (by decide) dX1_contract_17 (k_X1_at _ _ hc_) ?_
        refine j_pop (pc := 20) hX rfl dX1_contract_20 ?_
        refine j_iload (pc := 21) hX dX1_contract_21 rfl ?_
        refine j_sipush (pc := 23) hX (720 : Int32) dX1_contract_23 (by decide +kernel) ?_
        obtain ⟨⟨q_, w7⟩, hc_, hf⟩ := zob hf
        cases q_ with
        | inl E_ =>
          cases hf
          exact j_callSX (pc := 26) hX mt_X1_at q507 q508 [vI a4, vI (720 : Int32)] rfl rfl (Nat.le_of_ble_eq_true rfl) (by decide) dX1_contract_26 hN hQ (k_X1_at _ _ hc_)
        | inr x8 =>
          refine j_callS (pc := 26) hX mt_X1_at q507 q508 [vI a4, vI (720 : Int32)] rfl rfl (Nat.le_of_ble_eq_true rfl) (by decide) dX1_contract_26 (k_X1_at _ _ hc_) ?_
          refine j_pop (pc := 29) hX rfl dX1_contract_29 ?_
          refine j_iload (pc := 30) hX dX1_contract_30 rfl ?_
          refine j_iload_n (pc := 32) hX dX1_contract_32 rfl ?_
          refine j_sipush (pc := 33) hX (720 : Int32) dX1_contract_33 (by decide +kernel) ?_
          obtain ⟨⟨q_, w9⟩, hc_, hf⟩ := zob hf
          cases q_ with
          | inl E_ =>
            cases hf
            exact j_callSX (pc := 36) hX mt_X1_in q523 q524 [vI a4, vI a3, vI (720 : Int32)] rfl rfl (Nat.le_of_ble_eq_true rfl) (by decide) dX1_contract_36 hN hQ (k_X1_in _ _ hc_)
          | inr x10 =>
            refine j_callS (pc := 36) hX mt_X1_in q523 q524 [vI a4, vI a3, vI (720 : Int32)] rfl rfl (Nat.le_of_ble_eq_true rfl) (by decide) dX1_contract_36 (k_X1_in _ _ hc_) ?_
            refine j_pop (pc := 39) hX rfl dX1_contract_39 ?_
            refine j_iload (pc := 40) hX dX1_contract_40 rfl ?_
            refine j_bipush (pc := 42) hX (60 : Int32) dX1_contract_42 (by decide +kernel) ?_
            refine j_sipush (pc := 44) hX (600 : Int32) dX1_contract_44 (by decide +kernel) ?_
            obtain ⟨⟨q_, w11⟩, hc_, hf⟩ := zob hf
            cases q_ with
            | inl E_ =>
              cases hf
              exact j_callSX (pc := 47) hX mt_X1_in q523 q524 [vI a6, vI (60 : Int32), vI (600 : Int32)] rfl rfl (Nat.le_of_ble_eq_true rfl) (by decide) dX1_contract_47 hN hQ (k_X1_in _ _ hc_)
            | inr x12 =>
              refine j_callS (pc := 47) hX mt_X1_in q523 q524 [vI a6, vI (60 : Int32), vI (600 : Int32)] rfl rfl (Nat.le_of_ble_eq_true rfl) (by decide) dX1_contract_47 (k_X1_in _ _ hc_) ?_
              refine j_pop (pc := 50) hX rfl dX1_contract_50 ?_
              refine j_iload (pc := 51) hX dX1_contract_51 rfl ?_
              refine j_iconst (pc := 53) hX (0 : Int32) dX1_contract_53 rfl ?_
              refine j_ldcw (pc := 54) hX q542 dX1_contract_54 ?_
              obtain ⟨⟨q_, w13⟩, hc_, hf⟩ := zob hf
              cases q_ with
              | inl E_ =>
                cases hf
                exact j_callSX (pc := 57) hX mt_X1_in q523 q524 [vI a7, vI (0 : Int32), vI (1000000 : Int32)] rfl rfl (Nat.le_of_ble_eq_true rfl) (by decide) dX1_contract_57 hN hQ (k_X1_in _ _ hc_)
              | inr x14 =>
                refine j_callS (pc := 57) hX mt_X1_in q523 q524 [vI a7, vI (0 : Int32), vI (1000000 : Int32)] rfl rfl (Nat.le_of_ble_eq_true rfl) (by decide) dX1_contract_57 (k_X1_in _ _ hc_) ?_
                refine j_pop (pc := 60) hX rfl dX1_contract_60 ?_
                refine j_aload_n (pc := 61) hX dX1_contract_61 rfl ?_
                refine j_getA (pc := 62) hX kX1 (k := 0) (Nat.le_of_ble_eq_true rfl) q332 (Or.inl rfl) dX1_contract_62 hf (fun x15 hx_ hf => ?_)
                obtain ⟨x17, w16, hc_, hf⟩ := zB2_e hf
                obtain ⟨hi_, hc_⟩ := zV_e hc_
                refine j_callF (pc := 65) hX (ci := 18) mt_J2_size q413 q418 q416 (by decide +kernel) rfl hi_ ⟨_, rfl, rfl⟩ [] rfl rfl (Nat.le_of_ble_eq_true rfl) (by decide) dX1_contract_65 (k_J2_size _ _ hc_) ?_
                refine j_bipush (pc := 70) hX (10 : Int32) dX1_contract_70 (by decide +kernel) ?_
                obtain ⟨x18, hm_, hf⟩ := zob hf
                have kj72 : zJ X 80 [some (vA a0), some (vI a1), some (vI a2), some (vI a3), some (vI a4), some (vI a5), some (vI a6), some (vI a7)] [vI x18] w16 := by
                  clear hm_
                  obtain ⟨⟨q_, w19⟩, hc_, hf⟩ := zob hf
                  cases q_ with
                  | inl E_ =>
                    cases hf
                    exact j_callSX (pc := 80) hX mt_X1_must q543 q544 [vI x18] rfl rfl (Nat.le_of_ble_eq_true rfl) (by decide) dX1_contract_80 hN hQ (k_X1_must _ _ hc_)
                  | inr u_ =>
                    refine j_callS (pc := 80) hX mt_X1_must q543 q544 [vI x18] rfl rfl (Nat.le_of_ble_eq_true rfl) (by decide) dX1_contract_80 (k_X1_must _ _ hc_) ?_
                    refine j_aload_n (pc := 83) hX dX1_contract_83 rfl ?_
                    refine j_getA (pc := 84) hX kX1 (k := 0) (Nat.le_of_ble_eq_true rfl) q332 (Or.inl rfl) dX1_contract_84 hf (fun x20 hx_ hf => ?_)
                    refine j_new (pc := 87) hX kX5 q562 q563 q91 df_X5 df_X5_ok dX1_contract_87 hf (fun x21 w22 hf => ?_)
                    refine j_dup (pc := 90) hX rfl dX1_contract_90 ?_
                    refine j_iload_n (pc := 91) hX dX1_contract_91 rfl ?_
                    refine j_iload_n (pc := 92) hX dX1_contract_92 rfl ?_
                    refine j_iload_n (pc := 93) hX dX1_contract_93 rfl ?_
                    refine j_iload (pc := 94) hX dX1_contract_94 rfl ?_
                    refine j_iload (pc := 96) hX dX1_contract_96 rfl ?_
                    refine j_iload (pc := 98) hX dX1_contract_98 rfl ?_
                    refine j_iload (pc := 100) hX dX1_contract_100 rfl ?_
                    obtain ⟨w23, hc_, hf⟩ := zob hf
                    obtain ⟨hi_, hc_⟩ := zV_e hc_
                    refine j_callI (pc := 102) hX mt_X5_init q564 q565 rfl rfl [vI a1, vI a2, vI a3, vI a4, vI a5, vI a6, vI a7] rfl rfl (Nat.le_of_ble_eq_true rfl) (by decide) dX1_contract_102 (of_decide_eq_true hi_) (k_X5_init () _ hc_) ?_
                    obtain ⟨x25, w24, hc_, hf⟩ := zB2_e hf
                    obtain ⟨hi_, hc_⟩ := zV_e hc_
                    refine j_callF (pc := 105) hX (ci := 18) mt_J2_add q226 q232 q230 (by decide +kernel) rfl hi_ ⟨_, rfl, rfl⟩ [vA x21] rfl rfl (Nat.le_of_ble_eq_true rfl) (by decide) dX1_contract_105 (k_J2_add _ _ hc_) ?_
                    refine j_pop (pc := 110) hX rfl dX1_contract_110 ?_
                    refine j_aload_n (pc := 111) hX dX1_contract_111 rfl ?_
                    refine j_getA (pc := 112) hX kX1 (k := 0) (Nat.le_of_ble_eq_true rfl) q332 (Or.inl rfl) dX1_contract_112 hf (fun x26 hx_ hf => ?_)
                    obtain ⟨x28, w27, hc_, hf⟩ := zB2_e hf
                    obtain ⟨hi_, hc_⟩ := zV_e hc_
                    refine j_callF (pc := 115) hX (ci := 18) mt_J2_size q413 q418 q416 (by decide +kernel) rfl hi_ ⟨_, rfl, rfl⟩ [] rfl rfl (Nat.le_of_ble_eq_true rfl) (by decide) dX1_contract_115 (k_J2_size _ _ hc_) ?_
                    refine j_iconst (pc := 120) hX (1 : Int32) dX1_contract_120 rfl ?_
                    refine j_isub (pc := 121) hX dX1_contract_121 ?_
                    exact j_ireturn (pc := 122) hX hQ (by cases hf; rfl) dX1_contract_122
                have hf := hm_
                refine j_icmp_ge (pc := 72) hX 79 dX1_contract_72 rfl hf (fun h_ hf => ?_) (fun h_ hf => ?_)
                · refine j_iconst (pc := 79) hX (0 : Int32) dX1_contract_79 rfl ?_
                  cases hf
                  exact kj72
                · refine j_iconst (pc := 75) hX (1 : Int32) dX1_contract_75 rfl ?_
                  refine j_goto (pc := 76) hX 80 dX1_contract_76 rfl ?_
                  cases hf
                  exact kj72
def f_J23_checkIndex (n : Nat) (a0 : Int32) (a1 : Int32) (a2 : Option Nat) (w : zWd) : Option (Int32 × zWd) :=
  if a0 < (0 : Int32) then
    none
  else
    if a0 < a1 then
      some (a0, w)
    else
      none
theorem mt_J23_checkIndex : zMt yJ23_checkIndex cJ23_checkIndex 3 (some .int) 3 := ⟨q978, q97, ⟨by decide, by decide⟩, by decide +kernel, by decide⟩
set_option maxHeartbeats 4000000 in
theorem k_J23_checkIndex {l : Launch} {n : Nat} {a0 : Int32} {a1 : Int32} {a2 : Option Nat} {w : zWd} (r : Int32) (w9 : zWd) (hf : f_J23_checkIndex n a0 a1 a2 w = some (r, w9)) : zCt l yJ23_checkIndex cJ23_checkIndex 3 (some .int) 1 [vI a0, vI a1, vA a2] w (.inr (some (vI r), w9)) := by
  refine zCt_of (lv := [some (vI a0), some (vI a1), some (vA a2)]) (by decide +kernel) 0 rfl rfl ?_
  intro X hX hI hN hQ
  have hX : zGd X RJ23 cJ23_checkIndex 3 (some .int) 1 := hX
  unfold f_J23_checkIndex at hf
  refine j_iload_n (pc := 0) hX dJ23_checkIndex_0 rfl ?_
  refine j_if_lt (pc := 1) hX 9 dJ23_checkIndex_1 rfl hf (fun h_ hf => ?_) (fun h_ hf => ?_)
  · refine j_aload_n (pc := 9) hX dJ23_checkIndex_9 rfl ?_
    refine j_iload_n (pc := 10) hX dJ23_checkIndex_10 rfl ?_
    refine j_iload_n (pc := 11) hX dJ23_checkIndex_11 rfl ?_
    cases hf
  · refine j_iload_n (pc := 4) hX dJ23_checkIndex_4 rfl ?_
    refine j_iload_n (pc := 5) hX dJ23_checkIndex_5 rfl ?_
    refine j_icmp_lt (pc := 6) hX 16 dJ23_checkIndex_6 rfl hf (fun h_ hf => ?_) (fun h_ hf => ?_)
    · refine j_iload_n (pc := 16) hX dJ23_checkIndex_16 rfl ?_
      exact j_ireturn (pc := 17) hX hQ (by cases hf; rfl) dJ23_checkIndex_17
    · refine j_aload_n (pc := 9) hX dJ23_checkIndex_9 rfl ?_
      refine j_iload_n (pc := 10) hX dJ23_checkIndex_10 rfl ?_
      refine j_iload_n (pc := 11) hX dJ23_checkIndex_11 rfl ?_
      cases hf
def f_J25_checkIndex (n : Nat) (a0 : Int32) (a1 : Int32) (w : zWd) : Option (Int32 × zWd) :=
  zB2 (f_J23_checkIndex n a0 a1 none w) fun x2 w1 =>
  some (x2, w1)
theorem mt_J25_checkIndex : zMt yJ25_checkIndex cJ25_checkIndex 2 (some .int) 2 := ⟨q975, q99, ⟨by decide, by decide⟩, by decide +kernel, by decide⟩
set_option maxHeartbeats 4000000 in
theorem k_J25_checkIndex {l : Launch} {n : Nat} {a0 : Int32} {a1 : Int32} {w : zWd} (r : Int32) (w9 : zWd) (hf : f_J25_checkIndex n a0 a1 w = some (r, w9)) : zCt l yJ25_checkIndex cJ25_checkIndex 2 (some .int) 2 [vI a0, vI a1] w (.inr (some (vI r), w9)) := by
  refine zCt_of (lv := [some (vI a0), some (vI a1)]) (by decide +kernel) 0 rfl rfl ?_
  intro X hX hI hN hQ
  have hX : zGd X RJ25 cJ25_checkIndex 2 (some .int) 2 := hX
  unfold f_J25_checkIndex at hf
  refine j_iload_n (pc := 0) hX dJ25_checkIndex_0 rfl ?_
  refine j_iload_n (pc := 1) hX dJ25_checkIndex_1 rfl ?_
  refine j_null (pc := 2) hX dJ25_checkIndex_2 ?_
  obtain ⟨x2, w1, hc_, hf⟩ := zB2_e hf
  refine j_callS (pc := 3) hX mt_J23_checkIndex q976 q977 [vI a0, vI a1, vA none] rfl rfl (Nat.le_of_ble_eq_true rfl) (by decide) dJ25_checkIndex_3 (k_J23_checkIndex _ _ hc_) ?_
  exact j_ireturn (pc := 6) hX hQ (by cases hf; rfl) dJ25_checkIndex_6
def f_J2_elementData (n : Nat) (a0 : Option Nat) (a1 : Int32) (w : zWd) : Option ((Option Nat) × zWd) :=
  (gA w 18 1 a0).bind fun x1 =>
  (aA w x1 a1).bind fun x2 =>
  some (x2, w)
theorem mt_J2_elementData : zMt yJ2_elementData cJ2_elementData 2 (some (.object "java/lang/Object")) 1 := ⟨q982, q69, ⟨by decide, by decide⟩, by decide +kernel, by decide⟩
set_option maxHeartbeats 4000000 in
theorem k_J2_elementData {l : Launch} {n : Nat} {a0 : Option Nat} {a1 : Int32} {w : zWd} (r : Option Nat) (w9 : zWd) (hf : f_J2_elementData n a0 a1 w = some (r, w9)) : zCt l yJ2_elementData cJ2_elementData 2 (some (.object "java/lang/Object")) 1 [vA a0, vI a1] w (.inr (some (vA r), w9)) := by
  refine zCt_of (lv := [some (vA a0), some (vI a1)]) (by decide +kernel) 0 rfl rfl ?_
  intro X hX hI hN hQ
  have hX : zGd X RJ2 cJ2_elementData 2 (some (.object "java/lang/Object")) 1 := hX
  unfold f_J2_elementData at hf
  refine j_aload_n (pc := 0) hX dJ2_elementData_0 rfl ?_
  refine j_getA (pc := 1) hX kJ2 (k := 1) (Nat.le_of_ble_eq_true rfl) q140 (Or.inl rfl) dJ2_elementData_1 hf (fun x1 hx_ hf => ?_)
  refine j_iload_n (pc := 4) hX dJ2_elementData_4 rfl ?_
  refine j_aaload (pc := 5) hX dJ2_elementData_5 hf (fun x2 hx_ hf => ?_)
  exact j_areturn (pc := 6) hX rfl hQ (by cases hf; rfl) dJ2_elementData_6
def f_J2_get (n : Nat) (a0 : Option Nat) (a1 : Int32) (w : zWd) : Option ((Option Nat) × zWd) :=
  (gI w 18 2 a0).bind fun x1 =>
  zB2 (f_J25_checkIndex n a1 x1 w) fun x3 w2 =>
  zB2 (zV (isC w2 18 a0) (f_J2_elementData n a0 a1 w2)) fun x5 w4 =>
  some (x5, w4)
theorem mt_J2_get : zMt yJ2_get cJ2_get 2 (some (.object "java/lang/Object")) 1 := ⟨q972, q69, ⟨by decide, by decide⟩, by decide +kernel, by decide⟩
set_option maxHeartbeats 4000000 in
theorem k_J2_get {l : Launch} {n : Nat} {a0 : Option Nat} {a1 : Int32} {w : zWd} (r : Option Nat) (w9 : zWd) (hf : f_J2_get n a0 a1 w = some (r, w9)) : zCt l yJ2_get cJ2_get 2 (some (.object "java/lang/Object")) 3 [vA a0, vI a1] w (.inr (some (vA r), w9)) := by
  refine zCt_of (lv := [some (vA a0), some (vI a1)]) (by decide +kernel) 0 rfl rfl ?_
  intro X hX hI hN hQ
  have hX : zGd X RJ2 cJ2_get 2 (some (.object "java/lang/Object")) 3 := hX
  unfold f_J2_get at hf
  refine j_iload_n (pc := 0) hX dJ2_get_0 rfl ?_
  refine j_aload_n (pc := 1) hX dJ2_get_1 rfl ?_
  refine j_getI (pc := 2) hX kJ2 (k := 2) (Nat.le_of_ble_eq_true rfl) q143 (Or.inl rfl) dJ2_get_2 hf (fun x1 hx_ hf => ?_)
  obtain ⟨x3, w2, hc_, hf⟩ := zB2_e hf
  refine j_callS (pc := 5) hX mt_J25_checkIndex q973 q974 [vI a1, vI x1] rfl rfl (Nat.le_of_ble_eq_true rfl) (by decide) dJ2_get_5 (k_J25_checkIndex _ _ hc_) ?_
  refine j_pop (pc := 8) hX rfl dJ2_get_8 ?_
  refine j_aload_n (pc := 9) hX dJ2_get_9 rfl ?_
  refine j_iload_n (pc := 10) hX dJ2_get_10 rfl ?_
  obtain ⟨x5, w4, hc_, hf⟩ := zB2_e hf
  obtain ⟨hi_, hc_⟩ := zV_e hc_
  refine j_callV (pc := 11) hX (ci := 18) mt_J2_elementData q979 q980 q981 hi_ ⟨_, rfl, rfl⟩ [vI a1] rfl rfl (Nat.le_of_ble_eq_true rfl) (by decide) dJ2_get_11 (k_J2_elementData _ _ hc_) ?_
  exact j_areturn (pc := 14) hX rfl hQ (by cases hf; rfl) dJ2_get_14
def f_X1_contractAt (n : Nat) (a0 : Option Nat) (a1 : Int32) (w : zWd) : Option ((String ⊕ (Option Nat)) × zWd) :=
  (gA w 0 0 a0).bind fun x1 =>
  (gA w 0 0 a0).bind fun x2 =>
  zB2 (zV (isC w 18 x2) (f_J2_size n x2 w)) fun x4 w3 =>
  zBX (f_X1_at n a1 x4 w3) fun x6 w5 =>
  zB2 (zV (isC w5 18 x1) (f_J2_get n x1 x6 w5)) fun x8 w7 =>
  (cK w7 [4] x8).bind fun _ =>
  some (.inr x8, w7)
theorem mt_X1_contractAt : zMt yX1_contractAt cX1_contractAt 2 (some (.object "Taxmaze$Contract")) 1 := ⟨q963, q66, ⟨by decide, by decide⟩, by decide +kernel, by decide⟩
set_option maxHeartbeats 4000000 in
theorem k_X1_contractAt {l : Launch} {n : Nat} {a0 : Option Nat} {a1 : Int32} {w : zWd} (r : String ⊕ (Option Nat)) (w9 : zWd) (hf : f_X1_contractAt n a0 a1 w = some (r, w9)) : zCt l yX1_contractAt cX1_contractAt 2 (some (.object "Taxmaze$Contract")) 7 [vA a0, vI a1] w (zXA r w9) := by
  refine zCt_of (lv := [some (vA a0), some (vI a1)]) (by decide +kernel) 0 rfl rfl ?_
  intro X hX hI hN hQ
  have hX : zGd X RX1 cX1_contractAt 2 (some (.object "Taxmaze$Contract")) 7 := hX
  unfold f_X1_contractAt at hf
  refine j_aload_n (pc := 0) hX dX1_contractAt_0 rfl ?_
  refine j_getA (pc := 1) hX kX1 (k := 0) (Nat.le_of_ble_eq_true rfl) q332 (Or.inl rfl) dX1_contractAt_1 hf (fun x1 hx_ hf => ?_)
  refine j_iload_n (pc := 4) hX dX1_contractAt_4 rfl ?_
  refine j_aload_n (pc := 5) hX dX1_contractAt_5 rfl ?_
  refine j_getA (pc := 6) hX kX1 (k := 0) (Nat.le_of_ble_eq_true rfl) q332 (Or.inl rfl) dX1_contractAt_6 hf (fun x2 hx_ hf => ?_)
  obtain ⟨x4, w3, hc_, hf⟩ := zB2_e hf
  obtain ⟨hi_, hc_⟩ := zV_e hc_
  refine j_callF (pc := 9) hX (ci := 18) mt_J2_size q413 q418 q416 (by decide +kernel) rfl hi_ ⟨_, rfl, rfl⟩ [] rfl rfl (Nat.le_of_ble_eq_true rfl) (by decide) dX1_contractAt_9 (k_J2_size _ _ hc_) ?_
  obtain ⟨⟨q_, w5⟩, hc_, hf⟩ := zob hf
  cases q_ with
  | inl E_ =>
    cases hf
    exact j_callSX (pc := 14) hX mt_X1_at q507 q508 [vI a1, vI x4] rfl rfl (Nat.le_of_ble_eq_true rfl) (by decide) dX1_contractAt_14 hN hQ (k_X1_at _ _ hc_)
  | inr x6 =>
    refine j_callS (pc := 14) hX mt_X1_at q507 q508 [vI a1, vI x4] rfl rfl (Nat.le_of_ble_eq_true rfl) (by decide) dX1_contractAt_14 (k_X1_at _ _ hc_) ?_
    obtain ⟨x8, w7, hc_, hf⟩ := zB2_e hf
    obtain ⟨hi_, hc_⟩ := zV_e hc_
    refine j_callF (pc := 17) hX (ci := 18) mt_J2_get q965 q970 q968 (by decide +kernel) rfl hi_ ⟨_, rfl, rfl⟩ [vI x6] rfl rfl (Nat.le_of_ble_eq_true rfl) (by decide) dX1_contractAt_17 (k_J2_get _ _ hc_) ?_
    refine j_cast (pc := 22) hX q562 [4] (zC1 ⟨_, rfl, Or.inl rfl⟩) dX1_contractAt_22 hf (fun hf => ?_)
    exact j_areturn (pc := 25) hX rfl hQ (by cases hf; rfl) dX1_contractAt_25
def f_X5_payAt (n : Nat) (a0 : Option Nat) (a1 : Int32) (w : zWd) : Option (Int32 × zWd) :=
  (gA w 4 8 a0).bind fun x1 =>
  (gI w 4 2 a0).bind fun x2 =>
  zB2 (f_J7_max n x2 a1 w) fun x4 w3 =>
  (aI w3 x1 x4).bind fun x5 =>
  some (x5, w3)
theorem mt_X5_payAt : zMt yX5_payAt cX5_payAt 2 (some .int) 1 := ⟨q986, q91, ⟨by decide, by decide⟩, by decide +kernel, by decide⟩
set_option maxHeartbeats 4000000 in
theorem k_X5_payAt {l : Launch} {n : Nat} {a0 : Option Nat} {a1 : Int32} {w : zWd} (r : Int32) (w9 : zWd) (hf : f_X5_payAt n a0 a1 w = some (r, w9)) : zCt l yX5_payAt cX5_payAt 2 (some .int) 2 [vA a0, vI a1] w (.inr (some (vI r), w9)) := by
  refine zCt_of (lv := [some (vA a0), some (vI a1)]) (by decide +kernel) 0 rfl rfl ?_
  intro X hX hI hN hQ
  have hX : zGd X RX5 cX5_payAt 2 (some .int) 2 := hX
  unfold f_X5_payAt at hf
  refine j_aload_n (pc := 0) hX dX5_payAt_0 rfl ?_
  refine j_getA (pc := 1) hX kX5 (k := 8) (Nat.le_of_ble_eq_true rfl) q928 (Or.inl rfl) dX5_payAt_1 hf (fun x1 hx_ hf => ?_)
  refine j_aload_n (pc := 4) hX dX5_payAt_4 rfl ?_
  refine j_getI (pc := 5) hX kX5 (k := 2) (Nat.le_of_ble_eq_true rfl) q922 (Or.inl rfl) dX5_payAt_5 hf (fun x2 hx_ hf => ?_)
  refine j_iload_n (pc := 8) hX dX5_payAt_8 rfl ?_
  obtain ⟨x4, w3, hc_, hf⟩ := zB2_e hf
  refine j_callS (pc := 9) hX mt_J7_max q576 q251 [vI x2, vI a1] rfl rfl (Nat.le_of_ble_eq_true rfl) (by decide) dX5_payAt_9 (k_J7_max _ _ hc_) ?_
  refine j_iaload (pc := 12) hX dX5_payAt_12 hf (fun x5 hx_ hf => ?_)
  exact j_ireturn (pc := 13) hX hQ (by cases hf; rfl) dX5_payAt_13
def f_X1_pay (n : Nat) (a0 : Option Nat) (a1 : Int32) (a2 : Int32) (a3 : Int32) (w : zWd) : Option ((String ⊕ Int32) × zWd) :=
  zBX (zV (isC w 0 a0) (f_X1_contractAt n a0 a1 w)) fun x2 w1 =>
  zBX (f_X1_at n a2 (720 : Int32) w1) fun x4 w3 =>
  zBX (f_X1_in n a3 (0 : Int32) (1000000 : Int32) w3) fun x6 w5 =>
  zB2 (zV (isC w5 4 x2) (f_X5_payAt n x2 a2 w5)) fun x8 w7 =>
  (zV (isC w7 4 x2) (f_X5_tell n x2 a2 a3 w7)).bind fun w9 =>
  some (.inr x8, w9)
theorem mt_X1_pay : zMt yX1_pay cX1_pay 6 (some .int) 3 := ⟨q959, q66, ⟨by decide, by decide⟩, by decide +kernel, by decide⟩
set_option maxHeartbeats 4000000 in
theorem k_X1_pay {l : Launch} {n : Nat} {a0 : Option Nat} {a1 : Int32} {a2 : Int32} {a3 : Int32} {w : zWd} (r : String ⊕ Int32) (w9 : zWd) (hf : f_X1_pay n a0 a1 a2 a3 w = some (r, w9)) : zCt l yX1_pay cX1_pay 6 (some .int) 9 [vA a0, vI a1, vI a2, vI a3] w (zXI r w9) := by
  refine zCt_of (lv := [some (vA a0), some (vI a1), some (vI a2), some (vI a3), none, none]) (by decide +kernel) 2 rfl rfl ?_
  intro X hX hI hN hQ
  have hX : zGd X RX1 cX1_pay 6 (some .int) 9 := hX
  unfold f_X1_pay at hf
  refine j_aload_n (pc := 0) hX dX1_pay_0 rfl ?_
  refine j_iload_n (pc := 1) hX dX1_pay_1 rfl ?_
  obtain ⟨⟨q_, w1⟩, hc_, hf⟩ := zob hf
  obtain ⟨hi_, hc_⟩ := zV_e hc_
  cases q_ with
  | inl E_ =>
    cases hf
    exact j_callVX (pc := 2) hX (ci := 0) mt_X1_contractAt q960 q962 qs10 hi_ ⟨_, rfl, rfl⟩ [vI a1] rfl rfl (Nat.le_of_ble_eq_true rfl) (by decide) dX1_pay_2 hN hQ (k_X1_contractAt _ _ hc_)
  | inr x2 =>
    refine j_callV (pc := 2) hX (ci := 0) mt_X1_contractAt q960 q962 qs10 hi_ ⟨_, rfl, rfl⟩ [vI a1] rfl rfl (Nat.le_of_ble_eq_true rfl) (by decide) dX1_pay_2 (k_X1_contractAt _ _ hc_) ?_
    refine j_astore (pc := 5) hX dX1_pay_5 (by decide) [some (vA a0), some (vI a1), some (vI a2), some (vI a3), some (vA x2), none] rfl ?_
    refine j_iload_n (pc := 7) hX dX1_pay_7 rfl ?_
    refine j_sipush (pc := 8) hX (720 : Int32) dX1_pay_8 (by decide +kernel) ?_
    obtain ⟨⟨q_, w3⟩, hc_, hf⟩ := zob hf
    cases q_ with
    | inl E_ =>
      cases hf
      exact j_callSX (pc := 11) hX mt_X1_at q507 q508 [vI a2, vI (720 : Int32)] rfl rfl (Nat.le_of_ble_eq_true rfl) (by decide) dX1_pay_11 hN hQ (k_X1_at _ _ hc_)
    | inr x4 =>
      refine j_callS (pc := 11) hX mt_X1_at q507 q508 [vI a2, vI (720 : Int32)] rfl rfl (Nat.le_of_ble_eq_true rfl) (by decide) dX1_pay_11 (k_X1_at _ _ hc_) ?_
      refine j_pop (pc := 14) hX rfl dX1_pay_14 ?_
      refine j_iload_n (pc := 15) hX dX1_pay_15 rfl ?_
      refine j_iconst (pc := 16) hX (0 : Int32) dX1_pay_16 rfl ?_
      refine j_ldcw (pc := 17) hX q542 dX1_pay_17 ?_
      obtain ⟨⟨q_, w5⟩, hc_, hf⟩ := zob hf
      cases q_ with
      | inl E_ =>
        cases hf
        exact j_callSX (pc := 20) hX mt_X1_in q523 q524 [vI a3, vI (0 : Int32), vI (1000000 : Int32)] rfl rfl (Nat.le_of_ble_eq_true rfl) (by decide) dX1_pay_20 hN hQ (k_X1_in _ _ hc_)
      | inr x6 =>
        refine j_callS (pc := 20) hX mt_X1_in q523 q524 [vI a3, vI (0 : Int32), vI (1000000 : Int32)] rfl rfl (Nat.le_of_ble_eq_true rfl) (by decide) dX1_pay_20 (k_X1_in _ _ hc_) ?_
        refine j_pop (pc := 23) hX rfl dX1_pay_23 ?_
        refine j_aload (pc := 24) hX dX1_pay_24 rfl ?_
        refine j_iload_n (pc := 26) hX dX1_pay_26 rfl ?_
        obtain ⟨x8, w7, hc_, hf⟩ := zB2_e hf
        obtain ⟨hi_, hc_⟩ := zV_e hc_
        refine j_callV (pc := 27) hX (ci := 4) mt_X5_payAt q983 q984 q985 hi_ ⟨_, rfl, rfl⟩ [vI a2] rfl rfl (Nat.le_of_ble_eq_true rfl) (by decide) dX1_pay_27 (k_X5_payAt _ _ hc_) ?_
        refine j_istore (pc := 30) hX dX1_pay_30 (by decide) [some (vA a0), some (vI a1), some (vI a2), some (vI a3), some (vA x2), some (vI x8)] rfl ?_
        refine j_aload (pc := 32) hX dX1_pay_32 rfl ?_
        refine j_iload_n (pc := 34) hX dX1_pay_34 rfl ?_
        refine j_iload_n (pc := 35) hX dX1_pay_35 rfl ?_
        obtain ⟨w9, hc_, hf⟩ := zob hf
        obtain ⟨hi_, hc_⟩ := zV_e hc_
        refine j_callV (pc := 36) hX (ci := 4) mt_X5_tell q987 q573 q574 hi_ ⟨_, rfl, rfl⟩ [vI a2, vI a3] rfl rfl (Nat.le_of_ble_eq_true rfl) (by decide) dX1_pay_36 (k_X5_tell () _ hc_) ?_
        refine j_iload (pc := 39) hX dX1_pay_39 rfl ?_
        exact j_ireturn (pc := 41) hX hQ (by cases hf; rfl) dX1_pay_41
def f_X5_has (n : Nat) (a0 : Option Nat) (a1 : Int32) (w : zWd) : Option (Int32 × zWd) :=
  (gI w 4 2 a0).bind fun x1 =>
  (
    if a1 < x1 then
      some (0 : Int32)
    else
      (gI w 4 3 a0).bind fun x2 =>
      if x2 < a1 then
        some (0 : Int32)
      else
        some (1 : Int32)
    ).bind fun x3 =>
  zRz x3 w
theorem mt_X5_has : zMt yX5_has cX5_has 2 (some .boolean) 1 := ⟨q1002, q91, ⟨by decide, by decide⟩, by decide +kernel, by decide⟩
set_option maxHeartbeats 4000000 in
theorem k_X5_has {l : Launch} {n : Nat} {a0 : Option Nat} {a1 : Int32} {w : zWd} (r : Int32) (w9 : zWd) (hf : f_X5_has n a0 a1 w = some (r, w9)) : zCt l yX5_has cX5_has 2 (some .boolean) 1 [vA a0, vI a1] w (.inr (some (vI r), w9)) := by
  refine zCt_of (lv := [some (vA a0), some (vI a1)]) (by decide +kernel) 0 rfl rfl ?_
  intro X hX hI hN hQ
  have hX : zGd X RX5 cX5_has 2 (some .boolean) 1 := hX
  unfold f_X5_has at hf
  refine j_iload_n (pc := 0) hX dX5_has_0 rfl ?_
  refine j_aload_n (pc := 1) hX dX5_has_1 rfl ?_
  refine j_getI (pc := 2) hX kX5 (k := 2) (Nat.le_of_ble_eq_true rfl) q922 (Or.inl rfl) dX5_has_2 hf (fun x1 hx_ hf => ?_)
  obtain ⟨x3, hm_, hf⟩ := zob hf
  have kj5 : zJ X 21 [none, none] [vI x3] w := by
    clear hm_
    obtain ⟨hz_, hf⟩ := zRz_e hf
    exact j_zreturn (pc := 21) hX hQ hz_ (by cases hf; rfl) dX5_has_21
  have hf := hm_
  refine j_icmp_lt (pc := 5) hX 20 dX5_has_5 rfl hf (fun h_ hf => ?_) (fun h_ hf => ?_)
  · refine j_iconst (pc := 20) hX (0 : Int32) dX5_has_20 rfl ?_
    refine j_fg [0, 1] [none, none] rfl ?_
    cases hf
    exact kj5
  · refine j_iload_n (pc := 8) hX dX5_has_8 rfl ?_
    refine j_aload_n (pc := 9) hX dX5_has_9 rfl ?_
    refine j_getI (pc := 10) hX kX5 (k := 3) (Nat.le_of_ble_eq_true rfl) q923 (Or.inl rfl) dX5_has_10 hf (fun x2 hx_ hf => ?_)
    refine j_icmp_gt (pc := 13) hX 20 dX5_has_13 rfl hf (fun h_ hf => ?_) (fun h_ hf => ?_)
    · refine j_iconst (pc := 20) hX (0 : Int32) dX5_has_20 rfl ?_
      refine j_fg [0, 1] [none, none] rfl ?_
      cases hf
      exact kj5
    · refine j_iconst (pc := 16) hX (1 : Int32) dX5_has_16 rfl ?_
      refine j_goto (pc := 17) hX 21 dX5_has_17 rfl ?_
      refine j_fg [0, 1] [none, none] rfl ?_
      cases hf
      exact kj5
def f_X1_contractOn (n : Nat) (a0 : Option Nat) (a1 : Int32) (a2 : Int32) (w : zWd) : Option ((String ⊕ (Option Nat)) × zWd) :=
  zBX (zV (isC w 0 a0) (f_X1_contractAt n a0 a1 w)) fun x2 w1 =>
  zB2 (zV (isC w1 4 x2) (f_X5_has n x2 a2 w1)) fun x4 w3 =>
  if x4 = (0 : Int32) then
    zThr "java/lang/IndexOutOfBoundsException" w3
  else
    some (.inr x2, w3)
theorem mt_X1_contractOn : zMt yX1_contractOn cX1_contractOn 4 (some (.object "Taxmaze$Contract")) 2 := ⟨q998, q66, ⟨by decide, by decide⟩, by decide +kernel, by decide⟩
set_option maxHeartbeats 4000000 in
theorem k_X1_contractOn {l : Launch} {n : Nat} {a0 : Option Nat} {a1 : Int32} {a2 : Int32} {w : zWd} (r : String ⊕ (Option Nat)) (w9 : zWd) (hf : f_X1_contractOn n a0 a1 a2 w = some (r, w9)) : zCt l yX1_contractOn cX1_contractOn 4 (some (.object "Taxmaze$Contract")) 8 [vA a0, vI a1, vI a2] w (zXA r w9) := by
  refine zCt_of (lv := [some (vA a0), some (vI a1), some (vI a2), none]) (by decide +kernel) 1 rfl rfl ?_
  intro X hX hI hN hQ
  have hX : zGd X RX1 cX1_contractOn 4 (some (.object "Taxmaze$Contract")) 8 := hX
  unfold f_X1_contractOn at hf
  refine j_aload_n (pc := 0) hX dX1_contractOn_0 rfl ?_
  refine j_iload_n (pc := 1) hX dX1_contractOn_1 rfl ?_
  obtain ⟨⟨q_, w1⟩, hc_, hf⟩ := zob hf
  obtain ⟨hi_, hc_⟩ := zV_e hc_
  cases q_ with
  | inl E_ =>
    cases hf
    exact j_callVX (pc := 2) hX (ci := 0) mt_X1_contractAt q960 q962 qs10 hi_ ⟨_, rfl, rfl⟩ [vI a1] rfl rfl (Nat.le_of_ble_eq_true rfl) (by decide) dX1_contractOn_2 hN hQ (k_X1_contractAt _ _ hc_)
  | inr x2 =>
    refine j_callV (pc := 2) hX (ci := 0) mt_X1_contractAt q960 q962 qs10 hi_ ⟨_, rfl, rfl⟩ [vI a1] rfl rfl (Nat.le_of_ble_eq_true rfl) (by decide) dX1_contractOn_2 (k_X1_contractAt _ _ hc_) ?_
    refine j_astore_n (pc := 5) hX dX1_contractOn_5 (by decide) [some (vA a0), some (vI a1), some (vI a2), some (vA x2)] rfl ?_
    refine j_aload_n (pc := 6) hX dX1_contractOn_6 rfl ?_
    refine j_iload_n (pc := 7) hX dX1_contractOn_7 rfl ?_
    obtain ⟨x4, w3, hc_, hf⟩ := zB2_e hf
    obtain ⟨hi_, hc_⟩ := zV_e hc_
    refine j_callV (pc := 8) hX (ci := 4) mt_X5_has q999 q1000 q1001 hi_ ⟨_, rfl, rfl⟩ [vI a2] rfl rfl (Nat.le_of_ble_eq_true rfl) (by decide) dX1_contractOn_8 (k_X5_has _ _ hc_) ?_
    refine j_if_ne (pc := 11) hX 25 dX1_contractOn_11 rfl hf (fun h_ hf => ?_) (fun h_ hf => ?_)
    · refine j_aload_n (pc := 25) hX dX1_contractOn_25 rfl ?_
      exact j_areturn (pc := 26) hX rfl hQ (by cases hf; rfl) dX1_contractOn_26
    · obtain ⟨hr_, hf⟩ := zThr_e hf
      cases hf
      exact j_throwSW (pc := 14) (E := "java/lang/IndexOutOfBoundsException") (names := ["java/lang/RuntimeException", "java/lang/Exception"]) hX hN hQ 3 rfl (by decide +kernel) (by decide +kernel) q510 q86 zth_238_1 zth_238_2 zth_238_3 dX1_contractOn_14 dX1_contractOn_17 (Or.inl dX1_contractOn_18) dX1_contractOn_21 dX1_contractOn_24 (by decide) (Nat.le_of_ble_eq_true rfl) hr_
def f_X6_init (n : Nat) (a0 : Option Nat) (a1 : Int64) (a2 : Int64) (w : zWd) : Option zWd :=
  (zV (decide (a0 ≠ none)) (f_J3_init n a0 w)).bind fun w1 =>
  (pL w1 5 0 a0 a1).bind fun w2 =>
  (pL w2 5 1 a0 a2).bind fun w3 =>
  some w3
theorem mt_X6_init : zMt yX6_init cX6_init 5 none 2 := ⟨q1009, q100, ⟨by decide, by decide⟩, by decide +kernel, by decide⟩
set_option maxHeartbeats 4000000 in
theorem k_X6_init {l : Launch} {n : Nat} {a0 : Option Nat} {a1 : Int64} {a2 : Int64} {w : zWd} (r : Unit) (w9 : zWd) (hf : f_X6_init n a0 a1 a2 w = some w9) : zCt l yX6_init cX6_init 5 none 2 [vA a0, vL a1, vL a2] w (.inr (none, w9)) := by
  refine zCt_of (lv := [some (vA a0), some (vL a1), none, some (vL a2), none]) (by decide +kernel) 0 rfl rfl ?_
  intro X hX hI hN hQ
  have hX : zGd X RX6 cX6_init 5 none 2 := hX
  unfold f_X6_init at hf
  refine j_aload_n (pc := 0) hX dX6_init_0 rfl ?_
  obtain ⟨w1, hc_, hf⟩ := zob hf
  obtain ⟨hi_, hc_⟩ := zV_e hc_
  refine j_callI (pc := 1) hX mt_J3_init q1010 q170 rfl rfl [] rfl rfl (Nat.le_of_ble_eq_true rfl) (by decide) dX6_init_1 (of_decide_eq_true hi_) (k_J3_init () _ hc_) ?_
  refine j_aload_n (pc := 4) hX dX6_init_4 rfl ?_
  refine j_lload_n (pc := 5) hX dX6_init_5 rfl ?_
  refine j_putLF (pc := 6) hX hI kX6 (k := 0) (Nat.le_of_ble_eq_true rfl) q1011 rfl rfl rfl rfl dX6_init_6 hf (fun w2 hf => ?_)
  refine j_aload_n (pc := 9) hX dX6_init_9 rfl ?_
  refine j_lload_n (pc := 10) hX dX6_init_10 rfl ?_
  refine j_putLF (pc := 11) hX hI kX6 (k := 1) (Nat.le_of_ble_eq_true rfl) q1012 rfl rfl rfl rfl dX6_init_11 hf (fun w3 hf => ?_)
  exact j_return (pc := 14) hX hQ (by cases hf; rfl) dX6_init_14
def f_J26_init (n : Nat) (a0 : Option Nat) (a1 : Option Nat) (w : zWd) : Option zWd :=
  (pA w 22 3 a0 a1).bind fun w1 =>
  if a0 = none then none else
  (pI w1 22 1 a0 (-1 : Int32)).bind fun w2 =>
  (gA w2 22 3 a0).bind fun x3 =>
  (gI w2 18 0 x3).bind fun x4 =>
  (pI w2 22 2 a0 x4).bind fun w5 =>
  some w5
theorem mt_J26_init : zMt yJ26_init cJ26_init 2 none 1 := ⟨q1035, q101, ⟨by decide, by decide⟩, by decide +kernel, by decide⟩
set_option maxHeartbeats 4000000 in
theorem k_J26_init {l : Launch} {n : Nat} {a0 : Option Nat} {a1 : Option Nat} {w : zWd} (r : Unit) (w9 : zWd) (hf : f_J26_init n a0 a1 w = some w9) : zCt l yJ26_init cJ26_init 2 none 1 [vA a0, vA a1] w (.inr (none, w9)) := by
  refine zCt_of (lv := [some (vA a0), some (vA a1)]) (by decide +kernel) 0 rfl rfl ?_
  intro X hX hI hN hQ
  have hX : zGd X RJ26 cJ26_init 2 none 1 := hX
  unfold f_J26_init at hf
  refine j_aload_n (pc := 0) hX dJ26_init_0 rfl ?_
  refine j_aload_n (pc := 1) hX dJ26_init_1 rfl ?_
  refine j_putAF (pc := 2) hX hI kJ26 (k := 3) (Nat.le_of_ble_eq_true rfl) q1040 rfl rfl rfl rfl dJ26_init_2 hf (fun w1 hf => ?_)
  refine j_aload_n (pc := 5) hX dJ26_init_5 rfl ?_
  obtain ⟨hne_, hf⟩ := zGd_e hf
  refine j_objInit (pc := 6) hX (by decide) q1036 q124 q125 (by rw [zCs_eq]; exact Nat.le_of_ble_eq_true rfl) dJ26_init_6 hne_ ?_
  refine j_aload_n (pc := 9) hX dJ26_init_9 rfl ?_
  refine j_iconst (pc := 10) hX (-1 : Int32) dJ26_init_10 rfl ?_
  refine j_putI (pc := 11) hX kJ26 (k := 1) (Nat.le_of_ble_eq_true rfl) q1038 (Or.inl rfl) rfl rfl dJ26_init_11 hf (fun w2 hf => ?_)
  refine j_aload_n (pc := 14) hX dJ26_init_14 rfl ?_
  refine j_aload_n (pc := 15) hX dJ26_init_15 rfl ?_
  refine j_getA (pc := 16) hX kJ26 (k := 3) (Nat.le_of_ble_eq_true rfl) q1040 (Or.inl rfl) dJ26_init_16 hf (fun x3 hx_ hf => ?_)
  refine j_getI (pc := 19) hX kJ2 (k := 0) (Nat.le_of_ble_eq_true rfl) q145 (Or.inr q146) dJ26_init_19 hf (fun x4 hx_ hf => ?_)
  refine j_putI (pc := 22) hX kJ26 (k := 2) (Nat.le_of_ble_eq_true rfl) q1039 (Or.inl rfl) rfl rfl dJ26_init_22 hf (fun w5 hf => ?_)
  exact j_return (pc := 25) hX hQ (by cases hf; rfl) dJ26_init_25
def f_J2_iterator (n : Nat) (a0 : Option Nat) (w : zWd) : Option ((Option Nat) × zWd) :=
  zB2 (zNew w 4 (.inr (22, df_J26))) fun x1 w2 =>
  (zV (decide (x1 ≠ none)) (f_J26_init n x1 a0 w2)).bind fun w3 =>
  some (x1, w3)
theorem mt_J2_iterator : zMt yJ2_iterator cJ2_iterator 1 (some (.object "java/util/Iterator")) 0 := ⟨q1030, q69, ⟨by decide, by decide⟩, by decide +kernel, by decide⟩
set_option maxHeartbeats 4000000 in
theorem k_J2_iterator {l : Launch} {n : Nat} {a0 : Option Nat} {w : zWd} (r : Option Nat) (w9 : zWd) (hf : f_J2_iterator n a0 w = some (r, w9)) : zCt l yJ2_iterator cJ2_iterator 1 (some (.object "java/util/Iterator")) 2 [vA a0] w (.inr (some (vA r), w9)) := by
  refine zCt_of (lv := [some (vA a0)]) (by decide +kernel) 0 rfl rfl ?_
  intro X hX hI hN hQ
  have hX : zGd X RJ2 cJ2_iterator 1 (some (.object "java/util/Iterator")) 2 := hX
  unfold f_J2_iterator at hf
  refine j_new (pc := 0) hX kJ26 q1031 q1032 q101 df_J26 df_J26_ok dJ2_iterator_0 hf (fun x1 w2 hf => ?_)
  refine j_dup (pc := 3) hX rfl dJ2_iterator_3 ?_
  refine j_aload_n (pc := 4) hX dJ2_iterator_4 rfl ?_
  obtain ⟨w3, hc_, hf⟩ := zob hf
  obtain ⟨hi_, hc_⟩ := zV_e hc_
  refine j_callI (pc := 5) hX mt_J26_init q1033 q1034 rfl rfl [vA a0] rfl rfl (Nat.le_of_ble_eq_true rfl) (by decide) dJ2_iterator_5 (of_decide_eq_true hi_) (k_J26_init () _ hc_) ?_
  exact j_areturn (pc := 8) hX rfl hQ (by cases hf; rfl) dJ2_iterator_8
def f_J26_hasNext (n : Nat) (a0 : Option Nat) (w : zWd) : Option (Int32 × zWd) :=
  (gI w 22 0 a0).bind fun x1 =>
  (gA w 22 3 a0).bind fun x2 =>
  (gI w 18 2 x2).bind fun x3 =>
  (
    if x1 = x3 then
      some (0 : Int32)
    else
      some (1 : Int32)
    ).bind fun x4 =>
  zRz x4 w
theorem mt_J26_hasNext : zMt yJ26_hasNext cJ26_hasNext 1 (some .boolean) 0 := ⟨q1059, q101, ⟨by decide, by decide⟩, by decide +kernel, by decide⟩
set_option maxHeartbeats 4000000 in
theorem k_J26_hasNext {l : Launch} {n : Nat} {a0 : Option Nat} {w : zWd} (r : Int32) (w9 : zWd) (hf : f_J26_hasNext n a0 w = some (r, w9)) : zCt l yJ26_hasNext cJ26_hasNext 1 (some .boolean) 1 [vA a0] w (.inr (some (vI r), w9)) := by
  refine zCt_of (lv := [some (vA a0)]) (by decide +kernel) 0 rfl rfl ?_
  intro X hX hI hN hQ
  have hX : zGd X RJ26 cJ26_hasNext 1 (some .boolean) 1 := hX
  unfold f_J26_hasNext at hf
  refine j_aload_n (pc := 0) hX dJ26_hasNext_0 rfl ?_
  refine j_getI (pc := 1) hX kJ26 (k := 0) (Nat.le_of_ble_eq_true rfl) q1037 (Or.inl rfl) dJ26_hasNext_1 hf (fun x1 hx_ hf => ?_)
  refine j_aload_n (pc := 4) hX dJ26_hasNext_4 rfl ?_
  refine j_getA (pc := 5) hX kJ26 (k := 3) (Nat.le_of_ble_eq_true rfl) q1040 (Or.inl rfl) dJ26_hasNext_5 hf (fun x2 hx_ hf => ?_)
  refine j_getIN (pc := 8) hX kJ2 (k := 2) (Nat.le_of_ble_eq_true rfl) q142 rfl dJ26_hasNext_8 hf (fun x3 hx_ hf => ?_)
  obtain ⟨x4, hm_, hf⟩ := zob hf
  have kj11 : zJ X 19 [none] [vI x4] w := by
    clear hm_
    obtain ⟨hz_, hf⟩ := zRz_e hf
    exact j_zreturn (pc := 19) hX hQ hz_ (by cases hf; rfl) dJ26_hasNext_19
  have hf := hm_
  refine j_icmp_eq (pc := 11) hX 18 dJ26_hasNext_11 rfl hf (fun h_ hf => ?_) (fun h_ hf => ?_)
  · refine j_iconst (pc := 18) hX (0 : Int32) dJ26_hasNext_18 rfl ?_
    refine j_fg [0] [none] rfl ?_
    cases hf
    exact kj11
  · refine j_iconst (pc := 14) hX (1 : Int32) dJ26_hasNext_14 rfl ?_
    refine j_goto (pc := 15) hX 19 dJ26_hasNext_15 rfl ?_
    refine j_fg [0] [none] rfl ?_
    cases hf
    exact kj11
def f_J26_checkForComodification (n : Nat) (a0 : Option Nat) (w : zWd) : Option zWd :=
  (gA w 22 3 a0).bind fun x1 =>
  (gI w 18 0 x1).bind fun x2 =>
  (gI w 22 2 a0).bind fun x3 =>
  if x2 = x3 then
    some w
  else
    none
theorem mt_J26_checkForComodification : zMt yJ26_checkForComodification cJ26_checkForComodification 1 none 0 := ⟨q1072, q101, ⟨by decide, by decide⟩, by decide +kernel, by decide⟩
set_option maxHeartbeats 4000000 in
theorem k_J26_checkForComodification {l : Launch} {n : Nat} {a0 : Option Nat} {w : zWd} (r : Unit) (w9 : zWd) (hf : f_J26_checkForComodification n a0 w = some w9) : zCt l yJ26_checkForComodification cJ26_checkForComodification 1 none 1 [vA a0] w (.inr (none, w9)) := by
  refine zCt_of (lv := [some (vA a0)]) (by decide +kernel) 0 rfl rfl ?_
  intro X hX hI hN hQ
  have hX : zGd X RJ26 cJ26_checkForComodification 1 none 1 := hX
  unfold f_J26_checkForComodification at hf
  refine j_aload_n (pc := 0) hX dJ26_checkForComodification_0 rfl ?_
  refine j_getA (pc := 1) hX kJ26 (k := 3) (Nat.le_of_ble_eq_true rfl) q1040 (Or.inl rfl) dJ26_checkForComodification_1 hf (fun x1 hx_ hf => ?_)
  refine j_getI (pc := 4) hX kJ2 (k := 0) (Nat.le_of_ble_eq_true rfl) q145 (Or.inr q146) dJ26_checkForComodification_4 hf (fun x2 hx_ hf => ?_)
  refine j_aload_n (pc := 7) hX dJ26_checkForComodification_7 rfl ?_
  refine j_getI (pc := 8) hX kJ26 (k := 2) (Nat.le_of_ble_eq_true rfl) q1039 (Or.inl rfl) dJ26_checkForComodification_8 hf (fun x3 hx_ hf => ?_)
  refine j_icmp_eq (pc := 11) hX 22 dJ26_checkForComodification_11 rfl hf (fun h_ hf => ?_) (fun h_ hf => ?_)
  · exact j_return (pc := 22) hX hQ (by cases hf; rfl) dJ26_checkForComodification_22
  · cases hf
def f_J26_next (n : Nat) (a0 : Option Nat) (w : zWd) : Option ((Option Nat) × zWd) :=
  (zV (isC w 22 a0) (f_J26_checkForComodification n a0 w)).bind fun w1 =>
  (gI w1 22 0 a0).bind fun x2 =>
  (gA w1 22 3 a0).bind fun x3 =>
  (gI w1 18 2 x3).bind fun x4 =>
  if x2 < x4 then
    (gA w1 22 3 a0).bind fun x5 =>
    (gA w1 18 1 x5).bind fun x6 =>
    (aN w1 x6).bind fun x7 =>
    if x2 < x7 then
      (pI w1 22 0 a0 (x2 + (1 : Int32))).bind fun w8 =>
      (pI w8 22 1 a0 x2).bind fun w9 =>
      (aA w9 x6 x2).bind fun x10 =>
      some (x10, w9)
    else
      none
  else
    none
theorem mt_J26_next : zMt yJ26_next cJ26_next 3 (some (.object "java/lang/Object")) 0 := ⟨q1068, q101, ⟨by decide, by decide⟩, by decide +kernel, by decide⟩
set_option maxHeartbeats 4000000 in
theorem k_J26_next {l : Launch} {n : Nat} {a0 : Option Nat} {w : zWd} (r : Option Nat) (w9 : zWd) (hf : f_J26_next n a0 w = some (r, w9)) : zCt l yJ26_next cJ26_next 3 (some (.object "java/lang/Object")) 2 [vA a0] w (.inr (some (vA r), w9)) := by
  refine zCt_of (lv := [some (vA a0), none, none]) (by decide +kernel) 2 rfl rfl ?_
  intro X hX hI hN hQ
  have hX : zGd X RJ26 cJ26_next 3 (some (.object "java/lang/Object")) 2 := hX
  unfold f_J26_next at hf
  refine j_aload_n (pc := 0) hX dJ26_next_0 rfl ?_
  obtain ⟨w1, hc_, hf⟩ := zob hf
  obtain ⟨hi_, hc_⟩ := zV_e hc_
  refine j_callV (pc := 1) hX (ci := 22) mt_J26_checkForComodification q1069 q1070 q1071 hi_ ⟨_, rfl, rfl⟩ [] rfl rfl (Nat.le_of_ble_eq_true rfl) (by decide) dJ26_next_1 (k_J26_checkForComodification () _ hc_) ?_
  refine j_aload_n (pc := 4) hX dJ26_next_4 rfl ?_
  refine j_getI (pc := 5) hX kJ26 (k := 0) (Nat.le_of_ble_eq_true rfl) q1037 (Or.inl rfl) dJ26_next_5 hf (fun x2 hx_ hf => ?_)
  refine j_istore_n (pc := 8) hX dJ26_next_8 (by decide) [some (vA a0), some (vI x2), none] rfl ?_
  refine j_iload_n (pc := 9) hX dJ26_next_9 rfl ?_
  refine j_aload_n (pc := 10) hX dJ26_next_10 rfl ?_
  refine j_getA (pc := 11) hX kJ26 (k := 3) (Nat.le_of_ble_eq_true rfl) q1040 (Or.inl rfl) dJ26_next_11 hf (fun x3 hx_ hf => ?_)
  refine j_getIN (pc := 14) hX kJ2 (k := 2) (Nat.le_of_ble_eq_true rfl) q142 rfl dJ26_next_14 hf (fun x4 hx_ hf => ?_)
  refine j_icmp_lt (pc := 17) hX 28 dJ26_next_17 rfl hf (fun h_ hf => ?_) (fun h_ hf => ?_)
  · refine j_aload_n (pc := 28) hX dJ26_next_28 rfl ?_
    refine j_getA (pc := 29) hX kJ26 (k := 3) (Nat.le_of_ble_eq_true rfl) q1040 (Or.inl rfl) dJ26_next_29 hf (fun x5 hx_ hf => ?_)
    refine j_getA (pc := 32) hX kJ2 (k := 1) (Nat.le_of_ble_eq_true rfl) q141 (Or.inl rfl) dJ26_next_32 hf (fun x6 hx_ hf => ?_)
    refine j_astore_n (pc := 35) hX dJ26_next_35 (by decide) [some (vA a0), some (vI x2), some (vA x6)] rfl ?_
    refine j_iload_n (pc := 36) hX dJ26_next_36 rfl ?_
    refine j_aload_n (pc := 37) hX dJ26_next_37 rfl ?_
    refine j_alen (pc := 38) hX dJ26_next_38 hf (fun x7 hx_ hf => ?_)
    refine j_icmp_lt (pc := 39) hX 50 dJ26_next_39 rfl hf (fun h_ hf => ?_) (fun h_ hf => ?_)
    · refine j_aload_n (pc := 50) hX dJ26_next_50 rfl ?_
      refine j_iload_n (pc := 51) hX dJ26_next_51 rfl ?_
      refine j_iconst (pc := 52) hX (1 : Int32) dJ26_next_52 rfl ?_
      refine j_iadd (pc := 53) hX dJ26_next_53 ?_
      refine j_putI (pc := 54) hX kJ26 (k := 0) (Nat.le_of_ble_eq_true rfl) q1037 (Or.inl rfl) rfl rfl dJ26_next_54 hf (fun w8 hf => ?_)
      refine j_aload_n (pc := 57) hX dJ26_next_57 rfl ?_
      refine j_aload_n (pc := 58) hX dJ26_next_58 rfl ?_
      refine j_iload_n (pc := 59) hX dJ26_next_59 rfl ?_
      refine j_dup_x1 (pc := 60) hX rfl rfl dJ26_next_60 ?_
      refine j_putI (pc := 61) hX kJ26 (k := 1) (Nat.le_of_ble_eq_true rfl) q1038 (Or.inl rfl) rfl rfl dJ26_next_61 hf (fun w9 hf => ?_)
      refine j_aaload (pc := 64) hX dJ26_next_64 hf (fun x10 hx_ hf => ?_)
      exact j_areturn (pc := 65) hX rfl hQ (by cases hf; rfl) dJ26_next_65
    · cases hf
  · cases hf
def f_X6_meets (n : Nat) (a0 : Option Nat) (a1 : Option Nat) (w : zWd) : Option (Int32 × zWd) :=
  (gL w 5 0 a0).bind fun x1 =>
  (gL w 5 1 a1).bind fun x2 =>
  (
    if (0 : Int32) ≤ (lg_cmp x1 x2) then
      some (0 : Int32)
    else
      (gL w 5 0 a1).bind fun x3 =>
      (gL w 5 1 a0).bind fun x4 =>
      if (0 : Int32) ≤ (lg_cmp x3 x4) then
        some (0 : Int32)
      else
        some (1 : Int32)
    ).bind fun x5 =>
  zRz x5 w
theorem mt_X6_meets : zMt yX6_meets cX6_meets 2 (some .boolean) 1 := ⟨q1077, q100, ⟨by decide, by decide⟩, by decide +kernel, by decide⟩
set_option maxHeartbeats 4000000 in
theorem k_X6_meets {l : Launch} {n : Nat} {a0 : Option Nat} {a1 : Option Nat} {w : zWd} (r : Int32) (w9 : zWd) (hf : f_X6_meets n a0 a1 w = some (r, w9)) : zCt l yX6_meets cX6_meets 2 (some .boolean) 1 [vA a0, vA a1] w (.inr (some (vI r), w9)) := by
  refine zCt_of (lv := [some (vA a0), some (vA a1)]) (by decide +kernel) 0 rfl rfl ?_
  intro X hX hI hN hQ
  have hX : zGd X RX6 cX6_meets 2 (some .boolean) 1 := hX
  unfold f_X6_meets at hf
  refine j_aload_n (pc := 0) hX dX6_meets_0 rfl ?_
  refine j_getL (pc := 1) hX kX6 (k := 0) (Nat.le_of_ble_eq_true rfl) q1011 (Or.inl rfl) dX6_meets_1 hf (fun x1 hx_ hf => ?_)
  refine j_aload_n (pc := 4) hX dX6_meets_4 rfl ?_
  refine j_getL (pc := 5) hX kX6 (k := 1) (Nat.le_of_ble_eq_true rfl) q1012 (Or.inl rfl) dX6_meets_5 hf (fun x2 hx_ hf => ?_)
  refine j_lcmp (pc := 8) hX dX6_meets_8 ?_
  obtain ⟨x5, hm_, hf⟩ := zob hf
  have kj9 : zJ X 29 [none, none] [vI x5] w := by
    clear hm_
    obtain ⟨hz_, hf⟩ := zRz_e hf
    exact j_zreturn (pc := 29) hX hQ hz_ (by cases hf; rfl) dX6_meets_29
  have hf := hm_
  refine j_if_ge (pc := 9) hX 28 dX6_meets_9 rfl hf (fun h_ hf => ?_) (fun h_ hf => ?_)
  · refine j_iconst (pc := 28) hX (0 : Int32) dX6_meets_28 rfl ?_
    refine j_fg [0, 1] [none, none] rfl ?_
    cases hf
    exact kj9
  · refine j_aload_n (pc := 12) hX dX6_meets_12 rfl ?_
    refine j_getL (pc := 13) hX kX6 (k := 0) (Nat.le_of_ble_eq_true rfl) q1011 (Or.inl rfl) dX6_meets_13 hf (fun x3 hx_ hf => ?_)
    refine j_aload_n (pc := 16) hX dX6_meets_16 rfl ?_
    refine j_getL (pc := 17) hX kX6 (k := 1) (Nat.le_of_ble_eq_true rfl) q1012 (Or.inl rfl) dX6_meets_17 hf (fun x4 hx_ hf => ?_)
    refine j_lcmp (pc := 20) hX dX6_meets_20 ?_
    refine j_if_ge (pc := 21) hX 28 dX6_meets_21 rfl hf (fun h_ hf => ?_) (fun h_ hf => ?_)
    · refine j_iconst (pc := 28) hX (0 : Int32) dX6_meets_28 rfl ?_
      refine j_fg [0, 1] [none, none] rfl ?_
      cases hf
      exact kj9
    · refine j_iconst (pc := 24) hX (1 : Int32) dX6_meets_24 rfl ?_
      refine j_goto (pc := 25) hX 29 dX6_meets_25 rfl ?_
      refine j_fg [0, 1] [none, none] rfl ?_
      cases hf
      exact kj9
def f_X5_canAdd_L12b (n : Nat) (c1 : Option Nat) (c3 : Option Nat) (rec : Int32 → zWd → Option (Int32 × zWd)) (v2 : Int32) (w : zWd) : Option (Int32 × zWd) :=
  zB2 (zV (isC w 22 c3) (f_J26_hasNext n c3 w)) fun x5 w4 =>
  if x5 = (0 : Int32) then
    some (v2, w4)
  else
    zB2 (zV (isC w4 22 c3) (f_J26_next n c3 w4)) fun x7 w6 =>
    (cK w6 [5] x7).bind fun _ =>
    zB2 (zV (isC w6 5 c1) (f_X6_meets n c1 x7 w6)) fun x9 w8 =>
    (
      if x9 = (0 : Int32) then
        some (1 : Int32)
      else
        some (0 : Int32)
      ).bind fun x10 =>
    rec (v2 &&& x10) w8
def f_X5_canAdd_L12 (n : Nat) (c1 : Option Nat) (c3 : Option Nat) : Nat → Int32 → zWd → Option (Int32 × zWd)
  | 0, _, _ => none
  | k + 1, v2, w => f_X5_canAdd_L12b n c1 c3 (f_X5_canAdd_L12 n c1 c3 k) v2 w
def f_X5_canAdd (n : Nat) (a0 : Option Nat) (a1 : Option Nat) (w : zWd) : Option (Int32 × zWd) :=
  (gA w 4 7 a0).bind fun x1 =>
  zB2 (zV (isC w 18 x1) (f_J2_iterator n x1 w)) fun x3 w2 =>
  zB2 (f_X5_canAdd_L12 n a1 x3 n (1 : Int32) w2) fun x11 w12 =>
  zRz x11 w12
theorem mt_X5_canAdd : zMt yX5_canAdd cX5_canAdd 5 (some .boolean) 1 := ⟨q1021, q91, ⟨by decide, by decide⟩, by decide +kernel, by decide⟩
set_option maxHeartbeats 4000000 in
theorem lp_X5_canAdd_L12 {X : zX} (hX : zGd X RX5 cX5_canAdd 5 (some .boolean) 3) (n : Nat) (c1 : Option Nat) (c3 : Option Nat) : ∀ (k : Nat) (v2 : Int32) (w : zWd) (o2 : Int32) (w9 : zWd) , f_X5_canAdd_L12 n c1 c3 k v2 w = some (o2, w9) → zJ X 52 [none, some (vA c1), some (vI o2), some (vA c3), none] [] w9 → zJ X 12 [none, some (vA c1), some (vI v2), some (vA c3), none] [] w := by
  intro k
  induction k with
  | zero => intro v2 w o2 w9 hf _; exact nomatch (show (none : Option (Int32 × zWd)) = _ from hf)
  | succ k ih =>
    intro v2 w o2 w9 hf kx
    have hf : f_X5_canAdd_L12b n c1 c3 (f_X5_canAdd_L12 n c1 c3 k) v2 w = _ := hf
    unfold f_X5_canAdd_L12b at hf
    refine j_aload_n (pc := 12) hX dX5_canAdd_12 rfl ?_
    obtain ⟨x5, w4, hc_, hf⟩ := zB2_e hf
    obtain ⟨hi_, hc_⟩ := zV_e hc_
    refine j_callF (pc := 13) hX (ci := 22) mt_J26_hasNext q1051 q1057 q1055 (by decide +kernel) rfl hi_ ⟨_, rfl, rfl⟩ [] rfl rfl (Nat.le_of_ble_eq_true rfl) (by decide) dX5_canAdd_13 (k_J26_hasNext _ _ hc_) ?_
    refine j_if_eq (pc := 18) hX 52 dX5_canAdd_18 rfl hf (fun h_ hf => ?_) (fun h_ hf => ?_)
    · cases hf
      exact kx
    · refine j_aload_n (pc := 21) hX dX5_canAdd_21 rfl ?_
      obtain ⟨x7, w6, hc_, hf⟩ := zB2_e hf
      obtain ⟨hi_, hc_⟩ := zV_e hc_
      refine j_callF (pc := 22) hX (ci := 22) mt_J26_next q1061 q1066 q1064 (by decide +kernel) rfl hi_ ⟨_, rfl, rfl⟩ [] rfl rfl (Nat.le_of_ble_eq_true rfl) (by decide) dX5_canAdd_22 (k_J26_next _ _ hc_) ?_
      refine j_cast (pc := 27) hX q1073 [5] (zC1 ⟨_, rfl, Or.inl rfl⟩) dX5_canAdd_27 hf (fun hf => ?_)
      refine j_astore (pc := 30) hX dX5_canAdd_30 (by decide) [none, some (vA c1), some (vI v2), some (vA c3), some (vA x7)] rfl ?_
      refine j_iload_n (pc := 32) hX dX5_canAdd_32 rfl ?_
      refine j_aload_n (pc := 33) hX dX5_canAdd_33 rfl ?_
      refine j_aload (pc := 34) hX dX5_canAdd_34 rfl ?_
      obtain ⟨x9, w8, hc_, hf⟩ := zB2_e hf
      obtain ⟨hi_, hc_⟩ := zV_e hc_
      refine j_callV (pc := 36) hX (ci := 5) mt_X6_meets q1074 q1075 q1076 hi_ ⟨_, rfl, rfl⟩ [vA x7] rfl rfl (Nat.le_of_ble_eq_true rfl) (by decide) dX5_canAdd_36 (k_X6_meets _ _ hc_) ?_
      obtain ⟨x10, hm_, hf⟩ := zob hf
      have kj39 : zJ X 47 [none, some (vA c1), none, some (vA c3), none] [vI x10, vI v2] w8 := by
        clear hm_
        refine j_iand (pc := 47) hX dX5_canAdd_47 ?_
        refine j_istore_n (pc := 48) hX dX5_canAdd_48 (by decide) [none, some (vA c1), some (vI (v2 &&& x10)), some (vA c3), none] rfl ?_
        refine j_goto (pc := 49) hX 12 dX5_canAdd_49 rfl ?_
        exact ih _ _ _ _ hf kx
      have hf := hm_
      refine j_if_ne (pc := 39) hX 46 dX5_canAdd_39 rfl hf (fun h_ hf => ?_) (fun h_ hf => ?_)
      · refine j_iconst (pc := 46) hX (0 : Int32) dX5_canAdd_46 rfl ?_
        refine j_fg [2, 4] [none, some (vA c1), none, some (vA c3), none] rfl ?_
        cases hf
        exact kj39
      · refine j_iconst (pc := 42) hX (1 : Int32) dX5_canAdd_42 rfl ?_
        refine j_goto (pc := 43) hX 47 dX5_canAdd_43 rfl ?_
        refine j_fg [2, 4] [none, some (vA c1), none, some (vA c3), none] rfl ?_
        cases hf
        exact kj39
set_option maxHeartbeats 4000000 in
theorem k_X5_canAdd {l : Launch} {n : Nat} {a0 : Option Nat} {a1 : Option Nat} {w : zWd} (r : Int32) (w9 : zWd) (hf : f_X5_canAdd n a0 a1 w = some (r, w9)) : zCt l yX5_canAdd cX5_canAdd 5 (some .boolean) 3 [vA a0, vA a1] w (.inr (some (vI r), w9)) := by
  refine zCt_of (lv := [some (vA a0), some (vA a1), none, none, none]) (by decide +kernel) 3 rfl rfl ?_
  intro X hX hI hN hQ
  have hX : zGd X RX5 cX5_canAdd 5 (some .boolean) 3 := hX
  unfold f_X5_canAdd at hf
  refine j_iconst (pc := 0) hX (1 : Int32) dX5_canAdd_0 rfl ?_
  refine j_istore_n (pc := 1) hX dX5_canAdd_1 (by decide) [some (vA a0), some (vA a1), some (vI (1 : Int32)), none, none] rfl ?_
  refine j_aload_n (pc := 2) hX dX5_canAdd_2 rfl ?_
  refine j_getA (pc := 3) hX kX5 (k := 7) (Nat.le_of_ble_eq_true rfl) q927 (Or.inl rfl) dX5_canAdd_3 hf (fun x1 hx_ hf => ?_)
  obtain ⟨x3, w2, hc_, hf⟩ := zB2_e hf
  obtain ⟨hi_, hc_⟩ := zV_e hc_
  refine j_callF (pc := 6) hX (ci := 18) mt_J2_iterator q1023 q1028 q1026 (by decide +kernel) rfl hi_ ⟨_, rfl, rfl⟩ [] rfl rfl (Nat.le_of_ble_eq_true rfl) (by decide) dX5_canAdd_6 (k_J2_iterator _ _ hc_) ?_
  refine j_astore_n (pc := 11) hX dX5_canAdd_11 (by decide) [some (vA a0), some (vA a1), some (vI (1 : Int32)), some (vA x3), none] rfl ?_
  obtain ⟨x11, w12, hm_, hf⟩ := zB2_e hf
  refine j_fg [0] [none, some (vA a1), some (vI (1 : Int32)), some (vA x3), none] rfl ?_
  refine lp_X5_canAdd_L12 hX n _ _ _ _ _ _ _ hm_ ?_
  refine j_iload_n (pc := 52) hX dX5_canAdd_52 rfl ?_
  obtain ⟨hz_, hf⟩ := zRz_e hf
  exact j_zreturn (pc := 53) hX hQ hz_ (by cases hf; rfl) dX5_canAdd_53
def f_X6_to (n : Nat) (a0 : Option Nat) (w : zWd) : Option (Int64 × zWd) :=
  (gL w 5 1 a0).bind fun x1 =>
  some (x1, w)
theorem mt_X6_to : zMt yX6_to cX6_to 1 (some .long) 0 := ⟨q1087, q100, ⟨by decide, by decide⟩, by decide +kernel, by decide⟩
set_option maxHeartbeats 4000000 in
theorem k_X6_to {l : Launch} {n : Nat} {a0 : Option Nat} {w : zWd} (r : Int64) (w9 : zWd) (hf : f_X6_to n a0 w = some (r, w9)) : zCt l yX6_to cX6_to 1 (some .long) 1 [vA a0] w (.inr (some (vL r), w9)) := by
  refine zCt_of (lv := [some (vA a0)]) (by decide +kernel) 0 rfl rfl ?_
  intro X hX hI hN hQ
  have hX : zGd X RX6 cX6_to 1 (some .long) 1 := hX
  unfold f_X6_to at hf
  refine j_aload_n (pc := 0) hX dX6_to_0 rfl ?_
  refine j_getL (pc := 1) hX kX6 (k := 1) (Nat.le_of_ble_eq_true rfl) q1012 (Or.inl rfl) dX6_to_1 hf (fun x1 hx_ hf => ?_)
  exact j_lreturn (pc := 4) hX hQ (by cases hf; rfl) dX6_to_4
def f_X6_from (n : Nat) (a0 : Option Nat) (w : zWd) : Option (Int64 × zWd) :=
  (gL w 5 0 a0).bind fun x1 =>
  some (x1, w)
theorem mt_X6_from : zMt yX6_from cX6_from 1 (some .long) 0 := ⟨q1091, q100, ⟨by decide, by decide⟩, by decide +kernel, by decide⟩
set_option maxHeartbeats 4000000 in
theorem k_X6_from {l : Launch} {n : Nat} {a0 : Option Nat} {w : zWd} (r : Int64) (w9 : zWd) (hf : f_X6_from n a0 w = some (r, w9)) : zCt l yX6_from cX6_from 1 (some .long) 1 [vA a0] w (.inr (some (vL r), w9)) := by
  refine zCt_of (lv := [some (vA a0)]) (by decide +kernel) 0 rfl rfl ?_
  intro X hX hI hN hQ
  have hX : zGd X RX6 cX6_from 1 (some .long) 1 := hX
  unfold f_X6_from at hf
  refine j_aload_n (pc := 0) hX dX6_from_0 rfl ?_
  refine j_getL (pc := 1) hX kX6 (k := 0) (Nat.le_of_ble_eq_true rfl) q1011 (Or.inl rfl) dX6_from_1 hf (fun x1 hx_ hf => ?_)
  exact j_lreturn (pc := 4) hX hQ (by cases hf; rfl) dX6_from_4
def f_J7_max_2 (n : Nat) (a0 : Int64) (a1 : Int64) (w : zWd) : Option (Int64 × zWd) :=
  (
    if (lg_cmp a0 a1) < (0 : Int32) then
      some a1
    else
      some a0
    ).bind fun x1 =>
  some (x1, w)
theorem mt_J7_max_2 : zMt yJ7_max_2 cJ7_max_2 4 (some .long) 2 := ⟨q1096, q76, ⟨by decide, by decide⟩, by decide +kernel, by decide⟩
set_option maxHeartbeats 4000000 in
theorem k_J7_max_2 {l : Launch} {n : Nat} {a0 : Int64} {a1 : Int64} {w : zWd} (r : Int64) (w9 : zWd) (hf : f_J7_max_2 n a0 a1 w = some (r, w9)) : zCt l yJ7_max_2 cJ7_max_2 4 (some .long) 1 [vL a0, vL a1] w (.inr (some (vL r), w9)) := by
  refine zCt_of (lv := [some (vL a0), none, some (vL a1), none]) (by decide +kernel) 0 rfl rfl ?_
  intro X hX hI hN hQ
  have hX : zGd X RJ7 cJ7_max_2 4 (some .long) 1 := hX
  unfold f_J7_max_2 at hf
  refine j_lload_n (pc := 0) hX dJ7_max_2_0 rfl ?_
  refine j_lload_n (pc := 1) hX dJ7_max_2_1 rfl ?_
  refine j_lcmp (pc := 2) hX dJ7_max_2_2 ?_
  obtain ⟨x1, hm_, hf⟩ := zob hf
  have kj3 : zJ X 11 [none, none, none, none] [vL x1] w := by
    clear hm_
    exact j_lreturn (pc := 11) hX hQ (by cases hf; rfl) dJ7_max_2_11
  have hf := hm_
  refine j_if_lt (pc := 3) hX 10 dJ7_max_2_3 rfl hf (fun h_ hf => ?_) (fun h_ hf => ?_)
  · refine j_lload_n (pc := 10) hX dJ7_max_2_10 rfl ?_
    refine j_fg [0, 2] [none, none, none, none] rfl ?_
    cases hf
    exact kj3
  · refine j_lload_n (pc := 6) hX dJ7_max_2_6 rfl ?_
    refine j_goto (pc := 7) hX 11 dJ7_max_2_7 rfl ?_
    refine j_fg [0, 2] [none, none, none, none] rfl ?_
    cases hf
    exact kj3
def f_J7_min_2 (n : Nat) (a0 : Int64) (a1 : Int64) (w : zWd) : Option (Int64 × zWd) :=
  (
    if (0 : Int32) < (lg_cmp a0 a1) then
      some a1
    else
      some a0
    ).bind fun x1 =>
  some (x1, w)
theorem mt_J7_min_2 : zMt yJ7_min_2 cJ7_min_2 4 (some .long) 2 := ⟨q1099, q76, ⟨by decide, by decide⟩, by decide +kernel, by decide⟩
set_option maxHeartbeats 4000000 in
theorem k_J7_min_2 {l : Launch} {n : Nat} {a0 : Int64} {a1 : Int64} {w : zWd} (r : Int64) (w9 : zWd) (hf : f_J7_min_2 n a0 a1 w = some (r, w9)) : zCt l yJ7_min_2 cJ7_min_2 4 (some .long) 1 [vL a0, vL a1] w (.inr (some (vL r), w9)) := by
  refine zCt_of (lv := [some (vL a0), none, some (vL a1), none]) (by decide +kernel) 0 rfl rfl ?_
  intro X hX hI hN hQ
  have hX : zGd X RJ7 cJ7_min_2 4 (some .long) 1 := hX
  unfold f_J7_min_2 at hf
  refine j_lload_n (pc := 0) hX dJ7_min_2_0 rfl ?_
  refine j_lload_n (pc := 1) hX dJ7_min_2_1 rfl ?_
  refine j_lcmp (pc := 2) hX dJ7_min_2_2 ?_
  obtain ⟨x1, hm_, hf⟩ := zob hf
  have kj3 : zJ X 11 [none, none, none, none] [vL x1] w := by
    clear hm_
    exact j_lreturn (pc := 11) hX hQ (by cases hf; rfl) dJ7_min_2_11
  have hf := hm_
  refine j_if_gt (pc := 3) hX 10 dJ7_min_2_3 rfl hf (fun h_ hf => ?_) (fun h_ hf => ?_)
  · refine j_lload_n (pc := 10) hX dJ7_min_2_10 rfl ?_
    refine j_fg [0, 2] [none, none, none, none] rfl ?_
    cases hf
    exact kj3
  · refine j_lload_n (pc := 6) hX dJ7_min_2_6 rfl ?_
    refine j_goto (pc := 7) hX 11 dJ7_min_2_7 rfl ?_
    refine j_fg [0, 2] [none, none, none, none] rfl ?_
    cases hf
    exact kj3
def f_X5_add_L54b (n : Nat) (c0 : Option Nat) (c1 : Option Nat) (c4 : Int64) (rec : Int32 → zWd → Option (zWd)) (v6 : Int32) (w : zWd) : Option (zWd) :=
  if (720 : Int32) ≤ v6 then
    some w
  else
    if (0 : Int32) ≤ (lg_cmp ((Int32.toInt64 v6) * (1440 : Int64)) c4) then
      some w
    else
      zB2 (zV (isC w 5 c1) (f_X6_from n c1 w)) fun x14 w13 =>
      zB2 (f_J7_max_2 n x14 ((Int32.toInt64 v6) * (1440 : Int64)) w13) fun x16 w15 =>
      (gA w15 4 9 c0).bind fun x17 =>
      (aI w15 x17 v6).bind fun x18 =>
      zB2 (f_J7_min_2 n c4 ((Int32.toInt64 (v6 + (1 : Int32))) * (1440 : Int64)) w15) fun x20 w19 =>
      (sI w19 x17 v6 (x18 + (Int64.toInt32 (x20 - x16)))).bind fun w21 =>
      rec (v6 + (1)) w21
def f_X5_add_L54 (n : Nat) (c0 : Option Nat) (c1 : Option Nat) (c4 : Int64) : Nat → Int32 → zWd → Option (zWd)
  | 0, _, _ => none
  | k + 1, v6, w => f_X5_add_L54b n c0 c1 c4 (f_X5_add_L54 n c0 c1 c4 k) v6 w
def f_X5_add (n : Nat) (a0 : Option Nat) (a1 : Option Nat) (w : zWd) : Option zWd :=
  (gA w 4 7 a0).bind fun x1 =>
  zB2 (zV (isC w 18 x1) (f_J2_add n x1 a1 w)) fun x3 w2 =>
  zB2 (zV (isC w2 5 a1) (f_X6_to n a1 w2)) fun x5 w4 =>
  zB2 (zV (isC w4 5 a1) (f_X6_from n a1 w4)) fun x7 w6 =>
  zB2 (zV (isC w6 5 a1) (f_X6_to n a1 w6)) fun x9 w8 =>
  (
    if (lg_cmp (x5 - x7) (360 : Int64)) ≤ (0 : Int32) then
      some (0 : Int32)
    else
      some (30 : Int32)
    ).bind fun x10 =>
  zB2 (zV (isC w8 5 a1) (f_X6_from n a1 w8)) fun x12 w11 =>
  (f_X5_add_L54 n a0 a1 (x9 - (Int32.toInt64 x10)) n (Int64.toInt32 (x12 / (1440 : Int64))) w11).bind fun w22 =>
  some w22
theorem mt_X5_add : zMt yX5_add cX5_add 9 none 1 := ⟨q1081, q91, ⟨by decide, by decide⟩, by decide +kernel, by decide⟩
set_option maxHeartbeats 4000000 in
theorem lp_X5_add_L54 {X : zX} (hX : zGd X RX5 cX5_add 9 none 8) (n : Nat) (c0 : Option Nat) (c1 : Option Nat) (c4 : Int64) : ∀ (k : Nat) (v6 : Int32) (w : zWd) (w9 : zWd) , f_X5_add_L54 n c0 c1 c4 k v6 w = some w9 → zJ X 125 [some (vA c0), some (vA c1), none, none, some (vL c4), none, none, none, none] [] w9 → zJ X 54 [some (vA c0), some (vA c1), none, none, some (vL c4), none, some (vI v6), none, none] [] w := by
  intro k
  induction k with
  | zero => intro v6 w w9 hf _; exact nomatch (show (none : Option (zWd)) = _ from hf)
  | succ k ih =>
    intro v6 w w9 hf kx
    have hf : f_X5_add_L54b n c0 c1 c4 (f_X5_add_L54 n c0 c1 c4 k) v6 w = _ := hf
    unfold f_X5_add_L54b at hf
    refine j_iload (pc := 54) hX dX5_add_54 rfl ?_
    refine j_sipush (pc := 56) hX (720 : Int32) dX5_add_56 (by decide +kernel) ?_
    refine j_icmp_ge (pc := 59) hX 125 dX5_add_59 rfl hf (fun h_ hf => ?_) (fun h_ hf => ?_)
    · refine j_fg [6] [some (vA c0), some (vA c1), none, none, some (vL c4), none, none, none, none] rfl ?_
      cases hf
      exact kx
    · refine j_iload (pc := 62) hX dX5_add_62 rfl ?_
      refine j_i2l (pc := 64) hX dX5_add_64 ?_
      refine j_ldc2 (pc := 65) hX q1093 dX5_add_65 ?_
      refine j_lmul (pc := 68) hX dX5_add_68 ?_
      refine j_lload (pc := 69) hX dX5_add_69 rfl ?_
      refine j_lcmp (pc := 71) hX dX5_add_71 ?_
      refine j_if_ge (pc := 72) hX 125 dX5_add_72 rfl hf (fun h_ hf => ?_) (fun h_ hf => ?_)
      · refine j_fg [6] [some (vA c0), some (vA c1), none, none, some (vL c4), none, none, none, none] rfl ?_
        cases hf
        exact kx
      · refine j_aload_n (pc := 75) hX dX5_add_75 rfl ?_
        obtain ⟨x14, w13, hc_, hf⟩ := zB2_e hf
        obtain ⟨hi_, hc_⟩ := zV_e hc_
        refine j_callV (pc := 76) hX (ci := 5) mt_X6_from q1088 q1089 q1090 hi_ ⟨_, rfl, rfl⟩ [] rfl rfl (Nat.le_of_ble_eq_true rfl) (by decide) dX5_add_76 (k_X6_from _ _ hc_) ?_
        refine j_iload (pc := 79) hX dX5_add_79 rfl ?_
        refine j_i2l (pc := 81) hX dX5_add_81 ?_
        refine j_ldc2 (pc := 82) hX q1093 dX5_add_82 ?_
        refine j_lmul (pc := 85) hX dX5_add_85 ?_
        obtain ⟨x16, w15, hc_, hf⟩ := zB2_e hf
        refine j_callS (pc := 86) hX mt_J7_max_2 q1094 q1095 [vL x14, vL ((Int32.toInt64 v6) * (1440 : Int64))] rfl rfl (Nat.le_of_ble_eq_true rfl) (by decide) dX5_add_86 (k_J7_max_2 _ _ hc_) ?_
        refine j_lstore (pc := 89) hX dX5_add_89 (by decide) [some (vA c0), some (vA c1), none, none, some (vL c4), none, some (vI v6), some (vL x16), none] rfl ?_
        refine j_aload_n (pc := 91) hX dX5_add_91 rfl ?_
        refine j_getA (pc := 92) hX kX5 (k := 9) (Nat.le_of_ble_eq_true rfl) q929 (Or.inl rfl) dX5_add_92 hf (fun x17 hx_ hf => ?_)
        refine j_iload (pc := 95) hX dX5_add_95 rfl ?_
        refine j_dup2 (pc := 97) hX rfl rfl dX5_add_97 ?_
        refine j_iaload (pc := 98) hX dX5_add_98 hf (fun x18 hx_ hf => ?_)
        refine j_lload (pc := 99) hX dX5_add_99 rfl ?_
        refine j_iload (pc := 101) hX dX5_add_101 rfl ?_
        refine j_iconst (pc := 103) hX (1 : Int32) dX5_add_103 rfl ?_
        refine j_iadd (pc := 104) hX dX5_add_104 ?_
        refine j_i2l (pc := 105) hX dX5_add_105 ?_
        refine j_ldc2 (pc := 106) hX q1093 dX5_add_106 ?_
        refine j_lmul (pc := 109) hX dX5_add_109 ?_
        obtain ⟨x20, w19, hc_, hf⟩ := zB2_e hf
        refine j_callS (pc := 110) hX mt_J7_min_2 q1097 q1098 [vL c4, vL ((Int32.toInt64 (v6 + (1 : Int32))) * (1440 : Int64))] rfl rfl (Nat.le_of_ble_eq_true rfl) (by decide) dX5_add_110 (k_J7_min_2 _ _ hc_) ?_
        refine j_lload (pc := 113) hX dX5_add_113 rfl ?_
        refine j_lsub (pc := 115) hX dX5_add_115 ?_
        refine j_l2i (pc := 116) hX dX5_add_116 ?_
        refine j_iadd (pc := 117) hX dX5_add_117 ?_
        refine j_iastore (pc := 118) hX dX5_add_118 hf (fun w21 hf => ?_)
        refine j_iinc (pc := 119) hX (1) dX5_add_119 rfl rfl (by decide) [some (vA c0), some (vA c1), none, none, some (vL c4), none, some (vI (v6 + (1))), some (vL x16), none] rfl ?_
        refine j_goto (pc := 122) hX 54 dX5_add_122 rfl ?_
        refine j_fg [7] [some (vA c0), some (vA c1), none, none, some (vL c4), none, some (vI (v6 + (1))), none, none] rfl ?_
        exact ih _ _ _ hf kx
set_option maxHeartbeats 4000000 in
theorem k_X5_add {l : Launch} {n : Nat} {a0 : Option Nat} {a1 : Option Nat} {w : zWd} (r : Unit) (w9 : zWd) (hf : f_X5_add n a0 a1 w = some w9) : zCt l yX5_add cX5_add 9 none 8 [vA a0, vA a1] w (.inr (none, w9)) := by
  refine zCt_of (lv := [some (vA a0), some (vA a1), none, none, none, none, none, none, none]) (by decide +kernel) 7 rfl rfl ?_
  intro X hX hI hN hQ
  have hX : zGd X RX5 cX5_add 9 none 8 := hX
  unfold f_X5_add at hf
  refine j_aload_n (pc := 0) hX dX5_add_0 rfl ?_
  refine j_getA (pc := 1) hX kX5 (k := 7) (Nat.le_of_ble_eq_true rfl) q927 (Or.inl rfl) dX5_add_1 hf (fun x1 hx_ hf => ?_)
  refine j_aload_n (pc := 4) hX dX5_add_4 rfl ?_
  obtain ⟨x3, w2, hc_, hf⟩ := zB2_e hf
  obtain ⟨hi_, hc_⟩ := zV_e hc_
  refine j_callF (pc := 5) hX (ci := 18) mt_J2_add q1083 q232 q230 (by decide +kernel) rfl hi_ ⟨_, rfl, rfl⟩ [vA a1] rfl rfl (Nat.le_of_ble_eq_true rfl) (by decide) dX5_add_5 (k_J2_add _ _ hc_) ?_
  refine j_pop (pc := 10) hX rfl dX5_add_10 ?_
  refine j_aload_n (pc := 11) hX dX5_add_11 rfl ?_
  obtain ⟨x5, w4, hc_, hf⟩ := zB2_e hf
  obtain ⟨hi_, hc_⟩ := zV_e hc_
  refine j_callV (pc := 12) hX (ci := 5) mt_X6_to q1084 q1085 q1086 hi_ ⟨_, rfl, rfl⟩ [] rfl rfl (Nat.le_of_ble_eq_true rfl) (by decide) dX5_add_12 (k_X6_to _ _ hc_) ?_
  refine j_aload_n (pc := 15) hX dX5_add_15 rfl ?_
  obtain ⟨x7, w6, hc_, hf⟩ := zB2_e hf
  obtain ⟨hi_, hc_⟩ := zV_e hc_
  refine j_callV (pc := 16) hX (ci := 5) mt_X6_from q1088 q1089 q1090 hi_ ⟨_, rfl, rfl⟩ [] rfl rfl (Nat.le_of_ble_eq_true rfl) (by decide) dX5_add_16 (k_X6_from _ _ hc_) ?_
  refine j_lsub (pc := 19) hX dX5_add_19 ?_
  refine j_lstore_n (pc := 20) hX dX5_add_20 (by decide) [some (vA a0), some (vA a1), some (vL (x5 - x7)), none, none, none, none, none, none] rfl ?_
  refine j_aload_n (pc := 21) hX dX5_add_21 rfl ?_
  obtain ⟨x9, w8, hc_, hf⟩ := zB2_e hf
  obtain ⟨hi_, hc_⟩ := zV_e hc_
  refine j_callV (pc := 22) hX (ci := 5) mt_X6_to q1084 q1085 q1086 hi_ ⟨_, rfl, rfl⟩ [] rfl rfl (Nat.le_of_ble_eq_true rfl) (by decide) dX5_add_22 (k_X6_to _ _ hc_) ?_
  refine j_lload_n (pc := 25) hX dX5_add_25 rfl ?_
  refine j_ldc2 (pc := 26) hX q1092 dX5_add_26 ?_
  refine j_lcmp (pc := 29) hX dX5_add_29 ?_
  obtain ⟨x10, hm_, hf⟩ := zob hf
  have kj30 : zJ X 39 [some (vA a0), some (vA a1), none, none, none, none, none, none, none] [vI x10, vL x9] w8 := by
    clear hm_
    refine j_i2l (pc := 39) hX dX5_add_39 ?_
    refine j_lsub (pc := 40) hX dX5_add_40 ?_
    refine j_lstore (pc := 41) hX dX5_add_41 (by decide) [some (vA a0), some (vA a1), none, none, some (vL (x9 - (Int32.toInt64 x10))), none, none, none, none] rfl ?_
    refine j_aload_n (pc := 43) hX dX5_add_43 rfl ?_
    obtain ⟨x12, w11, hc_, hf⟩ := zB2_e hf
    obtain ⟨hi_, hc_⟩ := zV_e hc_
    refine j_callV (pc := 44) hX (ci := 5) mt_X6_from q1088 q1089 q1090 hi_ ⟨_, rfl, rfl⟩ [] rfl rfl (Nat.le_of_ble_eq_true rfl) (by decide) dX5_add_44 (k_X6_from _ _ hc_) ?_
    refine j_ldc2 (pc := 47) hX q1093 dX5_add_47 ?_
    refine j_ldiv (pc := 50) hX dX5_add_50 (by decide) ?_
    refine j_l2i (pc := 51) hX dX5_add_51 ?_
    refine j_istore (pc := 52) hX dX5_add_52 (by decide) [some (vA a0), some (vA a1), none, none, some (vL (x9 - (Int32.toInt64 x10))), none, some (vI (Int64.toInt32 (x12 / (1440 : Int64)))), none, none] rfl ?_
    obtain ⟨w22, hm_, hf⟩ := zob hf
    refine lp_X5_add_L54 hX n _ _ _ _ _ _ _ hm_ ?_
    exact j_return (pc := 125) hX hQ (by cases hf; rfl) dX5_add_125
  have hf := hm_
  refine j_if_le (pc := 30) hX 38 dX5_add_30 rfl hf (fun h_ hf => ?_) (fun h_ hf => ?_)
  · refine j_iconst (pc := 38) hX (0 : Int32) dX5_add_38 rfl ?_
    refine j_fg [2] [some (vA a0), some (vA a1), none, none, none, none, none, none, none] rfl ?_
    cases hf
    exact kj30
  · refine j_bipush (pc := 33) hX (30 : Int32) dX5_add_33 (by decide +kernel) ?_
    refine j_goto (pc := 35) hX 39 dX5_add_35 rfl ?_
    refine j_fg [2] [some (vA a0), some (vA a1), none, none, none, none, none, none, none] rfl ?_
    cases hf
    exact kj30
def f_X1_shift (n : Nat) (a0 : Option Nat) (a1 : Int32) (a2 : Int32) (a3 : Int32) (a4 : Int32) (w : zWd) : Option ((String ⊕ Int32) × zWd) :=
  zBX (zV (isC w 0 a0) (f_X1_contractOn n a0 a1 a2 w)) fun x2 w1 =>
  zBX (f_X1_in n a3 (0 : Int32) (1439 : Int32) w1) fun x4 w3 =>
  zBX (f_X1_in n a4 (1 : Int32) (1440 : Int32) w3) fun x6 w5 =>
  zB2 (zNew w5 2 (.inr (5, df_X6))) fun x7 w8 =>
  (zV (decide (x7 ≠ none)) (f_X6_init n x7 (((Int32.toInt64 a2) * (1440 : Int64)) + (Int32.toInt64 a3)) ((((Int32.toInt64 a2) * (1440 : Int64)) + (Int32.toInt64 a3)) + (Int32.toInt64 a4)) w8)).bind fun w9 =>
  (gI w9 0 1 a0).bind fun x10 =>
  zB2 (
    if (40 : Int32) ≤ x10 then
      some ((0 : Int32), w9)
    else
      zB2 (zV (isC w9 4 x2) (f_X5_canAdd n x2 x7 w9)) fun x12 w11 =>
      if x12 = (0 : Int32) then
        some ((0 : Int32), w11)
      else
        some ((1 : Int32), w11)
    ) fun x13 w14 =>
  zBX (f_X1_must n x13 w14) fun _u w15 =>
  (zV (isC w15 4 x2) (f_X5_add n x2 x7 w15)).bind fun w16 =>
  (gI w16 0 1 a0).bind fun x17 =>
  (pI w16 0 1 a0 (x17 + (1 : Int32))).bind fun w18 =>
  (gI w18 0 1 a0).bind fun x19 =>
  some (.inr x19, w18)
theorem mt_X1_shift : zMt yX1_shift cX1_shift 9 (some .int) 4 := ⟨q994, q66, ⟨by decide, by decide⟩, by decide +kernel, by decide⟩
set_option maxHeartbeats 4000000 in
theorem k_X1_shift {l : Launch} {n : Nat} {a0 : Option Nat} {a1 : Int32} {a2 : Int32} {a3 : Int32} {a4 : Int32} {w : zWd} (r : String ⊕ Int32) (w9 : zWd) (hf : f_X1_shift n a0 a1 a2 a3 a4 w = some (r, w9)) : zCt l yX1_shift cX1_shift 9 (some .int) 9 [vA a0, vI a1, vI a2, vI a3, vI a4] w (zXI r w9) := by
  refine zCt_of (lv := [some (vA a0), some (vI a1), some (vI a2), some (vI a3), some (vI a4), none, none, none, none]) (by decide +kernel) 4 rfl rfl ?_
  intro X hX hI hN hQ
  have hX : zGd X RX1 cX1_shift 9 (some .int) 9 := hX
  unfold f_X1_shift at hf
  refine j_aload_n (pc := 0) hX dX1_shift_0 rfl ?_
  refine j_iload_n (pc := 1) hX dX1_shift_1 rfl ?_
  refine j_iload_n (pc := 2) hX dX1_shift_2 rfl ?_
  obtain ⟨⟨q_, w1⟩, hc_, hf⟩ := zob hf
  obtain ⟨hi_, hc_⟩ := zV_e hc_
  cases q_ with
  | inl E_ =>
    cases hf
    exact j_callVX (pc := 3) hX (ci := 0) mt_X1_contractOn q995 q997 qs11 hi_ ⟨_, rfl, rfl⟩ [vI a1, vI a2] rfl rfl (Nat.le_of_ble_eq_true rfl) (by decide) dX1_shift_3 hN hQ (k_X1_contractOn _ _ hc_)
  | inr x2 =>
    refine j_callV (pc := 3) hX (ci := 0) mt_X1_contractOn q995 q997 qs11 hi_ ⟨_, rfl, rfl⟩ [vI a1, vI a2] rfl rfl (Nat.le_of_ble_eq_true rfl) (by decide) dX1_shift_3 (k_X1_contractOn _ _ hc_) ?_
    refine j_astore (pc := 6) hX dX1_shift_6 (by decide) [some (vA a0), some (vI a1), some (vI a2), some (vI a3), some (vI a4), some (vA x2), none, none, none] rfl ?_
    refine j_iload_n (pc := 8) hX dX1_shift_8 rfl ?_
    refine j_iconst (pc := 9) hX (0 : Int32) dX1_shift_9 rfl ?_
    refine j_sipush (pc := 10) hX (1439 : Int32) dX1_shift_10 (by decide +kernel) ?_
    obtain ⟨⟨q_, w3⟩, hc_, hf⟩ := zob hf
    cases q_ with
    | inl E_ =>
      cases hf
      exact j_callSX (pc := 13) hX mt_X1_in q523 q524 [vI a3, vI (0 : Int32), vI (1439 : Int32)] rfl rfl (Nat.le_of_ble_eq_true rfl) (by decide) dX1_shift_13 hN hQ (k_X1_in _ _ hc_)
    | inr x4 =>
      refine j_callS (pc := 13) hX mt_X1_in q523 q524 [vI a3, vI (0 : Int32), vI (1439 : Int32)] rfl rfl (Nat.le_of_ble_eq_true rfl) (by decide) dX1_shift_13 (k_X1_in _ _ hc_) ?_
      refine j_pop (pc := 16) hX rfl dX1_shift_16 ?_
      refine j_iload (pc := 17) hX dX1_shift_17 rfl ?_
      refine j_iconst (pc := 19) hX (1 : Int32) dX1_shift_19 rfl ?_
      refine j_sipush (pc := 20) hX (1440 : Int32) dX1_shift_20 (by decide +kernel) ?_
      obtain ⟨⟨q_, w5⟩, hc_, hf⟩ := zob hf
      cases q_ with
      | inl E_ =>
        cases hf
        exact j_callSX (pc := 23) hX mt_X1_in q523 q524 [vI a4, vI (1 : Int32), vI (1440 : Int32)] rfl rfl (Nat.le_of_ble_eq_true rfl) (by decide) dX1_shift_23 hN hQ (k_X1_in _ _ hc_)
      | inr x6 =>
        refine j_callS (pc := 23) hX mt_X1_in q523 q524 [vI a4, vI (1 : Int32), vI (1440 : Int32)] rfl rfl (Nat.le_of_ble_eq_true rfl) (by decide) dX1_shift_23 (k_X1_in _ _ hc_) ?_
        refine j_pop (pc := 26) hX rfl dX1_shift_26 ?_
        refine j_iload_n (pc := 27) hX dX1_shift_27 rfl ?_
        refine j_i2l (pc := 28) hX dX1_shift_28 ?_
        refine j_ldc2 (pc := 29) hX q1004 dX1_shift_29 ?_
        refine j_lmul (pc := 32) hX dX1_shift_32 ?_
        refine j_iload_n (pc := 33) hX dX1_shift_33 rfl ?_
        refine j_i2l (pc := 34) hX dX1_shift_34 ?_
        refine j_ladd (pc := 35) hX dX1_shift_35 ?_
        refine j_lstore (pc := 36) hX dX1_shift_36 (by decide) [some (vA a0), some (vI a1), some (vI a2), some (vI a3), some (vI a4), some (vA x2), some (vL (((Int32.toInt64 a2) * (1440 : Int64)) + (Int32.toInt64 a3))), none, none] rfl ?_
        refine j_new (pc := 38) hX kX6 q1005 q1006 q100 df_X6 df_X6_ok dX1_shift_38 hf (fun x7 w8 hf => ?_)
        refine j_dup (pc := 41) hX rfl dX1_shift_41 ?_
        refine j_lload (pc := 42) hX dX1_shift_42 rfl ?_
        refine j_lload (pc := 44) hX dX1_shift_44 rfl ?_
        refine j_iload (pc := 46) hX dX1_shift_46 rfl ?_
        refine j_i2l (pc := 48) hX dX1_shift_48 ?_
        refine j_ladd (pc := 49) hX dX1_shift_49 ?_
        obtain ⟨w9, hc_, hf⟩ := zob hf
        obtain ⟨hi_, hc_⟩ := zV_e hc_
        refine j_callIN (pc := 50) hX mt_X6_init q1007 q1008 rfl rfl [vL (((Int32.toInt64 a2) * (1440 : Int64)) + (Int32.toInt64 a3)), vL ((((Int32.toInt64 a2) * (1440 : Int64)) + (Int32.toInt64 a3)) + (Int32.toInt64 a4))] rfl rfl (Nat.le_of_ble_eq_true rfl) (by decide) dX1_shift_50 (of_decide_eq_true hi_) (k_X6_init () _ hc_) ?_
        refine j_astore (pc := 53) hX dX1_shift_53 (by decide) [some (vA a0), some (vI a1), some (vI a2), some (vI a3), some (vI a4), some (vA x2), some (vL (((Int32.toInt64 a2) * (1440 : Int64)) + (Int32.toInt64 a3))), none, some (vA x7)] rfl ?_
        refine j_aload_n (pc := 55) hX dX1_shift_55 rfl ?_
        refine j_getI (pc := 56) hX kX1 (k := 1) (Nat.le_of_ble_eq_true rfl) q333 (Or.inl rfl) dX1_shift_56 hf (fun x10 hx_ hf => ?_)
        refine j_bipush (pc := 59) hX (40 : Int32) dX1_shift_59 (by decide +kernel) ?_
        obtain ⟨x13, w14, hm_, hf⟩ := zB2_e hf
        have kj61 : zJ X 79 [some (vA a0), none, none, none, none, some (vA x2), none, none, some (vA x7)] [vI x13] w14 := by
          clear hm_
          obtain ⟨⟨q_, w15⟩, hc_, hf⟩ := zob hf
          cases q_ with
          | inl E_ =>
            cases hf
            exact j_callSX (pc := 79) hX mt_X1_must q543 q544 [vI x13] rfl rfl (Nat.le_of_ble_eq_true rfl) (by decide) dX1_shift_79 hN hQ (k_X1_must _ _ hc_)
          | inr u_ =>
            refine j_callS (pc := 79) hX mt_X1_must q543 q544 [vI x13] rfl rfl (Nat.le_of_ble_eq_true rfl) (by decide) dX1_shift_79 (k_X1_must _ _ hc_) ?_
            refine j_aload (pc := 82) hX dX1_shift_82 rfl ?_
            refine j_aload (pc := 84) hX dX1_shift_84 rfl ?_
            obtain ⟨w16, hc_, hf⟩ := zob hf
            obtain ⟨hi_, hc_⟩ := zV_e hc_
            refine j_callV (pc := 86) hX (ci := 4) mt_X5_add q1078 q1079 q1080 hi_ ⟨_, rfl, rfl⟩ [vA x7] rfl rfl (Nat.le_of_ble_eq_true rfl) (by decide) dX1_shift_86 (k_X5_add () _ hc_) ?_
            refine j_aload_n (pc := 89) hX dX1_shift_89 rfl ?_
            refine j_dup (pc := 90) hX rfl dX1_shift_90 ?_
            refine j_getI (pc := 91) hX kX1 (k := 1) (Nat.le_of_ble_eq_true rfl) q333 (Or.inl rfl) dX1_shift_91 hf (fun x17 hx_ hf => ?_)
            refine j_iconst (pc := 94) hX (1 : Int32) dX1_shift_94 rfl ?_
            refine j_iadd (pc := 95) hX dX1_shift_95 ?_
            refine j_putI (pc := 96) hX kX1 (k := 1) (Nat.le_of_ble_eq_true rfl) q333 (Or.inl rfl) rfl rfl dX1_shift_96 hf (fun w18 hf => ?_)
            refine j_aload_n (pc := 99) hX dX1_shift_99 rfl ?_
            refine j_getI (pc := 100) hX kX1 (k := 1) (Nat.le_of_ble_eq_true rfl) q333 (Or.inl rfl) dX1_shift_100 hf (fun x19 hx_ hf => ?_)
            exact j_ireturn (pc := 103) hX hQ (by cases hf; rfl) dX1_shift_103
        have hf := hm_
        refine j_icmp_ge (pc := 61) hX 78 dX1_shift_61 rfl hf (fun h_ hf => ?_) (fun h_ hf => ?_)
        · refine j_iconst (pc := 78) hX (0 : Int32) dX1_shift_78 rfl ?_
          refine j_fg [1, 2, 3, 4, 6] [some (vA a0), none, none, none, none, some (vA x2), none, none, some (vA x7)] rfl ?_
          cases hf
          exact kj61
        · refine j_aload (pc := 64) hX dX1_shift_64 rfl ?_
          refine j_aload (pc := 66) hX dX1_shift_66 rfl ?_
          obtain ⟨x12, w11, hc_, hf⟩ := zB2_e hf
          obtain ⟨hi_, hc_⟩ := zV_e hc_
          refine j_callV (pc := 68) hX (ci := 4) mt_X5_canAdd q1018 q1019 q1020 hi_ ⟨_, rfl, rfl⟩ [vA x7] rfl rfl (Nat.le_of_ble_eq_true rfl) (by decide) dX1_shift_68 (k_X5_canAdd _ _ hc_) ?_
          refine j_if_eq (pc := 71) hX 78 dX1_shift_71 rfl hf (fun h_ hf => ?_) (fun h_ hf => ?_)
          · refine j_iconst (pc := 78) hX (0 : Int32) dX1_shift_78 rfl ?_
            refine j_fg [1, 2, 3, 4, 6] [some (vA a0), none, none, none, none, some (vA x2), none, none, some (vA x7)] rfl ?_
            cases hf
            exact kj61
          · refine j_iconst (pc := 74) hX (1 : Int32) dX1_shift_74 rfl ?_
            refine j_goto (pc := 75) hX 79 dX1_shift_75 rfl ?_
            refine j_fg [1, 2, 3, 4, 6] [some (vA a0), none, none, none, none, some (vA x2), none, none, some (vA x7)] rfl ?_
            cases hf
            exact kj61
def f_X1_minutes (n : Nat) (a0 : Option Nat) (a1 : Int32) (a2 : Int32) (w : zWd) : Option ((String ⊕ Int32) × zWd) :=
  zBX (zV (isC w 0 a0) (f_X1_contractAt n a0 a1 w)) fun x2 w1 =>
  (gA w1 4 9 x2).bind fun x3 =>
  zBX (f_X1_at n a2 (720 : Int32) w1) fun x5 w4 =>
  (aI w4 x3 x5).bind fun x6 =>
  some (.inr x6, w4)
theorem mt_X1_minutes : zMt yX1_minutes cX1_minutes 4 (some .int) 2 := ⟨q1106, q66, ⟨by decide, by decide⟩, by decide +kernel, by decide⟩
set_option maxHeartbeats 4000000 in
theorem k_X1_minutes {l : Launch} {n : Nat} {a0 : Option Nat} {a1 : Int32} {a2 : Int32} {w : zWd} (r : String ⊕ Int32) (w9 : zWd) (hf : f_X1_minutes n a0 a1 a2 w = some (r, w9)) : zCt l yX1_minutes cX1_minutes 4 (some .int) 8 [vA a0, vI a1, vI a2] w (zXI r w9) := by
  refine zCt_of (lv := [some (vA a0), some (vI a1), some (vI a2), none]) (by decide +kernel) 1 rfl rfl ?_
  intro X hX hI hN hQ
  have hX : zGd X RX1 cX1_minutes 4 (some .int) 8 := hX
  unfold f_X1_minutes at hf
  refine j_aload_n (pc := 0) hX dX1_minutes_0 rfl ?_
  refine j_iload_n (pc := 1) hX dX1_minutes_1 rfl ?_
  obtain ⟨⟨q_, w1⟩, hc_, hf⟩ := zob hf
  obtain ⟨hi_, hc_⟩ := zV_e hc_
  cases q_ with
  | inl E_ =>
    cases hf
    exact j_callVX (pc := 2) hX (ci := 0) mt_X1_contractAt q960 q962 qs10 hi_ ⟨_, rfl, rfl⟩ [vI a1] rfl rfl (Nat.le_of_ble_eq_true rfl) (by decide) dX1_minutes_2 hN hQ (k_X1_contractAt _ _ hc_)
  | inr x2 =>
    refine j_callV (pc := 2) hX (ci := 0) mt_X1_contractAt q960 q962 qs10 hi_ ⟨_, rfl, rfl⟩ [vI a1] rfl rfl (Nat.le_of_ble_eq_true rfl) (by decide) dX1_minutes_2 (k_X1_contractAt _ _ hc_) ?_
    refine j_astore_n (pc := 5) hX dX1_minutes_5 (by decide) [some (vA a0), some (vI a1), some (vI a2), some (vA x2)] rfl ?_
    refine j_aload_n (pc := 6) hX dX1_minutes_6 rfl ?_
    refine j_getAN (pc := 7) hX kX5 (k := 9) (Nat.le_of_ble_eq_true rfl) q931 rfl dX1_minutes_7 hf (fun x3 hx_ hf => ?_)
    refine j_iload_n (pc := 10) hX dX1_minutes_10 rfl ?_
    refine j_sipush (pc := 11) hX (720 : Int32) dX1_minutes_11 (by decide +kernel) ?_
    obtain ⟨⟨q_, w4⟩, hc_, hf⟩ := zob hf
    cases q_ with
    | inl E_ =>
      cases hf
      exact j_callSX (pc := 14) hX mt_X1_at q507 q508 [vI a2, vI (720 : Int32)] rfl rfl (Nat.le_of_ble_eq_true rfl) (by decide) dX1_minutes_14 hN hQ (k_X1_at _ _ hc_)
    | inr x5 =>
      refine j_callS (pc := 14) hX mt_X1_at q507 q508 [vI a2, vI (720 : Int32)] rfl rfl (Nat.le_of_ble_eq_true rfl) (by decide) dX1_minutes_14 (k_X1_at _ _ hc_) ?_
      refine j_iaload (pc := 17) hX dX1_minutes_17 hf (fun x6 hx_ hf => ?_)
      exact j_ireturn (pc := 18) hX hQ (by cases hf; rfl) dX1_minutes_18
def f_X5_overtime_L10b (n : Nat) (c0 : Option Nat) (c1 : Int32) (rec : Int32 → Int32 → Int32 → zWd → Option (Int32 × Int32 × zWd)) (v2 : Int32) (v3 : Int32) (v4 : Int32) (w : zWd) : Option (Int32 × Int32 × zWd) :=
  zB2 (f_J7_min n (720 : Int32) ((c1 + (1 : Int32)) * (7 : Int32)) w) fun x2 w1 =>
  if x2 ≤ v4 then
    some (v2, v3, w1)
  else
    (gA w1 4 9 c0).bind fun x3 =>
    (aI w1 x3 v4).bind fun x4 =>
    (gI w1 4 5 c0).bind fun x5 =>
    zB2 (f_J7_max n (0 : Int32) (x4 - x5) w1) fun x7 w6 =>
    (gA w6 4 9 c0).bind fun x8 =>
    (aI w6 x8 v4).bind fun x9 =>
    rec (v2 + x7) (v3 + x9) (v4 + (1)) w6
def f_X5_overtime_L10 (n : Nat) (c0 : Option Nat) (c1 : Int32) : Nat → Int32 → Int32 → Int32 → zWd → Option (Int32 × Int32 × zWd)
  | 0, _, _, _, _ => none
  | k + 1, v2, v3, v4, w => f_X5_overtime_L10b n c0 c1 (f_X5_overtime_L10 n c0 c1 k) v2 v3 v4 w
def f_X5_overtime (n : Nat) (a0 : Option Nat) (a1 : Int32) (w : zWd) : Option (Int32 × zWd) :=
  zB3 (f_X5_overtime_L10 n a0 a1 n (0 : Int32) (0 : Int32) (a1 * (7 : Int32)) w) fun x10 x11 w12 =>
  (gI w12 4 5 a0).bind fun x13 =>
  zB2 (f_J7_max n x10 (x11 - ((5 : Int32) * x13)) w12) fun x15 w14 =>
  some (x15, w14)
theorem mt_X5_overtime : zMt yX5_overtime cX5_overtime 5 (some .int) 1 := ⟨q1117, q91, ⟨by decide, by decide⟩, by decide +kernel, by decide⟩
set_option maxHeartbeats 4000000 in
theorem lp_X5_overtime_L10 {X : zX} (hX : zGd X RX5 cX5_overtime 5 (some .int) 2) (n : Nat) (c0 : Option Nat) (c1 : Int32) : ∀ (k : Nat) (v2 : Int32) (v3 : Int32) (v4 : Int32) (w : zWd) (o2 : Int32) (o3 : Int32) (w9 : zWd) , f_X5_overtime_L10 n c0 c1 k v2 v3 v4 w = some (o2, o3, w9) → zJ X 62 [some (vA c0), some (vI c1), some (vI o2), some (vI o3), none] [] w9 → zJ X 10 [some (vA c0), some (vI c1), some (vI v2), some (vI v3), some (vI v4)] [] w := by
  intro k
  induction k with
  | zero => intro v2 v3 v4 w o2 o3 w9 hf _; exact nomatch (show (none : Option (Int32 × Int32 × zWd)) = _ from hf)
  | succ k ih =>
    intro v2 v3 v4 w o2 o3 w9 hf kx
    have hf : f_X5_overtime_L10b n c0 c1 (f_X5_overtime_L10 n c0 c1 k) v2 v3 v4 w = _ := hf
    unfold f_X5_overtime_L10b at hf
    refine j_iload (pc := 10) hX dX5_overtime_10 rfl ?_
    refine j_sipush (pc := 12) hX (720 : Int32) dX5_overtime_12 (by decide +kernel) ?_
    refine j_iload_n (pc := 15) hX dX5_overtime_15 rfl ?_
    refine j_iconst (pc := 16) hX (1 : Int32) dX5_overtime_16 rfl ?_
    refine j_iadd (pc := 17) hX dX5_overtime_17 ?_
    refine j_bipush (pc := 18) hX (7 : Int32) dX5_overtime_18 (by decide +kernel) ?_
    refine j_imul (pc := 20) hX dX5_overtime_20 ?_
    obtain ⟨x2, w1, hc_, hf⟩ := zB2_e hf
    refine j_callS (pc := 21) hX mt_J7_min q1118 q303 [vI (720 : Int32), vI ((c1 + (1 : Int32)) * (7 : Int32))] rfl rfl (Nat.le_of_ble_eq_true rfl) (by decide) dX5_overtime_21 (k_J7_min _ _ hc_) ?_
    refine j_icmp_ge (pc := 24) hX 62 dX5_overtime_24 rfl hf (fun h_ hf => ?_) (fun h_ hf => ?_)
    · refine j_fg [4] [some (vA c0), some (vI c1), some (vI v2), some (vI v3), none] rfl ?_
      cases hf
      exact kx
    · refine j_iload_n (pc := 27) hX dX5_overtime_27 rfl ?_
      refine j_iconst (pc := 28) hX (0 : Int32) dX5_overtime_28 rfl ?_
      refine j_aload_n (pc := 29) hX dX5_overtime_29 rfl ?_
      refine j_getA (pc := 30) hX kX5 (k := 9) (Nat.le_of_ble_eq_true rfl) q929 (Or.inl rfl) dX5_overtime_30 hf (fun x3 hx_ hf => ?_)
      refine j_iload (pc := 33) hX dX5_overtime_33 rfl ?_
      refine j_iaload (pc := 35) hX dX5_overtime_35 hf (fun x4 hx_ hf => ?_)
      refine j_aload_n (pc := 36) hX dX5_overtime_36 rfl ?_
      refine j_getI (pc := 37) hX kX5 (k := 5) (Nat.le_of_ble_eq_true rfl) q925 (Or.inl rfl) dX5_overtime_37 hf (fun x5 hx_ hf => ?_)
      refine j_isub (pc := 40) hX dX5_overtime_40 ?_
      obtain ⟨x7, w6, hc_, hf⟩ := zB2_e hf
      refine j_callS (pc := 41) hX mt_J7_max q576 q251 [vI (0 : Int32), vI (x4 - x5)] rfl rfl (Nat.le_of_ble_eq_true rfl) (by decide) dX5_overtime_41 (k_J7_max _ _ hc_) ?_
      refine j_iadd (pc := 44) hX dX5_overtime_44 ?_
      refine j_istore_n (pc := 45) hX dX5_overtime_45 (by decide) [some (vA c0), some (vI c1), some (vI (v2 + x7)), some (vI v3), some (vI v4)] rfl ?_
      refine j_iload_n (pc := 46) hX dX5_overtime_46 rfl ?_
      refine j_aload_n (pc := 47) hX dX5_overtime_47 rfl ?_
      refine j_getA (pc := 48) hX kX5 (k := 9) (Nat.le_of_ble_eq_true rfl) q929 (Or.inl rfl) dX5_overtime_48 hf (fun x8 hx_ hf => ?_)
      refine j_iload (pc := 51) hX dX5_overtime_51 rfl ?_
      refine j_iaload (pc := 53) hX dX5_overtime_53 hf (fun x9 hx_ hf => ?_)
      refine j_iadd (pc := 54) hX dX5_overtime_54 ?_
      refine j_istore_n (pc := 55) hX dX5_overtime_55 (by decide) [some (vA c0), some (vI c1), some (vI (v2 + x7)), some (vI (v3 + x9)), some (vI v4)] rfl ?_
      refine j_iinc (pc := 56) hX (1) dX5_overtime_56 rfl rfl (by decide) [some (vA c0), some (vI c1), some (vI (v2 + x7)), some (vI (v3 + x9)), some (vI (v4 + (1)))] rfl ?_
      refine j_goto (pc := 59) hX 10 dX5_overtime_59 rfl ?_
      exact ih _ _ _ _ _ _ _ hf kx
set_option maxHeartbeats 4000000 in
theorem k_X5_overtime {l : Launch} {n : Nat} {a0 : Option Nat} {a1 : Int32} {w : zWd} (r : Int32) (w9 : zWd) (hf : f_X5_overtime n a0 a1 w = some (r, w9)) : zCt l yX5_overtime cX5_overtime 5 (some .int) 2 [vA a0, vI a1] w (.inr (some (vI r), w9)) := by
  refine zCt_of (lv := [some (vA a0), some (vI a1), none, none, none]) (by decide +kernel) 3 rfl rfl ?_
  intro X hX hI hN hQ
  have hX : zGd X RX5 cX5_overtime 5 (some .int) 2 := hX
  unfold f_X5_overtime at hf
  refine j_iconst (pc := 0) hX (0 : Int32) dX5_overtime_0 rfl ?_
  refine j_istore_n (pc := 1) hX dX5_overtime_1 (by decide) [some (vA a0), some (vI a1), some (vI (0 : Int32)), none, none] rfl ?_
  refine j_iconst (pc := 2) hX (0 : Int32) dX5_overtime_2 rfl ?_
  refine j_istore_n (pc := 3) hX dX5_overtime_3 (by decide) [some (vA a0), some (vI a1), some (vI (0 : Int32)), some (vI (0 : Int32)), none] rfl ?_
  refine j_iload_n (pc := 4) hX dX5_overtime_4 rfl ?_
  refine j_bipush (pc := 5) hX (7 : Int32) dX5_overtime_5 (by decide +kernel) ?_
  refine j_imul (pc := 7) hX dX5_overtime_7 ?_
  refine j_istore (pc := 8) hX dX5_overtime_8 (by decide) [some (vA a0), some (vI a1), some (vI (0 : Int32)), some (vI (0 : Int32)), some (vI (a1 * (7 : Int32)))] rfl ?_
  obtain ⟨x10, x11, w12, hm_, hf⟩ := zB3_e hf
  refine lp_X5_overtime_L10 hX n _ _ _ _ _ _ _ _ _ _ hm_ ?_
  refine j_iload_n (pc := 62) hX dX5_overtime_62 rfl ?_
  refine j_iload_n (pc := 63) hX dX5_overtime_63 rfl ?_
  refine j_iconst (pc := 64) hX (5 : Int32) dX5_overtime_64 rfl ?_
  refine j_aload_n (pc := 65) hX dX5_overtime_65 rfl ?_
  refine j_getI (pc := 66) hX kX5 (k := 5) (Nat.le_of_ble_eq_true rfl) q925 (Or.inl rfl) dX5_overtime_66 hf (fun x13 hx_ hf => ?_)
  refine j_imul (pc := 69) hX dX5_overtime_69 ?_
  refine j_isub (pc := 70) hX dX5_overtime_70 ?_
  obtain ⟨x15, w14, hc_, hf⟩ := zB2_e hf
  refine j_callS (pc := 71) hX mt_J7_max q576 q251 [vI x10, vI (x11 - ((5 : Int32) * x13))] rfl rfl (Nat.le_of_ble_eq_true rfl) (by decide) dX5_overtime_71 (k_J7_max _ _ hc_) ?_
  exact j_ireturn (pc := 74) hX hQ (by cases hf; rfl) dX5_overtime_74
def f_X1_overtime (n : Nat) (a0 : Option Nat) (a1 : Int32) (a2 : Int32) (w : zWd) : Option ((String ⊕ Int32) × zWd) :=
  zBX (zV (isC w 0 a0) (f_X1_contractAt n a0 a1 w)) fun x2 w1 =>
  zBX (f_X1_at n a2 (103 : Int32) w1) fun x4 w3 =>
  zB2 (zV (isC w3 4 x2) (f_X5_overtime n x2 x4 w3)) fun x6 w5 =>
  some (.inr x6, w5)
theorem mt_X1_overtime : zMt yX1_overtime cX1_overtime 4 (some .int) 2 := ⟨q1113, q66, ⟨by decide, by decide⟩, by decide +kernel, by decide⟩
set_option maxHeartbeats 4000000 in
theorem k_X1_overtime {l : Launch} {n : Nat} {a0 : Option Nat} {a1 : Int32} {a2 : Int32} {w : zWd} (r : String ⊕ Int32) (w9 : zWd) (hf : f_X1_overtime n a0 a1 a2 w = some (r, w9)) : zCt l yX1_overtime cX1_overtime 4 (some .int) 8 [vA a0, vI a1, vI a2] w (zXI r w9) := by
  refine zCt_of (lv := [some (vA a0), some (vI a1), some (vI a2), none]) (by decide +kernel) 1 rfl rfl ?_
  intro X hX hI hN hQ
  have hX : zGd X RX1 cX1_overtime 4 (some .int) 8 := hX
  unfold f_X1_overtime at hf
  refine j_aload_n (pc := 0) hX dX1_overtime_0 rfl ?_
  refine j_iload_n (pc := 1) hX dX1_overtime_1 rfl ?_
  obtain ⟨⟨q_, w1⟩, hc_, hf⟩ := zob hf
  obtain ⟨hi_, hc_⟩ := zV_e hc_
  cases q_ with
  | inl E_ =>
    cases hf
    exact j_callVX (pc := 2) hX (ci := 0) mt_X1_contractAt q960 q962 qs10 hi_ ⟨_, rfl, rfl⟩ [vI a1] rfl rfl (Nat.le_of_ble_eq_true rfl) (by decide) dX1_overtime_2 hN hQ (k_X1_contractAt _ _ hc_)
  | inr x2 =>
    refine j_callV (pc := 2) hX (ci := 0) mt_X1_contractAt q960 q962 qs10 hi_ ⟨_, rfl, rfl⟩ [vI a1] rfl rfl (Nat.le_of_ble_eq_true rfl) (by decide) dX1_overtime_2 (k_X1_contractAt _ _ hc_) ?_
    refine j_astore_n (pc := 5) hX dX1_overtime_5 (by decide) [some (vA a0), some (vI a1), some (vI a2), some (vA x2)] rfl ?_
    refine j_aload_n (pc := 6) hX dX1_overtime_6 rfl ?_
    refine j_iload_n (pc := 7) hX dX1_overtime_7 rfl ?_
    refine j_bipush (pc := 8) hX (103 : Int32) dX1_overtime_8 (by decide +kernel) ?_
    obtain ⟨⟨q_, w3⟩, hc_, hf⟩ := zob hf
    cases q_ with
    | inl E_ =>
      cases hf
      exact j_callSX (pc := 10) hX mt_X1_at q507 q508 [vI a2, vI (103 : Int32)] rfl rfl (Nat.le_of_ble_eq_true rfl) (by decide) dX1_overtime_10 hN hQ (k_X1_at _ _ hc_)
    | inr x4 =>
      refine j_callS (pc := 10) hX mt_X1_at q507 q508 [vI a2, vI (103 : Int32)] rfl rfl (Nat.le_of_ble_eq_true rfl) (by decide) dX1_overtime_10 (k_X1_at _ _ hc_) ?_
      obtain ⟨x6, w5, hc_, hf⟩ := zB2_e hf
      obtain ⟨hi_, hc_⟩ := zV_e hc_
      refine j_callV (pc := 13) hX (ci := 4) mt_X5_overtime q1114 q1115 q1116 hi_ ⟨_, rfl, rfl⟩ [vI x4] rfl rfl (Nat.le_of_ble_eq_true rfl) (by decide) dX1_overtime_13 (k_X5_overtime _ _ hc_) ?_
      exact j_ireturn (pc := 16) hX hQ (by cases hf; rfl) dX1_overtime_16
def f_X7_init (n : Nat) (a0 : Option Nat) (a1 : Option Nat) (a2 : Int32) (w : zWd) : Option zWd :=
  (pA w 6 3 a0 a1).bind fun w1 =>
  if a0 = none then none else
  (pI w1 6 0 a0 a2).bind fun w2 =>
  some w2
theorem mt_X7_init : zMt yX7_init cX7_init 3 none 2 := ⟨q1134, q102, ⟨by decide, by decide⟩, by decide +kernel, by decide⟩
set_option maxHeartbeats 4000000 in
theorem k_X7_init {l : Launch} {n : Nat} {a0 : Option Nat} {a1 : Option Nat} {a2 : Int32} {w : zWd} (r : Unit) (w9 : zWd) (hf : f_X7_init n a0 a1 a2 w = some w9) : zCt l yX7_init cX7_init 3 none 1 [vA a0, vA a1, vI a2] w (.inr (none, w9)) := by
  refine zCt_of (lv := [some (vA a0), some (vA a1), some (vI a2)]) (by decide +kernel) 0 rfl rfl ?_
  intro X hX hI hN hQ
  have hX : zGd X RX7 cX7_init 3 none 1 := hX
  unfold f_X7_init at hf
  refine j_aload_n (pc := 0) hX dX7_init_0 rfl ?_
  refine j_aload_n (pc := 1) hX dX7_init_1 rfl ?_
  refine j_putAF (pc := 2) hX hI kX7 (k := 3) (Nat.le_of_ble_eq_true rfl) q1139 rfl rfl rfl rfl dX7_init_2 hf (fun w1 hf => ?_)
  refine j_aload_n (pc := 5) hX dX7_init_5 rfl ?_
  obtain ⟨hne_, hf⟩ := zGd_e hf
  refine j_objInit (pc := 6) hX (by decide) q1135 q124 q125 (by rw [zCs_eq]; exact Nat.le_of_ble_eq_true rfl) dX7_init_6 hne_ ?_
  refine j_aload_n (pc := 9) hX dX7_init_9 rfl ?_
  refine j_iload_n (pc := 10) hX dX7_init_10 rfl ?_
  refine j_putIF (pc := 11) hX hI kX7 (k := 0) (Nat.le_of_ble_eq_true rfl) q1136 rfl rfl rfl rfl dX7_init_11 hf (fun w2 hf => ?_)
  exact j_return (pc := 14) hX hQ (by cases hf; rfl) dX7_init_14
def f_X7_hasContractOn_L4b (n : Nat) (c0 : Option Nat) (c1 : Int32) (rec : Int32 → Int32 → zWd → Option (Int32 × zWd)) (v2 : Int32) (v3 : Int32) (w : zWd) : Option (Int32 × zWd) :=
  (gA w 6 3 c0).bind fun x1 =>
  (gA w 0 0 x1).bind fun x2 =>
  zB2 (zV (isC w 18 x2) (f_J2_size n x2 w)) fun x4 w3 =>
  if x4 ≤ v3 then
    some (v2, w3)
  else
    (gA w3 6 3 c0).bind fun x5 =>
    (gA w3 0 0 x5).bind fun x6 =>
    zB2 (zV (isC w3 18 x6) (f_J2_get n x6 v3 w3)) fun x8 w7 =>
    (cK w7 [4] x8).bind fun _ =>
    (gI w7 4 0 x8).bind fun x9 =>
    (gI w7 6 0 c0).bind fun x10 =>
    zB2 (
      if x9 = x10 then
        (gA w7 6 3 c0).bind fun x11 =>
        (gA w7 0 0 x11).bind fun x12 =>
        zB2 (zV (isC w7 18 x12) (f_J2_get n x12 v3 w7)) fun x14 w13 =>
        (cK w13 [4] x14).bind fun _ =>
        zB2 (zV (isC w13 4 x14) (f_X5_has n x14 c1 w13)) fun x16 w15 =>
        if x16 = (0 : Int32) then
          some ((0 : Int32), w15)
        else
          some ((1 : Int32), w15)
      else
        some ((0 : Int32), w7)
      ) fun x17 w18 =>
    rec (v2 ||| x17) (v3 + (1)) w18
def f_X7_hasContractOn_L4 (n : Nat) (c0 : Option Nat) (c1 : Int32) : Nat → Int32 → Int32 → zWd → Option (Int32 × zWd)
  | 0, _, _, _ => none
  | k + 1, v2, v3, w => f_X7_hasContractOn_L4b n c0 c1 (f_X7_hasContractOn_L4 n c0 c1 k) v2 v3 w
def f_X7_hasContractOn (n : Nat) (a0 : Option Nat) (a1 : Int32) (w : zWd) : Option (Int32 × zWd) :=
  zB2 (f_X7_hasContractOn_L4 n a0 a1 n (0 : Int32) (0 : Int32) w) fun x19 w20 =>
  zRz x19 w20
theorem mt_X7_hasContractOn : zMt yX7_hasContractOn cX7_hasContractOn 4 (some .boolean) 1 := ⟨q1160, q102, ⟨by decide, by decide⟩, by decide +kernel, by decide⟩
set_option maxHeartbeats 4000000 in
theorem lp_X7_hasContractOn_L4 {X : zX} (hX : zGd X RX7 cX7_hasContractOn 4 (some .boolean) 4) (n : Nat) (c0 : Option Nat) (c1 : Int32) : ∀ (k : Nat) (v2 : Int32) (v3 : Int32) (w : zWd) (o2 : Int32) (w9 : zWd) , f_X7_hasContractOn_L4 n c0 c1 k v2 v3 w = some (o2, w9) → zJ X 83 [some (vA c0), some (vI c1), some (vI o2), none] [] w9 → zJ X 4 [some (vA c0), some (vI c1), some (vI v2), some (vI v3)] [] w := by
  intro k
  induction k with
  | zero => intro v2 v3 w o2 w9 hf _; exact nomatch (show (none : Option (Int32 × zWd)) = _ from hf)
  | succ k ih =>
    intro v2 v3 w o2 w9 hf kx
    have hf : f_X7_hasContractOn_L4b n c0 c1 (f_X7_hasContractOn_L4 n c0 c1 k) v2 v3 w = _ := hf
    unfold f_X7_hasContractOn_L4b at hf
    refine j_iload_n (pc := 4) hX dX7_hasContractOn_4 rfl ?_
    refine j_aload_n (pc := 5) hX dX7_hasContractOn_5 rfl ?_
    refine j_getA (pc := 6) hX kX7 (k := 3) (Nat.le_of_ble_eq_true rfl) q1139 (Or.inl rfl) dX7_hasContractOn_6 hf (fun x1 hx_ hf => ?_)
    refine j_getAN (pc := 9) hX kX1 (k := 0) (Nat.le_of_ble_eq_true rfl) q330 rfl dX7_hasContractOn_9 hf (fun x2 hx_ hf => ?_)
    obtain ⟨x4, w3, hc_, hf⟩ := zB2_e hf
    obtain ⟨hi_, hc_⟩ := zV_e hc_
    refine j_callF (pc := 12) hX (ci := 18) mt_J2_size q1162 q418 q416 (by decide +kernel) rfl hi_ ⟨_, rfl, rfl⟩ [] rfl rfl (Nat.le_of_ble_eq_true rfl) (by decide) dX7_hasContractOn_12 (k_J2_size _ _ hc_) ?_
    refine j_icmp_ge (pc := 17) hX 83 dX7_hasContractOn_17 rfl hf (fun h_ hf => ?_) (fun h_ hf => ?_)
    · refine j_fg [3] [some (vA c0), some (vI c1), some (vI v2), none] rfl ?_
      cases hf
      exact kx
    · refine j_iload_n (pc := 20) hX dX7_hasContractOn_20 rfl ?_
      refine j_aload_n (pc := 21) hX dX7_hasContractOn_21 rfl ?_
      refine j_getA (pc := 22) hX kX7 (k := 3) (Nat.le_of_ble_eq_true rfl) q1139 (Or.inl rfl) dX7_hasContractOn_22 hf (fun x5 hx_ hf => ?_)
      refine j_getAN (pc := 25) hX kX1 (k := 0) (Nat.le_of_ble_eq_true rfl) q330 rfl dX7_hasContractOn_25 hf (fun x6 hx_ hf => ?_)
      refine j_iload_n (pc := 28) hX dX7_hasContractOn_28 rfl ?_
      obtain ⟨x8, w7, hc_, hf⟩ := zB2_e hf
      obtain ⟨hi_, hc_⟩ := zV_e hc_
      refine j_callF (pc := 29) hX (ci := 18) mt_J2_get q1164 q970 q968 (by decide +kernel) rfl hi_ ⟨_, rfl, rfl⟩ [vI v3] rfl rfl (Nat.le_of_ble_eq_true rfl) (by decide) dX7_hasContractOn_29 (k_J2_get _ _ hc_) ?_
      refine j_cast (pc := 34) hX q1165 [4] (zC1 ⟨_, rfl, Or.inl rfl⟩) dX7_hasContractOn_34 hf (fun hf => ?_)
      refine j_getIN (pc := 37) hX kX5 (k := 0) (Nat.le_of_ble_eq_true rfl) q917 rfl dX7_hasContractOn_37 hf (fun x9 hx_ hf => ?_)
      refine j_aload_n (pc := 40) hX dX7_hasContractOn_40 rfl ?_
      refine j_getI (pc := 41) hX kX7 (k := 0) (Nat.le_of_ble_eq_true rfl) q1136 (Or.inl rfl) dX7_hasContractOn_41 hf (fun x10 hx_ hf => ?_)
      obtain ⟨x17, w18, hm_, hf⟩ := zB2_e hf
      have kj44 : zJ X 75 [some (vA c0), some (vI c1), none, some (vI v3)] [vI x17, vI v2] w18 := by
        clear hm_
        refine j_ior (pc := 75) hX dX7_hasContractOn_75 ?_
        refine j_istore_n (pc := 76) hX dX7_hasContractOn_76 (by decide) [some (vA c0), some (vI c1), some (vI (v2 ||| x17)), some (vI v3)] rfl ?_
        refine j_iinc (pc := 77) hX (1) dX7_hasContractOn_77 rfl rfl (by decide) [some (vA c0), some (vI c1), some (vI (v2 ||| x17)), some (vI (v3 + (1)))] rfl ?_
        refine j_goto (pc := 80) hX 4 dX7_hasContractOn_80 rfl ?_
        exact ih _ _ _ _ _ hf kx
      have hf := hm_
      refine j_icmp_ne (pc := 44) hX 74 dX7_hasContractOn_44 rfl hf (fun h_ hf => ?_) (fun h_ hf => ?_)
      · refine j_iconst (pc := 74) hX (0 : Int32) dX7_hasContractOn_74 rfl ?_
        refine j_fg [2] [some (vA c0), some (vI c1), none, some (vI v3)] rfl ?_
        cases hf
        exact kj44
      · refine j_aload_n (pc := 47) hX dX7_hasContractOn_47 rfl ?_
        refine j_getA (pc := 48) hX kX7 (k := 3) (Nat.le_of_ble_eq_true rfl) q1139 (Or.inl rfl) dX7_hasContractOn_48 hf (fun x11 hx_ hf => ?_)
        refine j_getAN (pc := 51) hX kX1 (k := 0) (Nat.le_of_ble_eq_true rfl) q330 rfl dX7_hasContractOn_51 hf (fun x12 hx_ hf => ?_)
        refine j_iload_n (pc := 54) hX dX7_hasContractOn_54 rfl ?_
        obtain ⟨x14, w13, hc_, hf⟩ := zB2_e hf
        obtain ⟨hi_, hc_⟩ := zV_e hc_
        refine j_callF (pc := 55) hX (ci := 18) mt_J2_get q1164 q970 q968 (by decide +kernel) rfl hi_ ⟨_, rfl, rfl⟩ [vI v3] rfl rfl (Nat.le_of_ble_eq_true rfl) (by decide) dX7_hasContractOn_55 (k_J2_get _ _ hc_) ?_
        refine j_cast (pc := 60) hX q1165 [4] (zC1 ⟨_, rfl, Or.inl rfl⟩) dX7_hasContractOn_60 hf (fun hf => ?_)
        refine j_iload_n (pc := 63) hX dX7_hasContractOn_63 rfl ?_
        obtain ⟨x16, w15, hc_, hf⟩ := zB2_e hf
        obtain ⟨hi_, hc_⟩ := zV_e hc_
        refine j_callV (pc := 64) hX (ci := 4) mt_X5_has q1166 q1000 q1001 hi_ ⟨_, rfl, rfl⟩ [vI c1] rfl rfl (Nat.le_of_ble_eq_true rfl) (by decide) dX7_hasContractOn_64 (k_X5_has _ _ hc_) ?_
        refine j_if_eq (pc := 67) hX 74 dX7_hasContractOn_67 rfl hf (fun h_ hf => ?_) (fun h_ hf => ?_)
        · refine j_iconst (pc := 74) hX (0 : Int32) dX7_hasContractOn_74 rfl ?_
          refine j_fg [2] [some (vA c0), some (vI c1), none, some (vI v3)] rfl ?_
          cases hf
          exact kj44
        · refine j_iconst (pc := 70) hX (1 : Int32) dX7_hasContractOn_70 rfl ?_
          refine j_goto (pc := 71) hX 75 dX7_hasContractOn_71 rfl ?_
          refine j_fg [2] [some (vA c0), some (vI c1), none, some (vI v3)] rfl ?_
          cases hf
          exact kj44
set_option maxHeartbeats 4000000 in
theorem k_X7_hasContractOn {l : Launch} {n : Nat} {a0 : Option Nat} {a1 : Int32} {w : zWd} (r : Int32) (w9 : zWd) (hf : f_X7_hasContractOn n a0 a1 w = some (r, w9)) : zCt l yX7_hasContractOn cX7_hasContractOn 4 (some .boolean) 4 [vA a0, vI a1] w (.inr (some (vI r), w9)) := by
  refine zCt_of (lv := [some (vA a0), some (vI a1), none, none]) (by decide +kernel) 2 rfl rfl ?_
  intro X hX hI hN hQ
  have hX : zGd X RX7 cX7_hasContractOn 4 (some .boolean) 4 := hX
  unfold f_X7_hasContractOn at hf
  refine j_iconst (pc := 0) hX (0 : Int32) dX7_hasContractOn_0 rfl ?_
  refine j_istore_n (pc := 1) hX dX7_hasContractOn_1 (by decide) [some (vA a0), some (vI a1), some (vI (0 : Int32)), none] rfl ?_
  refine j_iconst (pc := 2) hX (0 : Int32) dX7_hasContractOn_2 rfl ?_
  refine j_istore_n (pc := 3) hX dX7_hasContractOn_3 (by decide) [some (vA a0), some (vI a1), some (vI (0 : Int32)), some (vI (0 : Int32))] rfl ?_
  obtain ⟨x19, w20, hm_, hf⟩ := zB2_e hf
  refine lp_X7_hasContractOn_L4 hX n _ _ _ _ _ _ _ _ hm_ ?_
  refine j_iload_n (pc := 83) hX dX7_hasContractOn_83 rfl ?_
  obtain ⟨hz_, hf⟩ := zRz_e hf
  exact j_zreturn (pc := 84) hX hQ hz_ (by cases hf; rfl) dX7_hasContractOn_84
def f_X7_begin (n : Nat) (a0 : Option Nat) (a1 : Int32) (w : zWd) : Option zWd :=
  if (a1 - a1 / (30 : Int32) * (30 : Int32)) = (0 : Int32) then
    if a1 = (0 : Int32) then
      some w
    else
      (gI w 6 2 a0).bind fun x1 =>
      zB2 (zV (isC w 6 a0) (f_X7_hasContractOn n a0 (a1 - (1 : Int32)) w)) fun x3 w2 =>
      (
        if x3 = (0 : Int32) then
          some (0 : Int32)
        else
          (gA w2 6 3 a0).bind fun x4 =>
          (gI w2 0 3 x4).bind fun x5 =>
          some x5
        ).bind fun x6 =>
      (pI w2 6 2 a0 (x1 + x6)).bind fun w7 =>
      (
        if (a1 / (30 : Int32)) = (12 : Int32) then
          (gA w7 6 3 a0).bind fun x11 =>
          (gI w7 0 4 x11).bind fun x12 =>
          (gI w7 6 1 a0).bind fun x13 =>
          (gI w7 6 2 a0).bind fun x14 =>
          zB2 (f_J7_min n x12 (x13 + x14) w7) fun x16 w15 =>
          (pI w15 6 1 a0 x16).bind fun w17 =>
          (pI w17 6 2 a0 (0 : Int32)).bind fun w18 =>
          some w18
        else
          (gA w7 6 3 a0).bind fun x8 =>
          (gI w7 0 5 x8).bind fun x9 =>
          if (a1 / (30 : Int32)) = ((12 : Int32) + x9) then
            (pI w7 6 1 a0 (0 : Int32)).bind fun w10 =>
            some w10
          else
            some w7
        ).bind fun w19 =>
      some w19
  else
    some w
theorem mt_X7_begin : zMt yX7_begin cX7_begin 3 none 1 := ⟨q1156, q102, ⟨by decide, by decide⟩, by decide +kernel, by decide⟩
set_option maxHeartbeats 4000000 in
theorem k_X7_begin {l : Launch} {n : Nat} {a0 : Option Nat} {a1 : Int32} {w : zWd} (r : Unit) (w9 : zWd) (hf : f_X7_begin n a0 a1 w = some w9) : zCt l yX7_begin cX7_begin 3 none 5 [vA a0, vI a1] w (.inr (none, w9)) := by
  refine zCt_of (lv := [some (vA a0), some (vI a1), none]) (by decide +kernel) 1 rfl rfl ?_
  intro X hX hI hN hQ
  have hX : zGd X RX7 cX7_begin 3 none 5 := hX
  unfold f_X7_begin at hf
  refine j_iload_n (pc := 0) hX dX7_begin_0 rfl ?_
  refine j_bipush (pc := 1) hX (30 : Int32) dX7_begin_1 (by decide +kernel) ?_
  refine j_irem (pc := 3) hX dX7_begin_3 (by decide) ?_
  refine j_if_ne (pc := 4) hX 11 dX7_begin_4 rfl hf (fun h_ hf => ?_) (fun h_ hf => ?_)
  · exact j_return (pc := 11) hX hQ (by cases hf; rfl) dX7_begin_11
  · refine j_iload_n (pc := 7) hX dX7_begin_7 rfl ?_
    refine j_if_ne (pc := 8) hX 12 dX7_begin_8 rfl hf (fun h_ hf => ?_) (fun h_ hf => ?_)
    · refine j_aload_n (pc := 12) hX dX7_begin_12 rfl ?_
      refine j_dup (pc := 13) hX rfl dX7_begin_13 ?_
      refine j_getI (pc := 14) hX kX7 (k := 2) (Nat.le_of_ble_eq_true rfl) q1138 (Or.inl rfl) dX7_begin_14 hf (fun x1 hx_ hf => ?_)
      refine j_aload_n (pc := 17) hX dX7_begin_17 rfl ?_
      refine j_iload_n (pc := 18) hX dX7_begin_18 rfl ?_
      refine j_iconst (pc := 19) hX (1 : Int32) dX7_begin_19 rfl ?_
      refine j_isub (pc := 20) hX dX7_begin_20 ?_
      obtain ⟨x3, w2, hc_, hf⟩ := zB2_e hf
      obtain ⟨hi_, hc_⟩ := zV_e hc_
      refine j_callV (pc := 21) hX (ci := 6) mt_X7_hasContractOn q1157 q1159 qs13 hi_ ⟨_, rfl, rfl⟩ [vI (a1 - (1 : Int32))] rfl rfl (Nat.le_of_ble_eq_true rfl) (by decide) dX7_begin_21 (k_X7_hasContractOn _ _ hc_) ?_
      obtain ⟨x6, hm_, hf⟩ := zob hf
      have kj24 : zJ X 38 [some (vA a0), some (vI a1), none] [vI x6, vI x1, vA a0] w2 := by
        clear hm_
        refine j_iadd (pc := 38) hX dX7_begin_38 ?_
        refine j_putI (pc := 39) hX kX7 (k := 2) (Nat.le_of_ble_eq_true rfl) q1138 (Or.inl rfl) rfl rfl dX7_begin_39 hf (fun w7 hf => ?_)
        refine j_iload_n (pc := 42) hX dX7_begin_42 rfl ?_
        refine j_bipush (pc := 43) hX (30 : Int32) dX7_begin_43 (by decide +kernel) ?_
        refine j_idiv (pc := 45) hX dX7_begin_45 (by decide) ?_
        refine j_istore_n (pc := 46) hX dX7_begin_46 (by decide) [some (vA a0), some (vI a1), some (vI (a1 / (30 : Int32)))] rfl ?_
        refine j_iload_n (pc := 47) hX dX7_begin_47 rfl ?_
        refine j_bipush (pc := 48) hX (12 : Int32) dX7_begin_48 (by decide +kernel) ?_
        obtain ⟨w19, hm_, hf⟩ := zob hf
        have kj50 : zJ X 103 [none, none, none] [] w19 := by
          clear hm_
          exact j_return (pc := 103) hX hQ (by cases hf; rfl) dX7_begin_103
        have hf := hm_
        refine j_icmp_ne (pc := 50) hX 84 dX7_begin_50 rfl hf (fun h_ hf => ?_) (fun h_ hf => ?_)
        · refine j_iload_n (pc := 84) hX dX7_begin_84 rfl ?_
          refine j_bipush (pc := 85) hX (12 : Int32) dX7_begin_85 (by decide +kernel) ?_
          refine j_aload_n (pc := 87) hX dX7_begin_87 rfl ?_
          refine j_getA (pc := 88) hX kX7 (k := 3) (Nat.le_of_ble_eq_true rfl) q1139 (Or.inl rfl) dX7_begin_88 hf (fun x8 hx_ hf => ?_)
          refine j_getIN (pc := 91) hX kX1 (k := 5) (Nat.le_of_ble_eq_true rfl) q340 rfl dX7_begin_91 hf (fun x9 hx_ hf => ?_)
          refine j_iadd (pc := 94) hX dX7_begin_94 ?_
          refine j_icmp_ne (pc := 95) hX 103 dX7_begin_95 rfl hf (fun h_ hf => ?_) (fun h_ hf => ?_)
          · refine j_fg [0, 1, 2] [none, none, none] rfl ?_
            cases hf
            exact kj50
          · refine j_aload_n (pc := 98) hX dX7_begin_98 rfl ?_
            refine j_iconst (pc := 99) hX (0 : Int32) dX7_begin_99 rfl ?_
            refine j_putI (pc := 100) hX kX7 (k := 1) (Nat.le_of_ble_eq_true rfl) q1137 (Or.inl rfl) rfl rfl dX7_begin_100 hf (fun w10 hf => ?_)
            refine j_fg [0, 1, 2] [none, none, none] rfl ?_
            cases hf
            exact kj50
        · refine j_aload_n (pc := 53) hX dX7_begin_53 rfl ?_
          refine j_aload_n (pc := 54) hX dX7_begin_54 rfl ?_
          refine j_getA (pc := 55) hX kX7 (k := 3) (Nat.le_of_ble_eq_true rfl) q1139 (Or.inl rfl) dX7_begin_55 hf (fun x11 hx_ hf => ?_)
          refine j_getIN (pc := 58) hX kX1 (k := 4) (Nat.le_of_ble_eq_true rfl) q338 rfl dX7_begin_58 hf (fun x12 hx_ hf => ?_)
          refine j_aload_n (pc := 61) hX dX7_begin_61 rfl ?_
          refine j_getI (pc := 62) hX kX7 (k := 1) (Nat.le_of_ble_eq_true rfl) q1137 (Or.inl rfl) dX7_begin_62 hf (fun x13 hx_ hf => ?_)
          refine j_aload_n (pc := 65) hX dX7_begin_65 rfl ?_
          refine j_getI (pc := 66) hX kX7 (k := 2) (Nat.le_of_ble_eq_true rfl) q1138 (Or.inl rfl) dX7_begin_66 hf (fun x14 hx_ hf => ?_)
          refine j_iadd (pc := 69) hX dX7_begin_69 ?_
          obtain ⟨x16, w15, hc_, hf⟩ := zB2_e hf
          refine j_callS (pc := 70) hX mt_J7_min q1167 q303 [vI x12, vI (x13 + x14)] rfl rfl (Nat.le_of_ble_eq_true rfl) (by decide) dX7_begin_70 (k_J7_min _ _ hc_) ?_
          refine j_putI (pc := 73) hX kX7 (k := 1) (Nat.le_of_ble_eq_true rfl) q1137 (Or.inl rfl) rfl rfl dX7_begin_73 hf (fun w17 hf => ?_)
          refine j_aload_n (pc := 76) hX dX7_begin_76 rfl ?_
          refine j_iconst (pc := 77) hX (0 : Int32) dX7_begin_77 rfl ?_
          refine j_putI (pc := 78) hX kX7 (k := 2) (Nat.le_of_ble_eq_true rfl) q1138 (Or.inl rfl) rfl rfl dX7_begin_78 hf (fun w18 hf => ?_)
          refine j_goto (pc := 81) hX 103 dX7_begin_81 rfl ?_
          refine j_fg [0, 1, 2] [none, none, none] rfl ?_
          cases hf
          exact kj50
      have hf := hm_
      refine j_if_eq (pc := 24) hX 37 dX7_begin_24 rfl hf (fun h_ hf => ?_) (fun h_ hf => ?_)
      · refine j_iconst (pc := 37) hX (0 : Int32) dX7_begin_37 rfl ?_
        cases hf
        exact kj24
      · refine j_aload_n (pc := 27) hX dX7_begin_27 rfl ?_
        refine j_getA (pc := 28) hX kX7 (k := 3) (Nat.le_of_ble_eq_true rfl) q1139 (Or.inl rfl) dX7_begin_28 hf (fun x4 hx_ hf => ?_)
        refine j_getIN (pc := 31) hX kX1 (k := 3) (Nat.le_of_ble_eq_true rfl) q336 rfl dX7_begin_31 hf (fun x5 hx_ hf => ?_)
        refine j_goto (pc := 34) hX 38 dX7_begin_34 rfl ?_
        cases hf
        exact kj24
    · exact j_return (pc := 11) hX hQ (by cases hf; rfl) dX7_begin_11
def f_X7_take_L2b (n : Nat) (c0 : Option Nat) (c1 : Int32) (rec : Int32 → zWd → Option (zWd)) (v2 : Int32) (w : zWd) : Option (zWd) :=
  (gA w 6 3 c0).bind fun x1 =>
  (gA w 0 2 x1).bind fun x2 =>
  zB2 (zV (isC w 18 x2) (f_J2_size n x2 w)) fun x4 w3 =>
  if x4 ≤ v2 then
    some w3
  else
    (gA w3 6 3 c0).bind fun x5 =>
    (gA w3 0 2 x5).bind fun x6 =>
    zB2 (zV (isC w3 18 x6) (f_J2_get n x6 v2 w3)) fun x8 w7 =>
    (cK w7 [7] x8).bind fun _ =>
    (gA w7 7 0 x8).bind fun x9 =>
    (gI w7 4 0 x9).bind fun x10 =>
    (gI w7 6 0 c0).bind fun x11 =>
    (
      if x10 = x11 then
        (gI w7 7 1 x8).bind fun x12 =>
        if x12 = c1 then
          (gI w7 6 1 c0).bind fun x13 =>
          (gI w7 6 2 c0).bind fun x14 =>
          (
            if (x13 + x14) < (10 : Int32) then
              some (0 : Int32)
            else
              some (1 : Int32)
            ).bind fun x15 =>
          (pZ w7 7 2 x8 x15).bind fun w16 =>
          (gI w16 7 2 x8).bind fun x17 =>
          zB2 (
            if x17 = (0 : Int32) then
              some ((0 : Int32), w16)
            else
              (gI w16 6 1 c0).bind fun x18 =>
              zB2 (f_J7_min n x18 (10 : Int32) w16) fun x20 w19 =>
              some (x20, w19)
            ) fun x21 w22 =>
          (gI w22 6 1 c0).bind fun x23 =>
          (pI w22 6 1 c0 (x23 - x21)).bind fun w24 =>
          (gI w24 6 2 c0).bind fun x25 =>
          (gI w24 7 2 x8).bind fun x26 =>
          (
            if x26 = (0 : Int32) then
              some (0 : Int32)
            else
              some ((10 : Int32) - x21)
            ).bind fun x27 =>
          (pI w24 6 2 c0 (x25 - x27)).bind fun w28 =>
          some w28
        else
          some w7
      else
        some w7
      ).bind fun w29 =>
    rec (v2 + (1)) w29
def f_X7_take_L2 (n : Nat) (c0 : Option Nat) (c1 : Int32) : Nat → Int32 → zWd → Option (zWd)
  | 0, _, _ => none
  | k + 1, v2, w => f_X7_take_L2b n c0 c1 (f_X7_take_L2 n c0 c1 k) v2 w
def f_X7_take (n : Nat) (a0 : Option Nat) (a1 : Int32) (w : zWd) : Option zWd :=
  (f_X7_take_L2 n a0 a1 n (0 : Int32) w).bind fun w30 =>
  some w30
theorem mt_X7_take : zMt yX7_take cX7_take 5 none 1 := ⟨q1171, q102, ⟨by decide, by decide⟩, by decide +kernel, by decide⟩
set_option maxHeartbeats 4000000 in
theorem lp_X7_take_L2 {X : zX} (hX : zGd X RX7 cX7_take 5 none 4) (n : Nat) (c0 : Option Nat) (c1 : Int32) : ∀ (k : Nat) (v2 : Int32) (w : zWd) (w9 : zWd) , f_X7_take_L2 n c0 c1 k v2 w = some w9 → zJ X 144 [some (vA c0), some (vI c1), none, none, none] [] w9 → zJ X 2 [some (vA c0), some (vI c1), some (vI v2), none, none] [] w := by
  intro k
  induction k with
  | zero => intro v2 w w9 hf _; exact nomatch (show (none : Option (zWd)) = _ from hf)
  | succ k ih =>
    intro v2 w w9 hf kx
    have hf : f_X7_take_L2b n c0 c1 (f_X7_take_L2 n c0 c1 k) v2 w = _ := hf
    unfold f_X7_take_L2b at hf
    refine j_iload_n (pc := 2) hX dX7_take_2 rfl ?_
    refine j_aload_n (pc := 3) hX dX7_take_3 rfl ?_
    refine j_getA (pc := 4) hX kX7 (k := 3) (Nat.le_of_ble_eq_true rfl) q1139 (Or.inl rfl) dX7_take_4 hf (fun x1 hx_ hf => ?_)
    refine j_getAN (pc := 7) hX kX1 (k := 2) (Nat.le_of_ble_eq_true rfl) q334 rfl dX7_take_7 hf (fun x2 hx_ hf => ?_)
    obtain ⟨x4, w3, hc_, hf⟩ := zB2_e hf
    obtain ⟨hi_, hc_⟩ := zV_e hc_
    refine j_callF (pc := 10) hX (ci := 18) mt_J2_size q1162 q418 q416 (by decide +kernel) rfl hi_ ⟨_, rfl, rfl⟩ [] rfl rfl (Nat.le_of_ble_eq_true rfl) (by decide) dX7_take_10 (k_J2_size _ _ hc_) ?_
    refine j_icmp_ge (pc := 15) hX 144 dX7_take_15 rfl hf (fun h_ hf => ?_) (fun h_ hf => ?_)
    · refine j_fg [2] [some (vA c0), some (vI c1), none, none, none] rfl ?_
      cases hf
      exact kx
    · refine j_aload_n (pc := 18) hX dX7_take_18 rfl ?_
      refine j_getA (pc := 19) hX kX7 (k := 3) (Nat.le_of_ble_eq_true rfl) q1139 (Or.inl rfl) dX7_take_19 hf (fun x5 hx_ hf => ?_)
      refine j_getAN (pc := 22) hX kX1 (k := 2) (Nat.le_of_ble_eq_true rfl) q334 rfl dX7_take_22 hf (fun x6 hx_ hf => ?_)
      refine j_iload_n (pc := 25) hX dX7_take_25 rfl ?_
      obtain ⟨x8, w7, hc_, hf⟩ := zB2_e hf
      obtain ⟨hi_, hc_⟩ := zV_e hc_
      refine j_callF (pc := 26) hX (ci := 18) mt_J2_get q1164 q970 q968 (by decide +kernel) rfl hi_ ⟨_, rfl, rfl⟩ [vI v2] rfl rfl (Nat.le_of_ble_eq_true rfl) (by decide) dX7_take_26 (k_J2_get _ _ hc_) ?_
      refine j_cast (pc := 31) hX q1172 [7] (zC1 ⟨_, rfl, Or.inl rfl⟩) dX7_take_31 hf (fun hf => ?_)
      refine j_astore_n (pc := 34) hX dX7_take_34 (by decide) [some (vA c0), some (vI c1), some (vI v2), some (vA x8), none] rfl ?_
      refine j_aload_n (pc := 35) hX dX7_take_35 rfl ?_
      refine j_getAN (pc := 36) hX kX8 (k := 0) (Nat.le_of_ble_eq_true rfl) q1223 rfl dX7_take_36 hf (fun x9 hx_ hf => ?_)
      refine j_getIN (pc := 39) hX kX5 (k := 0) (Nat.le_of_ble_eq_true rfl) q917 rfl dX7_take_39 hf (fun x10 hx_ hf => ?_)
      refine j_aload_n (pc := 42) hX dX7_take_42 rfl ?_
      refine j_getI (pc := 43) hX kX7 (k := 0) (Nat.le_of_ble_eq_true rfl) q1136 (Or.inl rfl) dX7_take_43 hf (fun x11 hx_ hf => ?_)
      obtain ⟨w29, hm_, hf⟩ := zob hf
      have kj46 : zJ X 138 [some (vA c0), some (vI c1), some (vI v2), none, none] [] w29 := by
        clear hm_
        refine j_iinc (pc := 138) hX (1) dX7_take_138 rfl rfl (by decide) [some (vA c0), some (vI c1), some (vI (v2 + (1))), none, none] rfl ?_
        refine j_goto (pc := 141) hX 2 dX7_take_141 rfl ?_
        exact ih _ _ _ hf kx
      have hf := hm_
      refine j_icmp_ne (pc := 46) hX 138 dX7_take_46 rfl hf (fun h_ hf => ?_) (fun h_ hf => ?_)
      · refine j_fg [3] [some (vA c0), some (vI c1), some (vI v2), none, none] rfl ?_
        cases hf
        exact kj46
      · refine j_aload_n (pc := 49) hX dX7_take_49 rfl ?_
        refine j_getIN (pc := 50) hX kX8 (k := 1) (Nat.le_of_ble_eq_true rfl) q1226 rfl dX7_take_50 hf (fun x12 hx_ hf => ?_)
        refine j_iload_n (pc := 53) hX dX7_take_53 rfl ?_
        refine j_icmp_ne (pc := 54) hX 138 dX7_take_54 rfl hf (fun h_ hf => ?_) (fun h_ hf => ?_)
        · refine j_fg [3] [some (vA c0), some (vI c1), some (vI v2), none, none] rfl ?_
          cases hf
          exact kj46
        · refine j_aload_n (pc := 57) hX dX7_take_57 rfl ?_
          refine j_aload_n (pc := 58) hX dX7_take_58 rfl ?_
          refine j_getI (pc := 59) hX kX7 (k := 1) (Nat.le_of_ble_eq_true rfl) q1137 (Or.inl rfl) dX7_take_59 hf (fun x13 hx_ hf => ?_)
          refine j_aload_n (pc := 62) hX dX7_take_62 rfl ?_
          refine j_getI (pc := 63) hX kX7 (k := 2) (Nat.le_of_ble_eq_true rfl) q1138 (Or.inl rfl) dX7_take_63 hf (fun x14 hx_ hf => ?_)
          refine j_iadd (pc := 66) hX dX7_take_66 ?_
          refine j_bipush (pc := 67) hX (10 : Int32) dX7_take_67 (by decide +kernel) ?_
          obtain ⟨x15, hm_, hf⟩ := zob hf
          have kj69 : zJ X 77 [some (vA c0), some (vI c1), some (vI v2), some (vA x8), none] [vI x15, vA x8] w7 := by
            clear hm_
            refine j_putZN (pc := 77) hX kX8 (k := 2) (Nat.le_of_ble_eq_true rfl) q1228 rfl rfl rfl dX7_take_77 hf (fun w16 hf => ?_)
            refine j_aload_n (pc := 80) hX dX7_take_80 rfl ?_
            refine j_getIN (pc := 81) hX kX8 (k := 2) (Nat.le_of_ble_eq_true rfl) q1228 rfl dX7_take_81 hf (fun x17 hx_ hf => ?_)
            obtain ⟨x21, w22, hm_, hf⟩ := zB2_e hf
            have kj84 : zJ X 100 [some (vA c0), some (vI c1), some (vI v2), some (vA x8), none] [vI x21] w22 := by
              clear hm_
              refine j_istore (pc := 100) hX dX7_take_100 (by decide) [some (vA c0), some (vI c1), some (vI v2), some (vA x8), some (vI x21)] rfl ?_
              refine j_aload_n (pc := 102) hX dX7_take_102 rfl ?_
              refine j_dup (pc := 103) hX rfl dX7_take_103 ?_
              refine j_getI (pc := 104) hX kX7 (k := 1) (Nat.le_of_ble_eq_true rfl) q1137 (Or.inl rfl) dX7_take_104 hf (fun x23 hx_ hf => ?_)
              refine j_iload (pc := 107) hX dX7_take_107 rfl ?_
              refine j_isub (pc := 109) hX dX7_take_109 ?_
              refine j_putI (pc := 110) hX kX7 (k := 1) (Nat.le_of_ble_eq_true rfl) q1137 (Or.inl rfl) rfl rfl dX7_take_110 hf (fun w24 hf => ?_)
              refine j_aload_n (pc := 113) hX dX7_take_113 rfl ?_
              refine j_dup (pc := 114) hX rfl dX7_take_114 ?_
              refine j_getI (pc := 115) hX kX7 (k := 2) (Nat.le_of_ble_eq_true rfl) q1138 (Or.inl rfl) dX7_take_115 hf (fun x25 hx_ hf => ?_)
              refine j_aload_n (pc := 118) hX dX7_take_118 rfl ?_
              refine j_getIN (pc := 119) hX kX8 (k := 2) (Nat.le_of_ble_eq_true rfl) q1228 rfl dX7_take_119 hf (fun x26 hx_ hf => ?_)
              obtain ⟨x27, hm_, hf⟩ := zob hf
              have kj122 : zJ X 134 [some (vA c0), some (vI c1), some (vI v2), none, none] [vI x27, vI x25, vA c0] w24 := by
                clear hm_
                refine j_isub (pc := 134) hX dX7_take_134 ?_
                refine j_putI (pc := 135) hX kX7 (k := 2) (Nat.le_of_ble_eq_true rfl) q1138 (Or.inl rfl) rfl rfl dX7_take_135 hf (fun w28 hf => ?_)
                cases hf
                exact kj46
              have hf := hm_
              refine j_if_eq (pc := 122) hX 133 dX7_take_122 rfl hf (fun h_ hf => ?_) (fun h_ hf => ?_)
              · refine j_iconst (pc := 133) hX (0 : Int32) dX7_take_133 rfl ?_
                refine j_fg [3, 4] [some (vA c0), some (vI c1), some (vI v2), none, none] rfl ?_
                cases hf
                exact kj122
              · refine j_bipush (pc := 125) hX (10 : Int32) dX7_take_125 (by decide +kernel) ?_
                refine j_iload (pc := 127) hX dX7_take_127 rfl ?_
                refine j_isub (pc := 129) hX dX7_take_129 ?_
                refine j_goto (pc := 130) hX 134 dX7_take_130 rfl ?_
                refine j_fg [3, 4] [some (vA c0), some (vI c1), some (vI v2), none, none] rfl ?_
                cases hf
                exact kj122
            have hf := hm_
            refine j_if_eq (pc := 84) hX 99 dX7_take_84 rfl hf (fun h_ hf => ?_) (fun h_ hf => ?_)
            · refine j_iconst (pc := 99) hX (0 : Int32) dX7_take_99 rfl ?_
              cases hf
              exact kj84
            · refine j_aload_n (pc := 87) hX dX7_take_87 rfl ?_
              refine j_getI (pc := 88) hX kX7 (k := 1) (Nat.le_of_ble_eq_true rfl) q1137 (Or.inl rfl) dX7_take_88 hf (fun x18 hx_ hf => ?_)
              refine j_bipush (pc := 91) hX (10 : Int32) dX7_take_91 (by decide +kernel) ?_
              obtain ⟨x20, w19, hc_, hf⟩ := zB2_e hf
              refine j_callS (pc := 93) hX mt_J7_min q1167 q303 [vI x18, vI (10 : Int32)] rfl rfl (Nat.le_of_ble_eq_true rfl) (by decide) dX7_take_93 (k_J7_min _ _ hc_) ?_
              refine j_goto (pc := 96) hX 100 dX7_take_96 rfl ?_
              cases hf
              exact kj84
          have hf := hm_
          refine j_icmp_lt (pc := 69) hX 76 dX7_take_69 rfl hf (fun h_ hf => ?_) (fun h_ hf => ?_)
          · refine j_iconst (pc := 76) hX (0 : Int32) dX7_take_76 rfl ?_
            cases hf
            exact kj69
          · refine j_iconst (pc := 72) hX (1 : Int32) dX7_take_72 rfl ?_
            refine j_goto (pc := 73) hX 77 dX7_take_73 rfl ?_
            cases hf
            exact kj69
set_option maxHeartbeats 4000000 in
theorem k_X7_take {l : Launch} {n : Nat} {a0 : Option Nat} {a1 : Int32} {w : zWd} (r : Unit) (w9 : zWd) (hf : f_X7_take n a0 a1 w = some w9) : zCt l yX7_take cX7_take 5 none 4 [vA a0, vI a1] w (.inr (none, w9)) := by
  refine zCt_of (lv := [some (vA a0), some (vI a1), none, none, none]) (by decide +kernel) 3 rfl rfl ?_
  intro X hX hI hN hQ
  have hX : zGd X RX7 cX7_take 5 none 4 := hX
  unfold f_X7_take at hf
  refine j_iconst (pc := 0) hX (0 : Int32) dX7_take_0 rfl ?_
  refine j_istore_n (pc := 1) hX dX7_take_1 (by decide) [some (vA a0), some (vI a1), some (vI (0 : Int32)), none, none] rfl ?_
  obtain ⟨w30, hm_, hf⟩ := zob hf
  refine lp_X7_take_L2 hX n _ _ _ _ _ _ hm_ ?_
  exact j_return (pc := 144) hX hQ (by cases hf; rfl) dX7_take_144
def f_X7_upTo_L2b (n : Nat) (c0 : Option Nat) (c1 : Int32) (rec : Int32 → zWd → Option (zWd)) (v2 : Int32) (w : zWd) : Option (zWd) :=
  if c1 ≤ v2 then
    some w
  else
    (zV (isC w 6 c0) (f_X7_begin n c0 v2 w)).bind fun w1 =>
    (zV (isC w1 6 c0) (f_X7_take n c0 v2 w1)).bind fun w2 =>
    rec (v2 + (1)) w2
def f_X7_upTo_L2 (n : Nat) (c0 : Option Nat) (c1 : Int32) : Nat → Int32 → zWd → Option (zWd)
  | 0, _, _ => none
  | k + 1, v2, w => f_X7_upTo_L2b n c0 c1 (f_X7_upTo_L2 n c0 c1 k) v2 w
def f_X7_upTo (n : Nat) (a0 : Option Nat) (a1 : Int32) (w : zWd) : Option (Int32 × zWd) :=
  (f_X7_upTo_L2 n a0 a1 n (0 : Int32) w).bind fun w3 =>
  (zV (isC w3 6 a0) (f_X7_begin n a0 a1 w3)).bind fun w4 =>
  (gI w4 6 1 a0).bind fun x5 =>
  (gI w4 6 2 a0).bind fun x6 =>
  some ((x5 + x6), w4)
theorem mt_X7_upTo : zMt yX7_upTo cX7_upTo 3 (some .int) 1 := ⟨q1152, q102, ⟨by decide, by decide⟩, by decide +kernel, by decide⟩
set_option maxHeartbeats 4000000 in
theorem lp_X7_upTo_L2 {X : zX} (hX : zGd X RX7 cX7_upTo 3 (some .int) 6) (n : Nat) (c0 : Option Nat) (c1 : Int32) : ∀ (k : Nat) (v2 : Int32) (w : zWd) (w9 : zWd) , f_X7_upTo_L2 n c0 c1 k v2 w = some w9 → zJ X 23 [some (vA c0), some (vI c1), none] [] w9 → zJ X 2 [some (vA c0), some (vI c1), some (vI v2)] [] w := by
  intro k
  induction k with
  | zero => intro v2 w w9 hf _; exact nomatch (show (none : Option (zWd)) = _ from hf)
  | succ k ih =>
    intro v2 w w9 hf kx
    have hf : f_X7_upTo_L2b n c0 c1 (f_X7_upTo_L2 n c0 c1 k) v2 w = _ := hf
    unfold f_X7_upTo_L2b at hf
    refine j_iload_n (pc := 2) hX dX7_upTo_2 rfl ?_
    refine j_iload_n (pc := 3) hX dX7_upTo_3 rfl ?_
    refine j_icmp_ge (pc := 4) hX 23 dX7_upTo_4 rfl hf (fun h_ hf => ?_) (fun h_ hf => ?_)
    · refine j_fg [2] [some (vA c0), some (vI c1), none] rfl ?_
      cases hf
      exact kx
    · refine j_aload_n (pc := 7) hX dX7_upTo_7 rfl ?_
      refine j_iload_n (pc := 8) hX dX7_upTo_8 rfl ?_
      obtain ⟨w1, hc_, hf⟩ := zob hf
      obtain ⟨hi_, hc_⟩ := zV_e hc_
      refine j_callV (pc := 9) hX (ci := 6) mt_X7_begin q1153 q1154 q1155 hi_ ⟨_, rfl, rfl⟩ [vI v2] rfl rfl (Nat.le_of_ble_eq_true rfl) (by decide) dX7_upTo_9 (k_X7_begin () _ hc_) ?_
      refine j_aload_n (pc := 12) hX dX7_upTo_12 rfl ?_
      refine j_iload_n (pc := 13) hX dX7_upTo_13 rfl ?_
      obtain ⟨w2, hc_, hf⟩ := zob hf
      obtain ⟨hi_, hc_⟩ := zV_e hc_
      refine j_callV (pc := 14) hX (ci := 6) mt_X7_take q1168 q1169 q1170 hi_ ⟨_, rfl, rfl⟩ [vI v2] rfl rfl (Nat.le_of_ble_eq_true rfl) (by decide) dX7_upTo_14 (k_X7_take () _ hc_) ?_
      refine j_iinc (pc := 17) hX (1) dX7_upTo_17 rfl rfl (by decide) [some (vA c0), some (vI c1), some (vI (v2 + (1)))] rfl ?_
      refine j_goto (pc := 20) hX 2 dX7_upTo_20 rfl ?_
      exact ih _ _ _ hf kx
set_option maxHeartbeats 4000000 in
theorem k_X7_upTo {l : Launch} {n : Nat} {a0 : Option Nat} {a1 : Int32} {w : zWd} (r : Int32) (w9 : zWd) (hf : f_X7_upTo n a0 a1 w = some (r, w9)) : zCt l yX7_upTo cX7_upTo 3 (some .int) 6 [vA a0, vI a1] w (.inr (some (vI r), w9)) := by
  refine zCt_of (lv := [some (vA a0), some (vI a1), none]) (by decide +kernel) 1 rfl rfl ?_
  intro X hX hI hN hQ
  have hX : zGd X RX7 cX7_upTo 3 (some .int) 6 := hX
  unfold f_X7_upTo at hf
  refine j_iconst (pc := 0) hX (0 : Int32) dX7_upTo_0 rfl ?_
  refine j_istore_n (pc := 1) hX dX7_upTo_1 (by decide) [some (vA a0), some (vI a1), some (vI (0 : Int32))] rfl ?_
  obtain ⟨w3, hm_, hf⟩ := zob hf
  refine lp_X7_upTo_L2 hX n _ _ _ _ _ _ hm_ ?_
  refine j_aload_n (pc := 23) hX dX7_upTo_23 rfl ?_
  refine j_iload_n (pc := 24) hX dX7_upTo_24 rfl ?_
  obtain ⟨w4, hc_, hf⟩ := zob hf
  obtain ⟨hi_, hc_⟩ := zV_e hc_
  refine j_callV (pc := 25) hX (ci := 6) mt_X7_begin q1153 q1154 q1155 hi_ ⟨_, rfl, rfl⟩ [vI a1] rfl rfl (Nat.le_of_ble_eq_true rfl) (by decide) dX7_upTo_25 (k_X7_begin () _ hc_) ?_
  refine j_aload_n (pc := 28) hX dX7_upTo_28 rfl ?_
  refine j_getI (pc := 29) hX kX7 (k := 1) (Nat.le_of_ble_eq_true rfl) q1137 (Or.inl rfl) dX7_upTo_29 hf (fun x5 hx_ hf => ?_)
  refine j_aload_n (pc := 32) hX dX7_upTo_32 rfl ?_
  refine j_getI (pc := 33) hX kX7 (k := 2) (Nat.le_of_ble_eq_true rfl) q1138 (Or.inl rfl) dX7_upTo_33 hf (fun x6 hx_ hf => ?_)
  refine j_iadd (pc := 36) hX dX7_upTo_36 ?_
  exact j_ireturn (pc := 37) hX hQ (by cases hf; rfl) dX7_upTo_37
def f_X1_findLeave (n : Nat) (a0 : Option Nat) (a1 : Int32) (w : zWd) : Option zWd :=
  zB2 (zNew w 4 (.inr (6, df_X7))) fun x1 w2 =>
  (zV (decide (x1 ≠ none)) (f_X7_init n x1 a0 a1 w2)).bind fun w3 =>
  zB2 (zV (isC w3 6 x1) (f_X7_upTo n x1 (719 : Int32) w3)) fun x5 w4 =>
  (zV (isC w4 6 x1) (f_X7_take n x1 (719 : Int32) w4)).bind fun w6 =>
  some w6
theorem mt_X1_findLeave : zMt yX1_findLeave cX1_findLeave 4 none 1 := ⟨q1129, q66, ⟨by decide, by decide⟩, by decide +kernel, by decide⟩
set_option maxHeartbeats 4000000 in
theorem k_X1_findLeave {l : Launch} {n : Nat} {a0 : Option Nat} {a1 : Int32} {w : zWd} (r : Unit) (w9 : zWd) (hf : f_X1_findLeave n a0 a1 w = some w9) : zCt l yX1_findLeave cX1_findLeave 4 none 7 [vA a0, vI a1] w (.inr (none, w9)) := by
  refine zCt_of (lv := [some (vA a0), some (vI a1), none, none]) (by decide +kernel) 2 rfl rfl ?_
  intro X hX hI hN hQ
  have hX : zGd X RX1 cX1_findLeave 4 none 7 := hX
  unfold f_X1_findLeave at hf
  refine j_new (pc := 0) hX kX7 q1130 q1131 q102 df_X7 df_X7_ok dX1_findLeave_0 hf (fun x1 w2 hf => ?_)
  refine j_dup (pc := 3) hX rfl dX1_findLeave_3 ?_
  refine j_aload_n (pc := 4) hX dX1_findLeave_4 rfl ?_
  refine j_iload_n (pc := 5) hX dX1_findLeave_5 rfl ?_
  obtain ⟨w3, hc_, hf⟩ := zob hf
  obtain ⟨hi_, hc_⟩ := zV_e hc_
  refine j_callI (pc := 6) hX mt_X7_init q1132 q1133 rfl rfl [vA a0, vI a1] rfl rfl (Nat.le_of_ble_eq_true rfl) (by decide) dX1_findLeave_6 (of_decide_eq_true hi_) (k_X7_init () _ hc_) ?_
  refine j_astore_n (pc := 9) hX dX1_findLeave_9 (by decide) [some (vA a0), some (vI a1), some (vA x1), none] rfl ?_
  refine j_aload_n (pc := 10) hX dX1_findLeave_10 rfl ?_
  refine j_sipush (pc := 11) hX (719 : Int32) dX1_findLeave_11 (by decide +kernel) ?_
  obtain ⟨x5, w4, hc_, hf⟩ := zB2_e hf
  obtain ⟨hi_, hc_⟩ := zV_e hc_
  refine j_callV (pc := 14) hX (ci := 6) mt_X7_upTo q1149 q1150 q1151 hi_ ⟨_, rfl, rfl⟩ [vI (719 : Int32)] rfl rfl (Nat.le_of_ble_eq_true rfl) (by decide) dX1_findLeave_14 (k_X7_upTo _ _ hc_) ?_
  refine j_istore_n (pc := 17) hX dX1_findLeave_17 (by decide) [some (vA a0), some (vI a1), some (vA x1), some (vI x5)] rfl ?_
  refine j_aload_n (pc := 18) hX dX1_findLeave_18 rfl ?_
  refine j_sipush (pc := 19) hX (719 : Int32) dX1_findLeave_19 (by decide +kernel) ?_
  obtain ⟨w6, hc_, hf⟩ := zob hf
  obtain ⟨hi_, hc_⟩ := zV_e hc_
  refine j_callV (pc := 22) hX (ci := 6) mt_X7_take q1173 q1169 q1170 hi_ ⟨_, rfl, rfl⟩ [vI (719 : Int32)] rfl rfl (Nat.le_of_ble_eq_true rfl) (by decide) dX1_findLeave_22 (k_X7_take () _ hc_) ?_
  exact j_return (pc := 25) hX hQ (by cases hf; rfl) dX1_findLeave_25
def f_J7_floorDiv (n : Nat) (a0 : Int64) (a1 : Int64) (w : zWd) : Option (Int64 × zWd) :=
  if a1 = (0 : Int64) then none else
  if (0 : Int32) ≤ (lg_cmp (a0 ^^^ a1) (0 : Int64)) then
    some ((a0 / a1), w)
  else
    if (lg_cmp ((a0 / a1) * a1) a0) = (0 : Int32) then
      some ((a0 / a1), w)
    else
      some (((a0 / a1) - (1 : Int64)), w)
theorem mt_J7_floorDiv : zMt yJ7_floorDiv cJ7_floorDiv 6 (some .long) 2 := ⟨q1191, q76, ⟨by decide, by decide⟩, by decide +kernel, by decide⟩
set_option maxHeartbeats 4000000 in
theorem k_J7_floorDiv {l : Launch} {n : Nat} {a0 : Int64} {a1 : Int64} {w : zWd} (r : Int64) (w9 : zWd) (hf : f_J7_floorDiv n a0 a1 w = some (r, w9)) : zCt l yJ7_floorDiv cJ7_floorDiv 6 (some .long) 1 [vL a0, vL a1] w (.inr (some (vL r), w9)) := by
  refine zCt_of (lv := [some (vL a0), none, some (vL a1), none, none, none]) (by decide +kernel) 2 rfl rfl ?_
  intro X hX hI hN hQ
  have hX : zGd X RJ7 cJ7_floorDiv 6 (some .long) 1 := hX
  unfold f_J7_floorDiv at hf
  refine j_lload_n (pc := 0) hX dJ7_floorDiv_0 rfl ?_
  refine j_lload_n (pc := 1) hX dJ7_floorDiv_1 rfl ?_
  obtain ⟨hne_, hf⟩ := zGd_e hf
  refine j_ldiv (pc := 2) hX dJ7_floorDiv_2 hne_ ?_
  refine j_lstore (pc := 3) hX dJ7_floorDiv_3 (by decide) [some (vL a0), none, some (vL a1), none, some (vL (a0 / a1)), none] rfl ?_
  refine j_lload_n (pc := 5) hX dJ7_floorDiv_5 rfl ?_
  refine j_lload_n (pc := 6) hX dJ7_floorDiv_6 rfl ?_
  refine j_lxor (pc := 7) hX dJ7_floorDiv_7 ?_
  refine j_lconst (pc := 8) hX (0 : Int64) dJ7_floorDiv_8 rfl ?_
  refine j_lcmp (pc := 9) hX dJ7_floorDiv_9 ?_
  refine j_if_ge (pc := 10) hX 27 dJ7_floorDiv_10 rfl hf (fun h_ hf => ?_) (fun h_ hf => ?_)
  · refine j_lload (pc := 27) hX dJ7_floorDiv_27 rfl ?_
    exact j_lreturn (pc := 29) hX hQ (by cases hf; rfl) dJ7_floorDiv_29
  · refine j_lload (pc := 13) hX dJ7_floorDiv_13 rfl ?_
    refine j_lload_n (pc := 15) hX dJ7_floorDiv_15 rfl ?_
    refine j_lmul (pc := 16) hX dJ7_floorDiv_16 ?_
    refine j_lload_n (pc := 17) hX dJ7_floorDiv_17 rfl ?_
    refine j_lcmp (pc := 18) hX dJ7_floorDiv_18 ?_
    refine j_if_eq (pc := 19) hX 27 dJ7_floorDiv_19 rfl hf (fun h_ hf => ?_) (fun h_ hf => ?_)
    · refine j_lload (pc := 27) hX dJ7_floorDiv_27 rfl ?_
      exact j_lreturn (pc := 29) hX hQ (by cases hf; rfl) dJ7_floorDiv_29
    · refine j_lload (pc := 22) hX dJ7_floorDiv_22 rfl ?_
      refine j_lconst (pc := 24) hX (1 : Int64) dJ7_floorDiv_24 rfl ?_
      refine j_lsub (pc := 25) hX dJ7_floorDiv_25 ?_
      exact j_lreturn (pc := 26) hX hQ (by cases hf; rfl) dJ7_floorDiv_26
def f_X1_rounded (n : Nat) (a0 : Int64) (a1 : Int64) (w : zWd) : Option (Int64 × zWd) :=
  zB2 (f_J7_floorDiv n (((2 : Int64) * a0) + a1) ((2 : Int64) * a1) w) fun x2 w1 =>
  some (x2, w1)
theorem mt_X1_rounded : zMt yX1_rounded cX1_rounded 4 (some .long) 2 := ⟨q1187, q66, ⟨by decide, by decide⟩, by decide +kernel, by decide⟩
set_option maxHeartbeats 4000000 in
theorem k_X1_rounded {l : Launch} {n : Nat} {a0 : Int64} {a1 : Int64} {w : zWd} (r : Int64) (w9 : zWd) (hf : f_X1_rounded n a0 a1 w = some (r, w9)) : zCt l yX1_rounded cX1_rounded 4 (some .long) 2 [vL a0, vL a1] w (.inr (some (vL r), w9)) := by
  refine zCt_of (lv := [some (vL a0), none, some (vL a1), none]) (by decide +kernel) 0 rfl rfl ?_
  intro X hX hI hN hQ
  have hX : zGd X RX1 cX1_rounded 4 (some .long) 2 := hX
  unfold f_X1_rounded at hf
  refine j_ldc2 (pc := 0) hX q1188 dX1_rounded_0 ?_
  refine j_lload_n (pc := 3) hX dX1_rounded_3 rfl ?_
  refine j_lmul (pc := 4) hX dX1_rounded_4 ?_
  refine j_lload_n (pc := 5) hX dX1_rounded_5 rfl ?_
  refine j_ladd (pc := 6) hX dX1_rounded_6 ?_
  refine j_ldc2 (pc := 7) hX q1188 dX1_rounded_7 ?_
  refine j_lload_n (pc := 10) hX dX1_rounded_10 rfl ?_
  refine j_lmul (pc := 11) hX dX1_rounded_11 ?_
  obtain ⟨x2, w1, hc_, hf⟩ := zB2_e hf
  refine j_callS (pc := 12) hX mt_J7_floorDiv q1189 q1190 [vL (((2 : Int64) * a0) + a1), vL ((2 : Int64) * a1)] rfl rfl (Nat.le_of_ble_eq_true rfl) (by decide) dX1_rounded_12 (k_J7_floorDiv _ _ hc_) ?_
  exact j_lreturn (pc := 15) hX hQ (by cases hf; rfl) dX1_rounded_15
def f_X5_hourly (n : Nat) (a0 : Option Nat) (a1 : Int32) (w : zWd) : Option (Int64 × zWd) :=
  (gI w 4 4 a0).bind fun x1 =>
  zB2 (
    if x1 = (0 : Int32) then
      (gA w 4 8 a0).bind fun x2 =>
      (aI w x2 a1).bind fun x3 =>
      (gI w 4 5 a0).bind fun x4 =>
      zB2 (f_X1_rounded n ((60 : Int64) * (Int32.toInt64 x3)) ((30 : Int64) * (Int32.toInt64 x4)) w) fun x6 w5 =>
      some (x6, w5)
    else
      (gA w 4 8 a0).bind fun x7 =>
      (aI w x7 a1).bind fun x8 =>
      some ((Int32.toInt64 x8), w)
    ) fun x9 w10 =>
  some (x9, w10)
theorem mt_X5_hourly : zMt yX5_hourly cX5_hourly 2 (some .long) 1 := ⟨q1195, q91, ⟨by decide, by decide⟩, by decide +kernel, by decide⟩
set_option maxHeartbeats 4000000 in
theorem k_X5_hourly {l : Launch} {n : Nat} {a0 : Option Nat} {a1 : Int32} {w : zWd} (r : Int64) (w9 : zWd) (hf : f_X5_hourly n a0 a1 w = some (r, w9)) : zCt l yX5_hourly cX5_hourly 2 (some .long) 3 [vA a0, vI a1] w (.inr (some (vL r), w9)) := by
  refine zCt_of (lv := [some (vA a0), some (vI a1)]) (by decide +kernel) 0 rfl rfl ?_
  intro X hX hI hN hQ
  have hX : zGd X RX5 cX5_hourly 2 (some .long) 3 := hX
  unfold f_X5_hourly at hf
  refine j_aload_n (pc := 0) hX dX5_hourly_0 rfl ?_
  refine j_getI (pc := 1) hX kX5 (k := 4) (Nat.le_of_ble_eq_true rfl) q924 (Or.inl rfl) dX5_hourly_1 hf (fun x1 hx_ hf => ?_)
  obtain ⟨x9, w10, hm_, hf⟩ := zB2_e hf
  have kj4 : zJ X 40 [none, none] [vL x9] w10 := by
    clear hm_
    exact j_lreturn (pc := 40) hX hQ (by cases hf; rfl) dX5_hourly_40
  have hf := hm_
  refine j_if_eq (pc := 4) hX 17 dX5_hourly_4 rfl hf (fun h_ hf => ?_) (fun h_ hf => ?_)
  · refine j_ldc2 (pc := 17) hX q1183 dX5_hourly_17 ?_
    refine j_aload_n (pc := 20) hX dX5_hourly_20 rfl ?_
    refine j_getA (pc := 21) hX kX5 (k := 8) (Nat.le_of_ble_eq_true rfl) q928 (Or.inl rfl) dX5_hourly_21 hf (fun x2 hx_ hf => ?_)
    refine j_iload_n (pc := 24) hX dX5_hourly_24 rfl ?_
    refine j_iaload (pc := 25) hX dX5_hourly_25 hf (fun x3 hx_ hf => ?_)
    refine j_i2l (pc := 26) hX dX5_hourly_26 ?_
    refine j_lmul (pc := 27) hX dX5_hourly_27 ?_
    refine j_ldc2 (pc := 28) hX q1184 dX5_hourly_28 ?_
    refine j_aload_n (pc := 31) hX dX5_hourly_31 rfl ?_
    refine j_getI (pc := 32) hX kX5 (k := 5) (Nat.le_of_ble_eq_true rfl) q925 (Or.inl rfl) dX5_hourly_32 hf (fun x4 hx_ hf => ?_)
    refine j_i2l (pc := 35) hX dX5_hourly_35 ?_
    refine j_lmul (pc := 36) hX dX5_hourly_36 ?_
    obtain ⟨x6, w5, hc_, hf⟩ := zB2_e hf
    refine j_callSN (pc := 37) hX mt_X1_rounded q1185 q1186 [vL ((60 : Int64) * (Int32.toInt64 x3)), vL ((30 : Int64) * (Int32.toInt64 x4))] rfl rfl (Nat.le_of_ble_eq_true rfl) (by decide) dX5_hourly_37 (k_X1_rounded _ _ hc_) ?_
    refine j_fg [0, 1] [none, none] rfl ?_
    cases hf
    exact kj4
  · refine j_aload_n (pc := 7) hX dX5_hourly_7 rfl ?_
    refine j_getA (pc := 8) hX kX5 (k := 8) (Nat.le_of_ble_eq_true rfl) q928 (Or.inl rfl) dX5_hourly_8 hf (fun x7 hx_ hf => ?_)
    refine j_iload_n (pc := 11) hX dX5_hourly_11 rfl ?_
    refine j_iaload (pc := 12) hX dX5_hourly_12 hf (fun x8 hx_ hf => ?_)
    refine j_i2l (pc := 13) hX dX5_hourly_13 ?_
    refine j_goto (pc := 14) hX 40 dX5_hourly_14 rfl ?_
    refine j_fg [0, 1] [none, none] rfl ?_
    cases hf
    exact kj4
def f_X5_base_L8b (n : Nat) (c0 : Option Nat) (c1 : Int32) (rec : Int64 → Int32 → zWd → Option (Int64 × zWd)) (v2 : Int64) (v4 : Int32) (w : zWd) : Option (Int64 × zWd) :=
  if ((c1 + (1 : Int32)) * (30 : Int32)) ≤ v4 then
    some (v2, w)
  else
    (gI w 4 4 c0).bind fun x1 =>
    zB2 (
      if x1 = (0 : Int32) then
        zB2 (zV (isC w 4 c0) (f_X5_has n c0 v4 w)) fun x3 w2 =>
        (
          if x3 = (0 : Int32) then
            some (0 : Int64)
          else
            (gA w2 4 8 c0).bind fun x4 =>
            (aI w2 x4 v4).bind fun x5 =>
            some (Int32.toInt64 x5)
          ).bind fun x6 =>
        some ((v2 + x6), w2)
      else
        (gA w 4 9 c0).bind fun x7 =>
        (aI w x7 v4).bind fun x8 =>
        (gA w 4 8 c0).bind fun x9 =>
        (aI w x9 v4).bind fun x10 =>
        some ((v2 + ((Int32.toInt64 x8) * (Int32.toInt64 x10))), w)
      ) fun x11 w12 =>
    rec x11 (v4 + (1)) w12
def f_X5_base_L8 (n : Nat) (c0 : Option Nat) (c1 : Int32) : Nat → Int64 → Int32 → zWd → Option (Int64 × zWd)
  | 0, _, _, _ => none
  | k + 1, v2, v4, w => f_X5_base_L8b n c0 c1 (f_X5_base_L8 n c0 c1 k) v2 v4 w
def f_X5_base_L104b (n : Nat) (c0 : Option Nat) (c1 : Int32) (rec : Int64 → Int32 → zWd → Option (Int64 × zWd)) (v4 : Int64) (v6 : Int32) (w : zWd) : Option (Int64 × zWd) :=
  if (103 : Int32) ≤ v6 then
    some (v4, w)
  else
    zB2 (f_J7_min n (720 : Int32) ((v6 + (1 : Int32)) * (7 : Int32)) w) fun x20 w19 =>
    zB2 (
      if ((x20 - (1 : Int32)) / (30 : Int32)) = c1 then
        zB2 (zV (isC w19 4 c0) (f_X5_hourly n c0 (x20 - (1 : Int32)) w19)) fun x22 w21 =>
        zB2 (zV (isC w21 4 c0) (f_X5_overtime n c0 v6 w21)) fun x24 w23 =>
        zB2 (f_X1_rounded n (x22 * (Int32.toInt64 x24)) (120 : Int64) w23) fun x26 w25 =>
        some (x26, w25)
      else
        some ((0 : Int64), w19)
      ) fun x27 w28 =>
    rec (v4 + x27) (v6 + (1)) w28
def f_X5_base_L104 (n : Nat) (c0 : Option Nat) (c1 : Int32) : Nat → Int64 → Int32 → zWd → Option (Int64 × zWd)
  | 0, _, _, _ => none
  | k + 1, v4, v6, w => f_X5_base_L104b n c0 c1 (f_X5_base_L104 n c0 c1 k) v4 v6 w
def f_X5_base (n : Nat) (a0 : Option Nat) (a1 : Int32) (w : zWd) : Option (Int64 × zWd) :=
  zB2 (f_X5_base_L8 n a0 a1 n (0 : Int64) (a1 * (30 : Int32)) w) fun x13 w14 =>
  (gI w14 4 4 a0).bind fun x15 =>
  (
    if x15 = (0 : Int32) then
      some (30 : Int64)
    else
      some (60 : Int64)
    ).bind fun x16 =>
  zB2 (f_X1_rounded n x13 x16 w14) fun x18 w17 =>
  zB2 (f_X5_base_L104 n a0 a1 n x18 (0 : Int32) w17) fun x29 w30 =>
  some (x29, w30)
theorem mt_X5_base : zMt yX5_base cX5_base 8 (some .long) 1 := ⟨q1181, q91, ⟨by decide, by decide⟩, by decide +kernel, by decide⟩
set_option maxHeartbeats 4000000 in
theorem lp_X5_base_L8 {X : zX} (hX : zGd X RX5 cX5_base 8 (some .long) 4) (n : Nat) (c0 : Option Nat) (c1 : Int32) : ∀ (k : Nat) (v2 : Int64) (v4 : Int32) (w : zWd) (o2 : Int64) (w9 : zWd) , f_X5_base_L8 n c0 c1 k v2 v4 w = some (o2, w9) → zJ X 79 [some (vA c0), some (vI c1), some (vL o2), none, none, none, none, none] [] w9 → zJ X 8 [some (vA c0), some (vI c1), some (vL v2), none, some (vI v4), none, none, none] [] w := by
  intro k
  induction k with
  | zero => intro v2 v4 w o2 w9 hf _; exact nomatch (show (none : Option (Int64 × zWd)) = _ from hf)
  | succ k ih =>
    intro v2 v4 w o2 w9 hf kx
    have hf : f_X5_base_L8b n c0 c1 (f_X5_base_L8 n c0 c1 k) v2 v4 w = _ := hf
    unfold f_X5_base_L8b at hf
    refine j_iload (pc := 8) hX dX5_base_8 rfl ?_
    refine j_iload_n (pc := 10) hX dX5_base_10 rfl ?_
    refine j_iconst (pc := 11) hX (1 : Int32) dX5_base_11 rfl ?_
    refine j_iadd (pc := 12) hX dX5_base_12 ?_
    refine j_bipush (pc := 13) hX (30 : Int32) dX5_base_13 (by decide +kernel) ?_
    refine j_imul (pc := 15) hX dX5_base_15 ?_
    refine j_icmp_ge (pc := 16) hX 79 dX5_base_16 rfl hf (fun h_ hf => ?_) (fun h_ hf => ?_)
    · refine j_fg [4] [some (vA c0), some (vI c1), some (vL v2), none, none, none, none, none] rfl ?_
      cases hf
      exact kx
    · refine j_aload_n (pc := 19) hX dX5_base_19 rfl ?_
      refine j_getI (pc := 20) hX kX5 (k := 4) (Nat.le_of_ble_eq_true rfl) q924 (Or.inl rfl) dX5_base_20 hf (fun x1 hx_ hf => ?_)
      obtain ⟨x11, w12, hm_, hf⟩ := zB2_e hf
      have kj23 : zJ X 73 [some (vA c0), some (vI c1), some (vL x11), none, some (vI v4), none, none, none] [] w12 := by
        clear hm_
        refine j_iinc (pc := 73) hX (1) dX5_base_73 rfl rfl (by decide) [some (vA c0), some (vI c1), some (vL x11), none, some (vI (v4 + (1))), none, none, none] rfl ?_
        refine j_goto (pc := 76) hX 8 dX5_base_76 rfl ?_
        exact ih _ _ _ _ _ hf kx
      have hf := hm_
      refine j_if_eq (pc := 23) hX 49 dX5_base_23 rfl hf (fun h_ hf => ?_) (fun h_ hf => ?_)
      · refine j_lload_n (pc := 49) hX dX5_base_49 rfl ?_
        refine j_aload_n (pc := 50) hX dX5_base_50 rfl ?_
        refine j_iload (pc := 51) hX dX5_base_51 rfl ?_
        obtain ⟨x3, w2, hc_, hf⟩ := zB2_e hf
        obtain ⟨hi_, hc_⟩ := zV_e hc_
        refine j_callV (pc := 53) hX (ci := 4) mt_X5_has q1182 q1000 q1001 hi_ ⟨_, rfl, rfl⟩ [vI v4] rfl rfl (Nat.le_of_ble_eq_true rfl) (by decide) dX5_base_53 (k_X5_has _ _ hc_) ?_
        obtain ⟨x6, hm_, hf⟩ := zob hf
        have kj56 : zJ X 71 [some (vA c0), some (vI c1), none, none, some (vI v4), none, none, none] [vL x6, vL v2] w2 := by
          clear hm_
          refine j_ladd (pc := 71) hX dX5_base_71 ?_
          refine j_lstore_n (pc := 72) hX dX5_base_72 (by decide) [some (vA c0), some (vI c1), some (vL (v2 + x6)), none, some (vI v4), none, none, none] rfl ?_
          cases hf
          exact kj23
        have hf := hm_
        refine j_if_eq (pc := 56) hX 70 dX5_base_56 rfl hf (fun h_ hf => ?_) (fun h_ hf => ?_)
        · refine j_lconst (pc := 70) hX (0 : Int64) dX5_base_70 rfl ?_
          refine j_fg [2] [some (vA c0), some (vI c1), none, none, some (vI v4), none, none, none] rfl ?_
          cases hf
          exact kj56
        · refine j_aload_n (pc := 59) hX dX5_base_59 rfl ?_
          refine j_getA (pc := 60) hX kX5 (k := 8) (Nat.le_of_ble_eq_true rfl) q928 (Or.inl rfl) dX5_base_60 hf (fun x4 hx_ hf => ?_)
          refine j_iload (pc := 63) hX dX5_base_63 rfl ?_
          refine j_iaload (pc := 65) hX dX5_base_65 hf (fun x5 hx_ hf => ?_)
          refine j_i2l (pc := 66) hX dX5_base_66 ?_
          refine j_goto (pc := 67) hX 71 dX5_base_67 rfl ?_
          refine j_fg [2] [some (vA c0), some (vI c1), none, none, some (vI v4), none, none, none] rfl ?_
          cases hf
          exact kj56
      · refine j_lload_n (pc := 26) hX dX5_base_26 rfl ?_
        refine j_aload_n (pc := 27) hX dX5_base_27 rfl ?_
        refine j_getA (pc := 28) hX kX5 (k := 9) (Nat.le_of_ble_eq_true rfl) q929 (Or.inl rfl) dX5_base_28 hf (fun x7 hx_ hf => ?_)
        refine j_iload (pc := 31) hX dX5_base_31 rfl ?_
        refine j_iaload (pc := 33) hX dX5_base_33 hf (fun x8 hx_ hf => ?_)
        refine j_i2l (pc := 34) hX dX5_base_34 ?_
        refine j_aload_n (pc := 35) hX dX5_base_35 rfl ?_
        refine j_getA (pc := 36) hX kX5 (k := 8) (Nat.le_of_ble_eq_true rfl) q928 (Or.inl rfl) dX5_base_36 hf (fun x9 hx_ hf => ?_)
        refine j_iload (pc := 39) hX dX5_base_39 rfl ?_
        refine j_iaload (pc := 41) hX dX5_base_41 hf (fun x10 hx_ hf => ?_)
        refine j_i2l (pc := 42) hX dX5_base_42 ?_
        refine j_lmul (pc := 43) hX dX5_base_43 ?_
        refine j_ladd (pc := 44) hX dX5_base_44 ?_
        refine j_lstore_n (pc := 45) hX dX5_base_45 (by decide) [some (vA c0), some (vI c1), some (vL (v2 + ((Int32.toInt64 x8) * (Int32.toInt64 x10)))), none, some (vI v4), none, none, none] rfl ?_
        refine j_goto (pc := 46) hX 73 dX5_base_46 rfl ?_
        cases hf
        exact kj23
set_option maxHeartbeats 4000000 in
theorem lp_X5_base_L104 {X : zX} (hX : zGd X RX5 cX5_base 8 (some .long) 4) (n : Nat) (c0 : Option Nat) (c1 : Int32) : ∀ (k : Nat) (v4 : Int64) (v6 : Int32) (w : zWd) (o4 : Int64) (w9 : zWd) , f_X5_base_L104 n c0 c1 k v4 v6 w = some (o4, w9) → zJ X 172 [some (vA c0), some (vI c1), none, none, some (vL o4), none, none, none] [] w9 → zJ X 104 [some (vA c0), some (vI c1), none, none, some (vL v4), none, some (vI v6), none] [] w := by
  intro k
  induction k with
  | zero => intro v4 v6 w o4 w9 hf _; exact nomatch (show (none : Option (Int64 × zWd)) = _ from hf)
  | succ k ih =>
    intro v4 v6 w o4 w9 hf kx
    have hf : f_X5_base_L104b n c0 c1 (f_X5_base_L104 n c0 c1 k) v4 v6 w = _ := hf
    unfold f_X5_base_L104b at hf
    refine j_iload (pc := 104) hX dX5_base_104 rfl ?_
    refine j_bipush (pc := 106) hX (103 : Int32) dX5_base_106 (by decide +kernel) ?_
    refine j_icmp_ge (pc := 108) hX 172 dX5_base_108 rfl hf (fun h_ hf => ?_) (fun h_ hf => ?_)
    · refine j_fg [6] [some (vA c0), some (vI c1), none, none, some (vL v4), none, none, none] rfl ?_
      cases hf
      exact kx
    · refine j_sipush (pc := 111) hX (720 : Int32) dX5_base_111 (by decide +kernel) ?_
      refine j_iload (pc := 114) hX dX5_base_114 rfl ?_
      refine j_iconst (pc := 116) hX (1 : Int32) dX5_base_116 rfl ?_
      refine j_iadd (pc := 117) hX dX5_base_117 ?_
      refine j_bipush (pc := 118) hX (7 : Int32) dX5_base_118 (by decide +kernel) ?_
      refine j_imul (pc := 120) hX dX5_base_120 ?_
      obtain ⟨x20, w19, hc_, hf⟩ := zB2_e hf
      refine j_callS (pc := 121) hX mt_J7_min q1118 q303 [vI (720 : Int32), vI ((v6 + (1 : Int32)) * (7 : Int32))] rfl rfl (Nat.le_of_ble_eq_true rfl) (by decide) dX5_base_121 (k_J7_min _ _ hc_) ?_
      refine j_iconst (pc := 124) hX (1 : Int32) dX5_base_124 rfl ?_
      refine j_isub (pc := 125) hX dX5_base_125 ?_
      refine j_istore (pc := 126) hX dX5_base_126 (by decide) [some (vA c0), some (vI c1), none, none, some (vL v4), none, some (vI v6), some (vI (x20 - (1 : Int32)))] rfl ?_
      refine j_lload (pc := 128) hX dX5_base_128 rfl ?_
      refine j_iload (pc := 130) hX dX5_base_130 rfl ?_
      refine j_bipush (pc := 132) hX (30 : Int32) dX5_base_132 (by decide +kernel) ?_
      refine j_idiv (pc := 134) hX dX5_base_134 (by decide) ?_
      refine j_iload_n (pc := 135) hX dX5_base_135 rfl ?_
      obtain ⟨x27, w28, hm_, hf⟩ := zB2_e hf
      have kj136 : zJ X 163 [some (vA c0), some (vI c1), none, none, none, none, some (vI v6), none] [vL x27, vL v4] w28 := by
        clear hm_
        refine j_ladd (pc := 163) hX dX5_base_163 ?_
        refine j_lstore (pc := 164) hX dX5_base_164 (by decide) [some (vA c0), some (vI c1), none, none, some (vL (v4 + x27)), none, some (vI v6), none] rfl ?_
        refine j_iinc (pc := 166) hX (1) dX5_base_166 rfl rfl (by decide) [some (vA c0), some (vI c1), none, none, some (vL (v4 + x27)), none, some (vI (v6 + (1))), none] rfl ?_
        refine j_goto (pc := 169) hX 104 dX5_base_169 rfl ?_
        exact ih _ _ _ _ _ hf kx
      have hf := hm_
      refine j_icmp_ne (pc := 136) hX 162 dX5_base_136 rfl hf (fun h_ hf => ?_) (fun h_ hf => ?_)
      · refine j_lconst (pc := 162) hX (0 : Int64) dX5_base_162 rfl ?_
        refine j_fg [4, 7] [some (vA c0), some (vI c1), none, none, none, none, some (vI v6), none] rfl ?_
        cases hf
        exact kj136
      · refine j_aload_n (pc := 139) hX dX5_base_139 rfl ?_
        refine j_iload (pc := 140) hX dX5_base_140 rfl ?_
        obtain ⟨x22, w21, hc_, hf⟩ := zB2_e hf
        obtain ⟨hi_, hc_⟩ := zV_e hc_
        refine j_callV (pc := 142) hX (ci := 4) mt_X5_hourly q1192 q1194 qs15 hi_ ⟨_, rfl, rfl⟩ [vI (x20 - (1 : Int32))] rfl rfl (Nat.le_of_ble_eq_true rfl) (by decide) dX5_base_142 (k_X5_hourly _ _ hc_) ?_
        refine j_aload_n (pc := 145) hX dX5_base_145 rfl ?_
        refine j_iload (pc := 146) hX dX5_base_146 rfl ?_
        obtain ⟨x24, w23, hc_, hf⟩ := zB2_e hf
        obtain ⟨hi_, hc_⟩ := zV_e hc_
        refine j_callV (pc := 148) hX (ci := 4) mt_X5_overtime q1196 q1115 q1116 hi_ ⟨_, rfl, rfl⟩ [vI v6] rfl rfl (Nat.le_of_ble_eq_true rfl) (by decide) dX5_base_148 (k_X5_overtime _ _ hc_) ?_
        refine j_i2l (pc := 151) hX dX5_base_151 ?_
        refine j_lmul (pc := 152) hX dX5_base_152 ?_
        refine j_ldc2 (pc := 153) hX q1197 dX5_base_153 ?_
        obtain ⟨x26, w25, hc_, hf⟩ := zB2_e hf
        refine j_callSN (pc := 156) hX mt_X1_rounded q1185 q1186 [vL (x22 * (Int32.toInt64 x24)), vL (120 : Int64)] rfl rfl (Nat.le_of_ble_eq_true rfl) (by decide) dX5_base_156 (k_X1_rounded _ _ hc_) ?_
        refine j_goto (pc := 159) hX 163 dX5_base_159 rfl ?_
        refine j_fg [4, 7] [some (vA c0), some (vI c1), none, none, none, none, some (vI v6), none] rfl ?_
        cases hf
        exact kj136
set_option maxHeartbeats 4000000 in
theorem k_X5_base {l : Launch} {n : Nat} {a0 : Option Nat} {a1 : Int32} {w : zWd} (r : Int64) (w9 : zWd) (hf : f_X5_base n a0 a1 w = some (r, w9)) : zCt l yX5_base cX5_base 8 (some .long) 4 [vA a0, vI a1] w (.inr (some (vL r), w9)) := by
  refine zCt_of (lv := [some (vA a0), some (vI a1), none, none, none, none, none, none]) (by decide +kernel) 6 rfl rfl ?_
  intro X hX hI hN hQ
  have hX : zGd X RX5 cX5_base 8 (some .long) 4 := hX
  unfold f_X5_base at hf
  refine j_lconst (pc := 0) hX (0 : Int64) dX5_base_0 rfl ?_
  refine j_lstore_n (pc := 1) hX dX5_base_1 (by decide) [some (vA a0), some (vI a1), some (vL (0 : Int64)), none, none, none, none, none] rfl ?_
  refine j_iload_n (pc := 2) hX dX5_base_2 rfl ?_
  refine j_bipush (pc := 3) hX (30 : Int32) dX5_base_3 (by decide +kernel) ?_
  refine j_imul (pc := 5) hX dX5_base_5 ?_
  refine j_istore (pc := 6) hX dX5_base_6 (by decide) [some (vA a0), some (vI a1), some (vL (0 : Int64)), none, some (vI (a1 * (30 : Int32))), none, none, none] rfl ?_
  obtain ⟨x13, w14, hm_, hf⟩ := zB2_e hf
  refine lp_X5_base_L8 hX n _ _ _ _ _ _ _ _ hm_ ?_
  refine j_lload_n (pc := 79) hX dX5_base_79 rfl ?_
  refine j_aload_n (pc := 80) hX dX5_base_80 rfl ?_
  refine j_getI (pc := 81) hX kX5 (k := 4) (Nat.le_of_ble_eq_true rfl) q924 (Or.inl rfl) dX5_base_81 hf (fun x15 hx_ hf => ?_)
  obtain ⟨x16, hm_, hf⟩ := zob hf
  have kj84 : zJ X 96 [some (vA a0), some (vI a1), none, none, none, none, none, none] [vL x16, vL x13] w14 := by
    clear hm_
    obtain ⟨x18, w17, hc_, hf⟩ := zB2_e hf
    refine j_callSN (pc := 96) hX mt_X1_rounded q1185 q1186 [vL x13, vL x16] rfl rfl (Nat.le_of_ble_eq_true rfl) (by decide) dX5_base_96 (k_X1_rounded _ _ hc_) ?_
    refine j_lstore (pc := 99) hX dX5_base_99 (by decide) [some (vA a0), some (vI a1), none, none, some (vL x18), none, none, none] rfl ?_
    refine j_iconst (pc := 101) hX (0 : Int32) dX5_base_101 rfl ?_
    refine j_istore (pc := 102) hX dX5_base_102 (by decide) [some (vA a0), some (vI a1), none, none, some (vL x18), none, some (vI (0 : Int32)), none] rfl ?_
    obtain ⟨x29, w30, hm_, hf⟩ := zB2_e hf
    refine lp_X5_base_L104 hX n _ _ _ _ _ _ _ _ hm_ ?_
    refine j_lload (pc := 172) hX dX5_base_172 rfl ?_
    exact j_lreturn (pc := 174) hX hQ (by cases hf; rfl) dX5_base_174
  have hf := hm_
  refine j_if_eq (pc := 84) hX 93 dX5_base_84 rfl hf (fun h_ hf => ?_) (fun h_ hf => ?_)
  · refine j_ldc2 (pc := 93) hX q1184 dX5_base_93 ?_
    refine j_fg [2] [some (vA a0), some (vI a1), none, none, none, none, none, none] rfl ?_
    cases hf
    exact kj84
  · refine j_ldc2 (pc := 87) hX q1183 dX5_base_87 ?_
    refine j_goto (pc := 90) hX 96 dX5_base_90 rfl ?_
    refine j_fg [2] [some (vA a0), some (vI a1), none, none, none, none, none, none] rfl ?_
    cases hf
    exact kj84
