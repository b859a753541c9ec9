set_option maxRecDepth 100000
def f_X4_init_L488b (n : Nat) (c0 : Option Nat) (rec : Int32 → zWd → Option (zWd)) (v1 : Int32) (w : zWd) : Option (zWd) :=
  if (7200 : Int32) ≤ v1 then
    some w
  else
    (gA w 3 6 c0).bind fun x175 =>
    (sI w x175 v1 (-1 : Int32)).bind fun w176 =>
    rec (v1 + (1)) w176
def f_X4_init_L488 (n : Nat) (c0 : Option Nat) : Nat → Int32 → zWd → Option (zWd)
  | 0, _, _ => none
  | k + 1, v1, w => f_X4_init_L488b n c0 (f_X4_init_L488 n c0 k) v1 w
def f_X4_init_L510b (n : Nat) (c0 : Option Nat) (rec : Int32 → zWd → Option (zWd)) (v1 : Int32) (w : zWd) : Option (zWd) :=
  if (72 : Int32) ≤ v1 then
    some w
  else
    (gA w 3 31 c0).bind fun x178 =>
    (sI w x178 v1 (-1 : Int32)).bind fun w179 =>
    rec (v1 + (1)) w179
def f_X4_init_L510 (n : Nat) (c0 : Option Nat) : Nat → Int32 → zWd → Option (zWd)
  | 0, _, _ => none
  | k + 1, v1, w => f_X4_init_L510b n c0 (f_X4_init_L510 n c0 k) v1 w
def f_X4_init_L531b (n : Nat) (c0 : Option Nat) (rec : Int32 → zWd → Option (zWd)) (v1 : Int32) (w : zWd) : Option (zWd) :=
  if (144 : Int32) ≤ v1 then
    some w
  else
    (gA w 3 36 c0).bind fun x181 =>
    (sI w x181 v1 (-1 : Int32)).bind fun w182 =>
    (gA w182 3 37 c0).bind fun x183 =>
    (sI w182 x183 v1 (-1 : Int32)).bind fun w184 =>
    rec (v1 + (1)) w184
def f_X4_init_L531 (n : Nat) (c0 : Option Nat) : Nat → Int32 → zWd → Option (zWd)
  | 0, _, _ => none
  | k + 1, v1, w => f_X4_init_L531b n c0 (f_X4_init_L531 n c0 k) v1 w
def f_X4_init (n : Nat) (a0 : Option Nat) (w : zWd) : Option zWd :=
  if a0 = none then none else
  zB2 (nI_ w (10 : Int32)) fun x1 w2 =>
  (pA w2 3 0 a0 x1).bind fun w3 =>
  zB2 (nI_ w3 (10 : Int32)) fun x4 w5 =>
  (pA w5 3 1 a0 x4).bind fun w6 =>
  zB2 (nI_ w6 (10 : Int32)) fun x7 w8 =>
  (pA w8 3 2 a0 x7).bind fun w9 =>
  zB2 (nI_ w9 (10 : Int32)) fun x10 w11 =>
  (pA w11 3 3 a0 x10).bind fun w12 =>
  zB2 (nI_ w12 (10 : Int32)) fun x13 w14 =>
  (pA w14 3 4 a0 x13).bind fun w15 =>
  zB2 (nI_ w15 (10 : Int32)) fun x16 w17 =>
  (pA w17 3 5 a0 x16).bind fun w18 =>
  zB2 (nI_ w18 (7200 : Int32)) fun x19 w20 =>
  (pA w20 3 6 a0 x19).bind fun w21 =>
  zB2 (nI_ w21 (7200 : Int32)) fun x22 w23 =>
  (pA w23 3 7 a0 x22).bind fun w24 =>
  zB2 (nI_ w24 (7200 : Int32)) fun x25 w26 =>
  (pA w26 3 8 a0 x25).bind fun w27 =>
  zB2 (nI_ w27 (40 : Int32)) fun x28 w29 =>
  (pA w29 3 10 a0 x28).bind fun w30 =>
  zB2 (nI_ w30 (40 : Int32)) fun x31 w32 =>
  (pA w32 3 11 a0 x31).bind fun w33 =>
  zB2 (nI_ w33 (40 : Int32)) fun x34 w35 =>
  (pA w35 3 12 a0 x34).bind fun w36 =>
  zB2 (nI_ w36 (30 : Int32)) fun x37 w38 =>
  (pA w38 3 14 a0 x37).bind fun w39 =>
  zB2 (nI_ w39 (30 : Int32)) fun x40 w41 =>
  (pA w41 3 15 a0 x40).bind fun w42 =>
  zB2 (nI_ w42 (30 : Int32)) fun x43 w44 =>
  (pA w44 3 16 a0 x43).bind fun w45 =>
  zB2 (nI_ w45 (70 : Int32)) fun x46 w47 =>
  (pA w47 3 22 a0 x46).bind fun w48 =>
  zB2 (nI_ w48 (70 : Int32)) fun x49 w50 =>
  (pA w50 3 23 a0 x49).bind fun w51 =>
  zB2 (nI_ w51 (7 : Int32)) fun x52 w53 =>
  (pA w53 3 24 a0 x52).bind fun w54 =>
  zB2 (nI_ w54 (6 : Int32)) fun x55 w56 =>
  (pA w56 3 25 a0 x55).bind fun w57 =>
  zB2 (nI_ w57 (6 : Int32)) fun x58 w59 =>
  (pA w59 3 27 a0 x58).bind fun w60 =>
  zB2 (nL_ w60 (10 : Int32)) fun x61 w62 =>
  (pA w62 3 28 a0 x61).bind fun w63 =>
  zB2 (nL_ w63 (6 : Int32)) fun x64 w65 =>
  (pA w65 3 29 a0 x64).bind fun w66 =>
  zB2 (nI_ w66 (432 : Int32)) fun x67 w68 =>
  (pA w68 3 30 a0 x67).bind fun w69 =>
  zB2 (nI_ w69 (72 : Int32)) fun x70 w71 =>
  (pA w71 3 31 a0 x70).bind fun w72 =>
  zB2 (nI_ w72 (72 : Int32)) fun x73 w74 =>
  (pA w74 3 32 a0 x73).bind fun w75 =>
  zB2 (nI_ w75 (144 : Int32)) fun x76 w77 =>
  (pA w77 3 33 a0 x76).bind fun w78 =>
  zB2 (nI_ w78 (576 : Int32)) fun x79 w80 =>
  (pA w80 3 34 a0 x79).bind fun w81 =>
  zB2 (nI_ w81 (576 : Int32)) fun x82 w83 =>
  (pA w83 3 35 a0 x82).bind fun w84 =>
  zB2 (nI_ w84 (144 : Int32)) fun x85 w86 =>
  (pA w86 3 36 a0 x85).bind fun w87 =>
  zB2 (nI_ w87 (144 : Int32)) fun x88 w89 =>
  (pA w89 3 37 a0 x88).bind fun w90 =>
  zB2 (nI_ w90 (6 : Int32)) fun x91 w92 =>
  (pA w92 3 38 a0 x91).bind fun w93 =>
  zB2 (nI_ w93 (6 : Int32)) fun x94 w95 =>
  (pA w95 3 39 a0 x94).bind fun w96 =>
  zB2 (nI_ w96 (6 : Int32)) fun x97 w98 =>
  (pA w98 3 40 a0 x97).bind fun w99 =>
  zB2 (nI_ w99 (6 : Int32)) fun x100 w101 =>
  (pA w101 3 41 a0 x100).bind fun w102 =>
  zB2 (nI_ w102 (6 : Int32)) fun x103 w104 =>
  (pA w104 3 42 a0 x103).bind fun w105 =>
  zB2 (nI_ w105 (6 : Int32)) fun x106 w107 =>
  (pA w107 3 43 a0 x106).bind fun w108 =>
  zB2 (nL_ w108 (144 : Int32)) fun x109 w110 =>
  (pA w110 3 45 a0 x109).bind fun w111 =>
  zB2 (nI_ w111 (144 : Int32)) fun x112 w113 =>
  (pA w113 3 47 a0 x112).bind fun w114 =>
  zB2 (nI_ w114 (144 : Int32)) fun x115 w116 =>
  (pA w116 3 48 a0 x115).bind fun w117 =>
  zB2 (nL_ w117 (144 : Int32)) fun x118 w119 =>
  (pA w119 3 49 a0 x118).bind fun w120 =>
  zB2 (nI_ w120 (144 : Int32)) fun x121 w122 =>
  (pA w122 3 50 a0 x121).bind fun w123 =>
  zB2 (nL_ w123 (72 : Int32)) fun x124 w125 =>
  (pA w125 3 52 a0 x124).bind fun w126 =>
  zB2 (nL_ w126 (72 : Int32)) fun x127 w128 =>
  (pA w128 3 53 a0 x127).bind fun w129 =>
  zB2 (nI_ w129 (72 : Int32)) fun x130 w131 =>
  (pA w131 3 54 a0 x130).bind fun w132 =>
  zB2 (nL_ w132 (72 : Int32)) fun x133 w134 =>
  (pA w134 3 55 a0 x133).bind fun w135 =>
  zB2 (nL_ w135 (72 : Int32)) fun x136 w137 =>
  (pA w137 3 56 a0 x136).bind fun w138 =>
  zB2 (nL_ w138 (72 : Int32)) fun x139 w140 =>
  (pA w140 3 57 a0 x139).bind fun w141 =>
  zB2 (nL_ w141 (72 : Int32)) fun x142 w143 =>
  (pA w143 3 58 a0 x142).bind fun w144 =>
  zB2 (nL_ w144 (72 : Int32)) fun x145 w146 =>
  (pA w146 3 59 a0 x145).bind fun w147 =>
  zB2 (nL_ w147 (24 : Int32)) fun x148 w149 =>
  (pA w149 3 60 a0 x148).bind fun w150 =>
  zB2 (nL_ w150 (24 : Int32)) fun x151 w152 =>
  (pA w152 3 61 a0 x151).bind fun w153 =>
  zB2 (nL_ w153 (24 : Int32)) fun x154 w155 =>
  (pA w155 3 62 a0 x154).bind fun w156 =>
  zB2 (nL_ w156 (24 : Int32)) fun x157 w158 =>
  (pA w158 3 63 a0 x157).bind fun w159 =>
  zB2 (nL_ w159 (24 : Int32)) fun x160 w161 =>
  (pA w161 3 64 a0 x160).bind fun w162 =>
  zB2 (nL_ w162 (144 : Int32)) fun x163 w164 =>
  (pA w164 3 65 a0 x163).bind fun w165 =>
  zB2 (nL_ w165 (144 : Int32)) fun x166 w167 =>
  (pA w167 3 66 a0 x166).bind fun w168 =>
  zB2 (nL_ w168 (432 : Int32)) fun x169 w170 =>
  (pA w170 3 68 a0 x169).bind fun w171 =>
  zB2 (nL_ w171 (432 : Int32)) fun x172 w173 =>
  (pA w173 3 69 a0 x172).bind fun w174 =>
  (f_X4_init_L488 n a0 n (0 : Int32) w174).bind fun w177 =>
  (f_X4_init_L510 n a0 n (0 : Int32) w177).bind fun w180 =>
  (f_X4_init_L531 n a0 n (0 : Int32) w180).bind fun w185 =>
  some w185
theorem mt_X4_init : zMt yX4_init cX4_init 2 none 0 := ⟨q2243, q82, ⟨by decide, by decide⟩, by decide +kernel, by decide⟩
set_option maxHeartbeats 4000000 in
theorem lp_X4_init_L488 {X : zX} (hX : zGd X RX4 cX4_init 2 none 1) (hI : zIn X) (n : Nat) (c0 : Option Nat) : ∀ (k : Nat) (v1 : Int32) (w : zWd) (w9 : zWd) , f_X4_init_L488 n c0 k v1 w = some w9 → zJ X 508 [some (vA c0), none] [] w9 → zJ X 488 [some (vA c0), some (vI v1)] [] w := by
  intro k
  induction k with
  | zero => intro v1 w w9 hf _; exact nomatch (show (none : Option (zWd)) = _ from hf)
  | succ k ih =>
    intro v1 w w9 hf kx
    have hf : f_X4_init_L488b n c0 (f_X4_init_L488 n c0 k) v1 w = _ := hf
    unfold f_X4_init_L488b at hf
    refine j_iload_n (pc := 488) hX dX4_init_488 rfl ?_
    refine j_sipush (pc := 489) hX (7200 : Int32) dX4_init_489 (by decide +kernel) ?_
    refine j_icmp_ge (pc := 492) hX 508 dX4_init_492 rfl hf (fun h_ hf => ?_) (fun h_ hf => ?_)
    · refine j_fg [1] [some (vA c0), none] rfl ?_
      cases hf
      exact kx
    · refine j_aload_n (pc := 495) hX dX4_init_495 rfl ?_
      refine j_getA (pc := 496) hX kX4 (k := 6) (Nat.le_of_ble_eq_true rfl) q2251 (Or.inl rfl) dX4_init_496 hf (fun x175 hx_ hf => ?_)
      refine j_iload_n (pc := 499) hX dX4_init_499 rfl ?_
      refine j_iconst (pc := 500) hX (-1 : Int32) dX4_init_500 rfl ?_
      refine j_iastore (pc := 501) hX dX4_init_501 hf (fun w176 hf => ?_)
      refine j_iinc (pc := 502) hX (1) dX4_init_502 rfl rfl (by decide) [some (vA c0), some (vI (v1 + (1)))] rfl ?_
      refine j_goto (pc := 505) hX 488 dX4_init_505 rfl ?_
      exact ih _ _ _ hf kx
set_option maxHeartbeats 4000000 in
theorem lp_X4_init_L510 {X : zX} (hX : zGd X RX4 cX4_init 2 none 1) (hI : zIn X) (n : Nat) (c0 : Option Nat) : ∀ (k : Nat) (v1 : Int32) (w : zWd) (w9 : zWd) , f_X4_init_L510 n c0 k v1 w = some w9 → zJ X 529 [some (vA c0), none] [] w9 → zJ X 510 [some (vA c0), some (vI v1)] [] w := by
  intro k
  induction k with
  | zero => intro v1 w w9 hf _; exact nomatch (show (none : Option (zWd)) = _ from hf)
  | succ k ih =>
    intro v1 w w9 hf kx
    have hf : f_X4_init_L510b n c0 (f_X4_init_L510 n c0 k) v1 w = _ := hf
    unfold f_X4_init_L510b at hf
    refine j_iload_n (pc := 510) hX dX4_init_510 rfl ?_
    refine j_bipush (pc := 511) hX (72 : Int32) dX4_init_511 (by decide +kernel) ?_
    refine j_icmp_ge (pc := 513) hX 529 dX4_init_513 rfl hf (fun h_ hf => ?_) (fun h_ hf => ?_)
    · refine j_fg [1] [some (vA c0), none] rfl ?_
      cases hf
      exact kx
    · refine j_aload_n (pc := 516) hX dX4_init_516 rfl ?_
      refine j_getA (pc := 517) hX kX4 (k := 31) (Nat.le_of_ble_eq_true rfl) q2276 (Or.inl rfl) dX4_init_517 hf (fun x178 hx_ hf => ?_)
      refine j_iload_n (pc := 520) hX dX4_init_520 rfl ?_
      refine j_iconst (pc := 521) hX (-1 : Int32) dX4_init_521 rfl ?_
      refine j_iastore (pc := 522) hX dX4_init_522 hf (fun w179 hf => ?_)
      refine j_iinc (pc := 523) hX (1) dX4_init_523 rfl rfl (by decide) [some (vA c0), some (vI (v1 + (1)))] rfl ?_
      refine j_goto (pc := 526) hX 510 dX4_init_526 rfl ?_
      exact ih _ _ _ hf kx
set_option maxHeartbeats 4000000 in
theorem lp_X4_init_L531 {X : zX} (hX : zGd X RX4 cX4_init 2 none 1) (hI : zIn X) (n : Nat) (c0 : Option Nat) : ∀ (k : Nat) (v1 : Int32) (w : zWd) (w9 : zWd) , f_X4_init_L531 n c0 k v1 w = some w9 → zJ X 558 [some (vA c0), none] [] w9 → zJ X 531 [some (vA c0), some (vI v1)] [] w := by
  intro k
  induction k with
  | zero => intro v1 w w9 hf _; exact nomatch (show (none : Option (zWd)) = _ from hf)
  | succ k ih =>
    intro v1 w w9 hf kx
    have hf : f_X4_init_L531b n c0 (f_X4_init_L531 n c0 k) v1 w = _ := hf
    unfold f_X4_init_L531b at hf
    refine j_iload_n (pc := 531) hX dX4_init_531 rfl ?_
    refine j_sipush (pc := 532) hX (144 : Int32) dX4_init_532 (by decide +kernel) ?_
    refine j_icmp_ge (pc := 535) hX 558 dX4_init_535 rfl hf (fun h_ hf => ?_) (fun h_ hf => ?_)
    · refine j_fg [1] [some (vA c0), none] rfl ?_
      cases hf
      exact kx
    · refine j_aload_n (pc := 538) hX dX4_init_538 rfl ?_
      refine j_getA (pc := 539) hX kX4 (k := 36) (Nat.le_of_ble_eq_true rfl) q2281 (Or.inl rfl) dX4_init_539 hf (fun x181 hx_ hf => ?_)
      refine j_iload_n (pc := 542) hX dX4_init_542 rfl ?_
      refine j_iconst (pc := 543) hX (-1 : Int32) dX4_init_543 rfl ?_
      refine j_iastore (pc := 544) hX dX4_init_544 hf (fun w182 hf => ?_)
      refine j_aload_n (pc := 545) hX dX4_init_545 rfl ?_
      refine j_getA (pc := 546) hX kX4 (k := 37) (Nat.le_of_ble_eq_true rfl) q2282 (Or.inl rfl) dX4_init_546 hf (fun x183 hx_ hf => ?_)
      refine j_iload_n (pc := 549) hX dX4_init_549 rfl ?_
      refine j_iconst (pc := 550) hX (-1 : Int32) dX4_init_550 rfl ?_
      refine j_iastore (pc := 551) hX dX4_init_551 hf (fun w184 hf => ?_)
      refine j_iinc (pc := 552) hX (1) dX4_init_552 rfl rfl (by decide) [some (vA c0), some (vI (v1 + (1)))] rfl ?_
      refine j_goto (pc := 555) hX 531 dX4_init_555 rfl ?_
      exact ih _ _ _ hf kx
set_option maxHeartbeats 4000000 in
theorem k_X4_init {l : Launch} {n : Nat} {a0 : Option Nat} {w : zWd} (r : Unit) (w9 : zWd) (hf : f_X4_init n a0 w = some w9) : zCt l yX4_init cX4_init 2 none 1 [vA a0] w (.inr (none, w9)) := by
  refine zCt_of (lv := [some (vA a0), none]) (by decide +kernel) 1 rfl rfl ?_
  intro X hX hI hN hQ
  have hX : zGd X RX4 cX4_init 2 none 1 := hX
  unfold f_X4_init at hf
  refine j_aload_n (pc := 0) hX dX4_init_0 rfl ?_
  obtain ⟨hne_, hf⟩ := zGd_e hf
  refine j_objInit (pc := 1) hX (by decide) q2244 q124 q125 (by rw [zCs_eq]; exact Nat.le_of_ble_eq_true rfl) dX4_init_1 hne_ ?_
  refine j_aload_n (pc := 4) hX dX4_init_4 rfl ?_
  refine j_bipush (pc := 5) hX (10 : Int32) dX4_init_5 (by decide +kernel) ?_
  refine j_newarrI (pc := 7) hX q180 dX4_init_7 hf (fun x1 w2 hf => ?_)
  refine j_putAF (pc := 9) hX hI kX4 (k := 0) (Nat.le_of_ble_eq_true rfl) q2245 rfl rfl rfl rfl dX4_init_9 hf (fun w3 hf => ?_)
  refine j_aload_n (pc := 12) hX dX4_init_12 rfl ?_
  refine j_bipush (pc := 13) hX (10 : Int32) dX4_init_13 (by decide +kernel) ?_
  refine j_newarrI (pc := 15) hX q180 dX4_init_15 hf (fun x4 w5 hf => ?_)
  refine j_putAF (pc := 17) hX hI kX4 (k := 1) (Nat.le_of_ble_eq_true rfl) q2246 rfl rfl rfl rfl dX4_init_17 hf (fun w6 hf => ?_)
  refine j_aload_n (pc := 20) hX dX4_init_20 rfl ?_
  refine j_bipush (pc := 21) hX (10 : Int32) dX4_init_21 (by decide +kernel) ?_
  refine j_newarrI (pc := 23) hX q180 dX4_init_23 hf (fun x7 w8 hf => ?_)
  refine j_putAF (pc := 25) hX hI kX4 (k := 2) (Nat.le_of_ble_eq_true rfl) q2247 rfl rfl rfl rfl dX4_init_25 hf (fun w9 hf => ?_)
  refine j_aload_n (pc := 28) hX dX4_init_28 rfl ?_
  refine j_bipush (pc := 29) hX (10 : Int32) dX4_init_29 (by decide +kernel) ?_
  refine j_newarrI (pc := 31) hX q180 dX4_init_31 hf (fun x10 w11 hf => ?_)
  refine j_putAF (pc := 33) hX hI kX4 (k := 3) (Nat.le_of_ble_eq_true rfl) q2248 rfl rfl rfl rfl dX4_init_33 hf (fun w12 hf => ?_)
  refine j_aload_n (pc := 36) hX dX4_init_36 rfl ?_
  refine j_bipush (pc := 37) hX (10 : Int32) dX4_init_37 (by decide +kernel) ?_
  refine j_newarrI (pc := 39) hX q180 dX4_init_39 hf (fun x13 w14 hf => ?_)
  refine j_putAF (pc := 41) hX hI kX4 (k := 4) (Nat.le_of_ble_eq_true rfl) q2249 rfl rfl rfl rfl dX4_init_41 hf (fun w15 hf => ?_)
  refine j_aload_n (pc := 44) hX dX4_init_44 rfl ?_
  refine j_bipush (pc := 45) hX (10 : Int32) dX4_init_45 (by decide +kernel) ?_
  refine j_newarrI (pc := 47) hX q180 dX4_init_47 hf (fun x16 w17 hf => ?_)
  refine j_putAF (pc := 49) hX hI kX4 (k := 5) (Nat.le_of_ble_eq_true rfl) q2250 rfl rfl rfl rfl dX4_init_49 hf (fun w18 hf => ?_)
  refine j_aload_n (pc := 52) hX dX4_init_52 rfl ?_
  refine j_sipush (pc := 53) hX (7200 : Int32) dX4_init_53 (by decide +kernel) ?_
  refine j_newarrI (pc := 56) hX q180 dX4_init_56 hf (fun x19 w20 hf => ?_)
  refine j_putAF (pc := 58) hX hI kX4 (k := 6) (Nat.le_of_ble_eq_true rfl) q2251 rfl rfl rfl rfl dX4_init_58 hf (fun w21 hf => ?_)
  refine j_aload_n (pc := 61) hX dX4_init_61 rfl ?_
  refine j_sipush (pc := 62) hX (7200 : Int32) dX4_init_62 (by decide +kernel) ?_
  refine j_newarrI (pc := 65) hX q180 dX4_init_65 hf (fun x22 w23 hf => ?_)
  refine j_putAF (pc := 67) hX hI kX4 (k := 7) (Nat.le_of_ble_eq_true rfl) q2252 rfl rfl rfl rfl dX4_init_67 hf (fun w24 hf => ?_)
  refine j_aload_n (pc := 70) hX dX4_init_70 rfl ?_
  refine j_sipush (pc := 71) hX (7200 : Int32) dX4_init_71 (by decide +kernel) ?_
  refine j_newarrI (pc := 74) hX q180 dX4_init_74 hf (fun x25 w26 hf => ?_)
  refine j_putAF (pc := 76) hX hI kX4 (k := 8) (Nat.le_of_ble_eq_true rfl) q2253 rfl rfl rfl rfl dX4_init_76 hf (fun w27 hf => ?_)
  refine j_aload_n (pc := 79) hX dX4_init_79 rfl ?_
  refine j_bipush (pc := 80) hX (40 : Int32) dX4_init_80 (by decide +kernel) ?_
  refine j_newarrI (pc := 82) hX q180 dX4_init_82 hf (fun x28 w29 hf => ?_)
  refine j_putAF (pc := 84) hX hI kX4 (k := 10) (Nat.le_of_ble_eq_true rfl) q2255 rfl rfl rfl rfl dX4_init_84 hf (fun w30 hf => ?_)
  refine j_aload_n (pc := 87) hX dX4_init_87 rfl ?_
  refine j_bipush (pc := 88) hX (40 : Int32) dX4_init_88 (by decide +kernel) ?_
  refine j_newarrI (pc := 90) hX q180 dX4_init_90 hf (fun x31 w32 hf => ?_)
  refine j_putAF (pc := 92) hX hI kX4 (k := 11) (Nat.le_of_ble_eq_true rfl) q2256 rfl rfl rfl rfl dX4_init_92 hf (fun w33 hf => ?_)
  refine j_aload_n (pc := 95) hX dX4_init_95 rfl ?_
  refine j_bipush (pc := 96) hX (40 : Int32) dX4_init_96 (by decide +kernel) ?_
  refine j_newarrI (pc := 98) hX q180 dX4_init_98 hf (fun x34 w35 hf => ?_)
  refine j_putAF (pc := 100) hX hI kX4 (k := 12) (Nat.le_of_ble_eq_true rfl) q2257 rfl rfl rfl rfl dX4_init_100 hf (fun w36 hf => ?_)
  refine j_aload_n (pc := 103) hX dX4_init_103 rfl ?_
  refine j_bipush (pc := 104) hX (30 : Int32) dX4_init_104 (by decide +kernel) ?_
  refine j_newarrI (pc := 106) hX q180 dX4_init_106 hf (fun x37 w38 hf => ?_)
  refine j_putAF (pc := 108) hX hI kX4 (k := 14) (Nat.le_of_ble_eq_true rfl) q2259 rfl rfl rfl rfl dX4_init_108 hf (fun w39 hf => ?_)
  refine j_aload_n (pc := 111) hX dX4_init_111 rfl ?_
  refine j_bipush (pc := 112) hX (30 : Int32) dX4_init_112 (by decide +kernel) ?_
  refine j_newarrI (pc := 114) hX q180 dX4_init_114 hf (fun x40 w41 hf => ?_)
  refine j_putAF (pc := 116) hX hI kX4 (k := 15) (Nat.le_of_ble_eq_true rfl) q2260 rfl rfl rfl rfl dX4_init_116 hf (fun w42 hf => ?_)
  refine j_aload_n (pc := 119) hX dX4_init_119 rfl ?_
  refine j_bipush (pc := 120) hX (30 : Int32) dX4_init_120 (by decide +kernel) ?_
  refine j_newarrI (pc := 122) hX q180 dX4_init_122 hf (fun x43 w44 hf => ?_)
  refine j_putAF (pc := 124) hX hI kX4 (k := 16) (Nat.le_of_ble_eq_true rfl) q2261 rfl rfl rfl rfl dX4_init_124 hf (fun w45 hf => ?_)
  refine j_aload_n (pc := 127) hX dX4_init_127 rfl ?_
  refine j_bipush (pc := 128) hX (70 : Int32) dX4_init_128 (by decide +kernel) ?_
  refine j_newarrI (pc := 130) hX q180 dX4_init_130 hf (fun x46 w47 hf => ?_)
  refine j_putAF (pc := 132) hX hI kX4 (k := 22) (Nat.le_of_ble_eq_true rfl) q2267 rfl rfl rfl rfl dX4_init_132 hf (fun w48 hf => ?_)
  refine j_aload_n (pc := 135) hX dX4_init_135 rfl ?_
  refine j_bipush (pc := 136) hX (70 : Int32) dX4_init_136 (by decide +kernel) ?_
  refine j_newarrI (pc := 138) hX q180 dX4_init_138 hf (fun x49 w50 hf => ?_)
  refine j_putAF (pc := 140) hX hI kX4 (k := 23) (Nat.le_of_ble_eq_true rfl) q2268 rfl rfl rfl rfl dX4_init_140 hf (fun w51 hf => ?_)
  refine j_aload_n (pc := 143) hX dX4_init_143 rfl ?_
  refine j_bipush (pc := 144) hX (7 : Int32) dX4_init_144 (by decide +kernel) ?_
  refine j_newarrI (pc := 146) hX q180 dX4_init_146 hf (fun x52 w53 hf => ?_)
  refine j_putAF (pc := 148) hX hI kX4 (k := 24) (Nat.le_of_ble_eq_true rfl) q2269 rfl rfl rfl rfl dX4_init_148 hf (fun w54 hf => ?_)
  refine j_aload_n (pc := 151) hX dX4_init_151 rfl ?_
  refine j_bipush (pc := 152) hX (6 : Int32) dX4_init_152 (by decide +kernel) ?_
  refine j_newarrI (pc := 154) hX q180 dX4_init_154 hf (fun x55 w56 hf => ?_)
  refine j_putAF (pc := 156) hX hI kX4 (k := 25) (Nat.le_of_ble_eq_true rfl) q2270 rfl rfl rfl rfl dX4_init_156 hf (fun w57 hf => ?_)
  refine j_aload_n (pc := 159) hX dX4_init_159 rfl ?_
  refine j_bipush (pc := 160) hX (6 : Int32) dX4_init_160 (by decide +kernel) ?_
  refine j_newarrI (pc := 162) hX q180 dX4_init_162 hf (fun x58 w59 hf => ?_)
  refine j_putAF (pc := 164) hX hI kX4 (k := 27) (Nat.le_of_ble_eq_true rfl) q2272 rfl rfl rfl rfl dX4_init_164 hf (fun w60 hf => ?_)
  refine j_aload_n (pc := 167) hX dX4_init_167 rfl ?_
  refine j_bipush (pc := 168) hX (10 : Int32) dX4_init_168 (by decide +kernel) ?_
  refine j_newarrL (pc := 170) hX q181 dX4_init_170 hf (fun x61 w62 hf => ?_)
  refine j_putAF (pc := 172) hX hI kX4 (k := 28) (Nat.le_of_ble_eq_true rfl) q2273 rfl rfl rfl rfl dX4_init_172 hf (fun w63 hf => ?_)
  refine j_aload_n (pc := 175) hX dX4_init_175 rfl ?_
  refine j_bipush (pc := 176) hX (6 : Int32) dX4_init_176 (by decide +kernel) ?_
  refine j_newarrL (pc := 178) hX q181 dX4_init_178 hf (fun x64 w65 hf => ?_)
  refine j_putAF (pc := 180) hX hI kX4 (k := 29) (Nat.le_of_ble_eq_true rfl) q2274 rfl rfl rfl rfl dX4_init_180 hf (fun w66 hf => ?_)
  refine j_aload_n (pc := 183) hX dX4_init_183 rfl ?_
  refine j_sipush (pc := 184) hX (432 : Int32) dX4_init_184 (by decide +kernel) ?_
  refine j_newarrI (pc := 187) hX q180 dX4_init_187 hf (fun x67 w68 hf => ?_)
  refine j_putAF (pc := 189) hX hI kX4 (k := 30) (Nat.le_of_ble_eq_true rfl) q2275 rfl rfl rfl rfl dX4_init_189 hf (fun w69 hf => ?_)
  refine j_aload_n (pc := 192) hX dX4_init_192 rfl ?_
  refine j_bipush (pc := 193) hX (72 : Int32) dX4_init_193 (by decide +kernel) ?_
  refine j_newarrI (pc := 195) hX q180 dX4_init_195 hf (fun x70 w71 hf => ?_)
  refine j_putAF (pc := 197) hX hI kX4 (k := 31) (Nat.le_of_ble_eq_true rfl) q2276 rfl rfl rfl rfl dX4_init_197 hf (fun w72 hf => ?_)
  refine j_aload_n (pc := 200) hX dX4_init_200 rfl ?_
  refine j_bipush (pc := 201) hX (72 : Int32) dX4_init_201 (by decide +kernel) ?_
  refine j_newarrI (pc := 203) hX q180 dX4_init_203 hf (fun x73 w74 hf => ?_)
  refine j_putAF (pc := 205) hX hI kX4 (k := 32) (Nat.le_of_ble_eq_true rfl) q2277 rfl rfl rfl rfl dX4_init_205 hf (fun w75 hf => ?_)
  refine j_aload_n (pc := 208) hX dX4_init_208 rfl ?_
  refine j_sipush (pc := 209) hX (144 : Int32) dX4_init_209 (by decide +kernel) ?_
  refine j_newarrI (pc := 212) hX q180 dX4_init_212 hf (fun x76 w77 hf => ?_)
  refine j_putAF (pc := 214) hX hI kX4 (k := 33) (Nat.le_of_ble_eq_true rfl) q2278 rfl rfl rfl rfl dX4_init_214 hf (fun w78 hf => ?_)
  refine j_aload_n (pc := 217) hX dX4_init_217 rfl ?_
  refine j_sipush (pc := 218) hX (576 : Int32) dX4_init_218 (by decide +kernel) ?_
  refine j_newarrI (pc := 221) hX q180 dX4_init_221 hf (fun x79 w80 hf => ?_)
  refine j_putAF (pc := 223) hX hI kX4 (k := 34) (Nat.le_of_ble_eq_true rfl) q2279 rfl rfl rfl rfl dX4_init_223 hf (fun w81 hf => ?_)
  refine j_aload_n (pc := 226) hX dX4_init_226 rfl ?_
  refine j_sipush (pc := 227) hX (576 : Int32) dX4_init_227 (by decide +kernel) ?_
  refine j_newarrI (pc := 230) hX q180 dX4_init_230 hf (fun x82 w83 hf => ?_)
  refine j_putAF (pc := 232) hX hI kX4 (k := 35) (Nat.le_of_ble_eq_true rfl) q2280 rfl rfl rfl rfl dX4_init_232 hf (fun w84 hf => ?_)
  refine j_aload_n (pc := 235) hX dX4_init_235 rfl ?_
  refine j_sipush (pc := 236) hX (144 : Int32) dX4_init_236 (by decide +kernel) ?_
  refine j_newarrI (pc := 239) hX q180 dX4_init_239 hf (fun x85 w86 hf => ?_)
  refine j_putAF (pc := 241) hX hI kX4 (k := 36) (Nat.le_of_ble_eq_true rfl) q2281 rfl rfl rfl rfl dX4_init_241 hf (fun w87 hf => ?_)
  refine j_aload_n (pc := 244) hX dX4_init_244 rfl ?_
  refine j_sipush (pc := 245) hX (144 : Int32) dX4_init_245 (by decide +kernel) ?_
  refine j_newarrI (pc := 248) hX q180 dX4_init_248 hf (fun x88 w89 hf => ?_)
  refine j_putAF (pc := 250) hX hI kX4 (k := 37) (Nat.le_of_ble_eq_true rfl) q2282 rfl rfl rfl rfl dX4_init_250 hf (fun w90 hf => ?_)
  refine j_aload_n (pc := 253) hX dX4_init_253 rfl ?_
  refine j_bipush (pc := 254) hX (6 : Int32) dX4_init_254 (by decide +kernel) ?_
  refine j_newarrI (pc := 256) hX q180 dX4_init_256 hf (fun x91 w92 hf => ?_)
  refine j_putAF (pc := 258) hX hI kX4 (k := 38) (Nat.le_of_ble_eq_true rfl) q2283 rfl rfl rfl rfl dX4_init_258 hf (fun w93 hf => ?_)
  refine j_aload_n (pc := 261) hX dX4_init_261 rfl ?_
  refine j_bipush (pc := 262) hX (6 : Int32) dX4_init_262 (by decide +kernel) ?_
  refine j_newarrI (pc := 264) hX q180 dX4_init_264 hf (fun x94 w95 hf => ?_)
  refine j_putAF (pc := 266) hX hI kX4 (k := 39) (Nat.le_of_ble_eq_true rfl) q2284 rfl rfl rfl rfl dX4_init_266 hf (fun w96 hf => ?_)
  refine j_aload_n (pc := 269) hX dX4_init_269 rfl ?_
  refine j_bipush (pc := 270) hX (6 : Int32) dX4_init_270 (by decide +kernel) ?_
  refine j_newarrI (pc := 272) hX q180 dX4_init_272 hf (fun x97 w98 hf => ?_)
  refine j_putAF (pc := 274) hX hI kX4 (k := 40) (Nat.le_of_ble_eq_true rfl) q2285 rfl rfl rfl rfl dX4_init_274 hf (fun w99 hf => ?_)
  refine j_aload_n (pc := 277) hX dX4_init_277 rfl ?_
  refine j_bipush (pc := 278) hX (6 : Int32) dX4_init_278 (by decide +kernel) ?_
  refine j_newarrI (pc := 280) hX q180 dX4_init_280 hf (fun x100 w101 hf => ?_)
  refine j_putAF (pc := 282) hX hI kX4 (k := 41) (Nat.le_of_ble_eq_true rfl) q2286 rfl rfl rfl rfl dX4_init_282 hf (fun w102 hf => ?_)
  refine j_aload_n (pc := 285) hX dX4_init_285 rfl ?_
  refine j_bipush (pc := 286) hX (6 : Int32) dX4_init_286 (by decide +kernel) ?_
  refine j_newarrI (pc := 288) hX q180 dX4_init_288 hf (fun x103 w104 hf => ?_)
  refine j_putAF (pc := 290) hX hI kX4 (k := 42) (Nat.le_of_ble_eq_true rfl) q2287 rfl rfl rfl rfl dX4_init_290 hf (fun w105 hf => ?_)
  refine j_aload_n (pc := 293) hX dX4_init_293 rfl ?_
  refine j_bipush (pc := 294) hX (6 : Int32) dX4_init_294 (by decide +kernel) ?_
  refine j_newarrI (pc := 296) hX q180 dX4_init_296 hf (fun x106 w107 hf => ?_)
  refine j_putAF (pc := 298) hX hI kX4 (k := 43) (Nat.le_of_ble_eq_true rfl) q2288 rfl rfl rfl rfl dX4_init_298 hf (fun w108 hf => ?_)
  refine j_aload_n (pc := 301) hX dX4_init_301 rfl ?_
  refine j_sipush (pc := 302) hX (144 : Int32) dX4_init_302 (by decide +kernel) ?_
  refine j_newarrL (pc := 305) hX q181 dX4_init_305 hf (fun x109 w110 hf => ?_)
  refine j_putAF (pc := 307) hX hI kX4 (k := 45) (Nat.le_of_ble_eq_true rfl) q2290 rfl rfl rfl rfl dX4_init_307 hf (fun w111 hf => ?_)
  refine j_aload_n (pc := 310) hX dX4_init_310 rfl ?_
  refine j_sipush (pc := 311) hX (144 : Int32) dX4_init_311 (by decide +kernel) ?_
  refine j_newarrI (pc := 314) hX q180 dX4_init_314 hf (fun x112 w113 hf => ?_)
  refine j_putAF (pc := 316) hX hI kX4 (k := 47) (Nat.le_of_ble_eq_true rfl) q2292 rfl rfl rfl rfl dX4_init_316 hf (fun w114 hf => ?_)
  refine j_aload_n (pc := 319) hX dX4_init_319 rfl ?_
  refine j_sipush (pc := 320) hX (144 : Int32) dX4_init_320 (by decide +kernel) ?_
  refine j_newarrI (pc := 323) hX q180 dX4_init_323 hf (fun x115 w116 hf => ?_)
  refine j_putAF (pc := 325) hX hI kX4 (k := 48) (Nat.le_of_ble_eq_true rfl) q2293 rfl rfl rfl rfl dX4_init_325 hf (fun w117 hf => ?_)
  refine j_aload_n (pc := 328) hX dX4_init_328 rfl ?_
  refine j_sipush (pc := 329) hX (144 : Int32) dX4_init_329 (by decide +kernel) ?_
  refine j_newarrL (pc := 332) hX q181 dX4_init_332 hf (fun x118 w119 hf => ?_)
  refine j_putAF (pc := 334) hX hI kX4 (k := 49) (Nat.le_of_ble_eq_true rfl) q2294 rfl rfl rfl rfl dX4_init_334 hf (fun w120 hf => ?_)
  refine j_aload_n (pc := 337) hX dX4_init_337 rfl ?_
  refine j_sipush (pc := 338) hX (144 : Int32) dX4_init_338 (by decide +kernel) ?_
  refine j_newarrI (pc := 341) hX q180 dX4_init_341 hf (fun x121 w122 hf => ?_)
  refine j_putAF (pc := 343) hX hI kX4 (k := 50) (Nat.le_of_ble_eq_true rfl) q2295 rfl rfl rfl rfl dX4_init_343 hf (fun w123 hf => ?_)
  refine j_aload_n (pc := 346) hX dX4_init_346 rfl ?_
  refine j_bipush (pc := 347) hX (72 : Int32) dX4_init_347 (by decide +kernel) ?_
  refine j_newarrL (pc := 349) hX q181 dX4_init_349 hf (fun x124 w125 hf => ?_)
  refine j_putAF (pc := 351) hX hI kX4 (k := 52) (Nat.le_of_ble_eq_true rfl) q2297 rfl rfl rfl rfl dX4_init_351 hf (fun w126 hf => ?_)
  refine j_aload_n (pc := 354) hX dX4_init_354 rfl ?_
  refine j_bipush (pc := 355) hX (72 : Int32) dX4_init_355 (by decide +kernel) ?_
  refine j_newarrL (pc := 357) hX q181 dX4_init_357 hf (fun x127 w128 hf => ?_)
  refine j_putAF (pc := 359) hX hI kX4 (k := 53) (Nat.le_of_ble_eq_true rfl) q2298 rfl rfl rfl rfl dX4_init_359 hf (fun w129 hf => ?_)
  refine j_aload_n (pc := 362) hX dX4_init_362 rfl ?_
  refine j_bipush (pc := 363) hX (72 : Int32) dX4_init_363 (by decide +kernel) ?_
  refine j_newarrI (pc := 365) hX q180 dX4_init_365 hf (fun x130 w131 hf => ?_)
  refine j_putAF (pc := 367) hX hI kX4 (k := 54) (Nat.le_of_ble_eq_true rfl) q2299 rfl rfl rfl rfl dX4_init_367 hf (fun w132 hf => ?_)
  refine j_aload_n (pc := 370) hX dX4_init_370 rfl ?_
  refine j_bipush (pc := 371) hX (72 : Int32) dX4_init_371 (by decide +kernel) ?_
  refine j_newarrL (pc := 373) hX q181 dX4_init_373 hf (fun x133 w134 hf => ?_)
  refine j_putAF (pc := 375) hX hI kX4 (k := 55) (Nat.le_of_ble_eq_true rfl) q2300 rfl rfl rfl rfl dX4_init_375 hf (fun w135 hf => ?_)
  refine j_aload_n (pc := 378) hX dX4_init_378 rfl ?_
  refine j_bipush (pc := 379) hX (72 : Int32) dX4_init_379 (by decide +kernel) ?_
  refine j_newarrL (pc := 381) hX q181 dX4_init_381 hf (fun x136 w137 hf => ?_)
  refine j_putAF (pc := 383) hX hI kX4 (k := 56) (Nat.le_of_ble_eq_true rfl) q2301 rfl rfl rfl rfl dX4_init_383 hf (fun w138 hf => ?_)
  refine j_aload_n (pc := 386) hX dX4_init_386 rfl ?_
  refine j_bipush (pc := 387) hX (72 : Int32) dX4_init_387 (by decide +kernel) ?_
  refine j_newarrL (pc := 389) hX q181 dX4_init_389 hf (fun x139 w140 hf => ?_)
  refine j_putAF (pc := 391) hX hI kX4 (k := 57) (Nat.le_of_ble_eq_true rfl) q2302 rfl rfl rfl rfl dX4_init_391 hf (fun w141 hf => ?_)
  refine j_aload_n (pc := 394) hX dX4_init_394 rfl ?_
  refine j_bipush (pc := 395) hX (72 : Int32) dX4_init_395 (by decide +kernel) ?_
  refine j_newarrL (pc := 397) hX q181 dX4_init_397 hf (fun x142 w143 hf => ?_)
  refine j_putAF (pc := 399) hX hI kX4 (k := 58) (Nat.le_of_ble_eq_true rfl) q2303 rfl rfl rfl rfl dX4_init_399 hf (fun w144 hf => ?_)
  refine j_aload_n (pc := 402) hX dX4_init_402 rfl ?_
  refine j_bipush (pc := 403) hX (72 : Int32) dX4_init_403 (by decide +kernel) ?_
  refine j_newarrL (pc := 405) hX q181 dX4_init_405 hf (fun x145 w146 hf => ?_)
  refine j_putAF (pc := 407) hX hI kX4 (k := 59) (Nat.le_of_ble_eq_true rfl) q2304 rfl rfl rfl rfl dX4_init_407 hf (fun w147 hf => ?_)
  refine j_aload_n (pc := 410) hX dX4_init_410 rfl ?_
  refine j_bipush (pc := 411) hX (24 : Int32) dX4_init_411 (by decide +kernel) ?_
  refine j_newarrL (pc := 413) hX q181 dX4_init_413 hf (fun x148 w149 hf => ?_)
  refine j_putAF (pc := 415) hX hI kX4 (k := 60) (Nat.le_of_ble_eq_true rfl) q2305 rfl rfl rfl rfl dX4_init_415 hf (fun w150 hf => ?_)
  refine j_aload_n (pc := 418) hX dX4_init_418 rfl ?_
  refine j_bipush (pc := 419) hX (24 : Int32) dX4_init_419 (by decide +kernel) ?_
  refine j_newarrL (pc := 421) hX q181 dX4_init_421 hf (fun x151 w152 hf => ?_)
  refine j_putAF (pc := 423) hX hI kX4 (k := 61) (Nat.le_of_ble_eq_true rfl) q2306 rfl rfl rfl rfl dX4_init_423 hf (fun w153 hf => ?_)
  refine j_aload_n (pc := 426) hX dX4_init_426 rfl ?_
  refine j_bipush (pc := 427) hX (24 : Int32) dX4_init_427 (by decide +kernel) ?_
  refine j_newarrL (pc := 429) hX q181 dX4_init_429 hf (fun x154 w155 hf => ?_)
  refine j_putAF (pc := 431) hX hI kX4 (k := 62) (Nat.le_of_ble_eq_true rfl) q2307 rfl rfl rfl rfl dX4_init_431 hf (fun w156 hf => ?_)
  refine j_aload_n (pc := 434) hX dX4_init_434 rfl ?_
  refine j_bipush (pc := 435) hX (24 : Int32) dX4_init_435 (by decide +kernel) ?_
  refine j_newarrL (pc := 437) hX q181 dX4_init_437 hf (fun x157 w158 hf => ?_)
  refine j_putAF (pc := 439) hX hI kX4 (k := 63) (Nat.le_of_ble_eq_true rfl) q2308 rfl rfl rfl rfl dX4_init_439 hf (fun w159 hf => ?_)
  refine j_aload_n (pc := 442) hX dX4_init_442 rfl ?_
  refine j_bipush (pc := 443) hX (24 : Int32) dX4_init_443 (by decide +kernel) ?_
  refine j_newarrL (pc := 445) hX q181 dX4_init_445 hf (fun x160 w161 hf => ?_)
  refine j_putAF (pc := 447) hX hI kX4 (k := 64) (Nat.le_of_ble_eq_true rfl) q2309 rfl rfl rfl rfl dX4_init_447 hf (fun w162 hf => ?_)
  refine j_aload_n (pc := 450) hX dX4_init_450 rfl ?_
  refine j_sipush (pc := 451) hX (144 : Int32) dX4_init_451 (by decide +kernel) ?_
  refine j_newarrL (pc := 454) hX q181 dX4_init_454 hf (fun x163 w164 hf => ?_)
  refine j_putAF (pc := 456) hX hI kX4 (k := 65) (Nat.le_of_ble_eq_true rfl) q2310 rfl rfl rfl rfl dX4_init_456 hf (fun w165 hf => ?_)
  refine j_aload_n (pc := 459) hX dX4_init_459 rfl ?_
  refine j_sipush (pc := 460) hX (144 : Int32) dX4_init_460 (by decide +kernel) ?_
  refine j_newarrL (pc := 463) hX q181 dX4_init_463 hf (fun x166 w167 hf => ?_)
  refine j_putAF (pc := 465) hX hI kX4 (k := 66) (Nat.le_of_ble_eq_true rfl) q2311 rfl rfl rfl rfl dX4_init_465 hf (fun w168 hf => ?_)
  refine j_aload_n (pc := 468) hX dX4_init_468 rfl ?_
  refine j_sipush (pc := 469) hX (432 : Int32) dX4_init_469 (by decide +kernel) ?_
  refine j_newarrL (pc := 472) hX q181 dX4_init_472 hf (fun x169 w170 hf => ?_)
  refine j_putAF (pc := 474) hX hI kX4 (k := 68) (Nat.le_of_ble_eq_true rfl) q2313 rfl rfl rfl rfl dX4_init_474 hf (fun w171 hf => ?_)
  refine j_aload_n (pc := 477) hX dX4_init_477 rfl ?_
  refine j_sipush (pc := 478) hX (432 : Int32) dX4_init_478 (by decide +kernel) ?_
  refine j_newarrL (pc := 481) hX q181 dX4_init_481 hf (fun x172 w173 hf => ?_)
  refine j_putAF (pc := 483) hX hI kX4 (k := 69) (Nat.le_of_ble_eq_true rfl) q2314 rfl rfl rfl rfl dX4_init_483 hf (fun w174 hf => ?_)
  refine j_iconst (pc := 486) hX (0 : Int32) dX4_init_486 rfl ?_
  refine j_istore_n (pc := 487) hX dX4_init_487 (by decide) [some (vA a0), some (vI (0 : Int32))] rfl ?_
  obtain ⟨w177, hm_, hf⟩ := zob hf
  refine lp_X4_init_L488 hX hI n _ _ _ _ _ hm_ ?_
  refine j_iconst (pc := 508) hX (0 : Int32) dX4_init_508 rfl ?_
  refine j_istore_n (pc := 509) hX dX4_init_509 (by decide) [some (vA a0), some (vI (0 : Int32))] rfl ?_
  obtain ⟨w180, hm_, hf⟩ := zob hf
  refine lp_X4_init_L510 hX hI n _ _ _ _ _ hm_ ?_
  refine j_iconst (pc := 529) hX (0 : Int32) dX4_init_529 rfl ?_
  refine j_istore_n (pc := 530) hX dX4_init_530 (by decide) [some (vA a0), some (vI (0 : Int32))] rfl ?_
  obtain ⟨w185, hm_, hf⟩ := zob hf
  refine lp_X4_init_L531 hX hI n _ _ _ _ _ hm_ ?_
  exact j_return (pc := 558) hX hQ (by cases hf; rfl) dX4_init_558
def f_X4_thrown (n : Nat) (w : zM) : Option (Int32 × zM) :=
  some ((mI w 67), w)
theorem mt_X4_thrown : zMt yX4_thrown cX4_thrown 1 (some .int) 0 := ⟨q2459, q82, ⟨by decide, by decide⟩, by decide +kernel, by decide⟩
set_option maxHeartbeats 4000000 in
theorem k_X4_thrown {l : Launch} {n : Nat} {b : Nat} {u : zWd} {w : zM} (r : Int32) (w9 : zM) (hf : f_X4_thrown n w = some (r, w9)) : zCt l yX4_thrown cX4_thrown 1 (some .int) 1 [vA (some b)] (zIj b u w) (.inr (some (vI r), (zIj b u w9))) := by
  refine zCt_of (lv := [some (vA (some b))]) (by decide +kernel) 0 rfl rfl ?_
  intro X hX hI hN hQ
  have hX : zGd X RX4 cX4_thrown 1 (some .int) 1 := hX
  unfold f_X4_thrown at hf
  refine j_aload_n (pc := 0) hX dX4_thrown_0 rfl ?_
  refine mg_I (pc := 1) hX 67 (by decide) rfl q2312 dX4_thrown_1 ?_
  exact j_ireturn (pc := 4) hX hQ (by cases hf; rfl) dX4_thrown_4
def f_X4_in (n : Nat) (a1 : Int64) (a2 : Int64) (a3 : Int64) (w : zM) : Option (Int32 × zM) :=
  (
    if (lg_cmp a1 a2) < (0 : Int32) then
      some (0 : Int32)
    else
      if (0 : Int32) < (lg_cmp a1 a3) then
        some (0 : Int32)
      else
        some (1 : Int32)
    ).bind fun x1 =>
  zRzM x1 w
theorem mt_X4_in : zMt yX4_in cX4_in 7 (some .boolean) 3 := ⟨q2472, q82, ⟨by decide, by decide⟩, by decide +kernel, by decide⟩
set_option maxHeartbeats 4000000 in
theorem k_X4_in {l : Launch} {n : Nat} {a1 : Int64} {a2 : Int64} {a3 : Int64} {b : Nat} {u : zWd} {w : zM} (r : Int32) (w9 : zM) (hf : f_X4_in n a1 a2 a3 w = some (r, w9)) : zCt l yX4_in cX4_in 7 (some .boolean) 1 [vA (some b), vL a1, vL a2, vL a3] (zIj b u w) (.inr (some (vI r), (zIj b u w9))) := by
  refine zCt_of (lv := [some (vA (some b)), some (vL a1), none, some (vL a2), none, some (vL a3), none]) (by decide +kernel) 0 rfl rfl ?_
  intro X hX hI hN hQ
  have hX : zGd X RX4 cX4_in 7 (some .boolean) 1 := hX
  unfold f_X4_in at hf
  refine j_lload_n (pc := 0) hX dX4_in_0 rfl ?_
  refine j_lload_n (pc := 1) hX dX4_in_1 rfl ?_
  refine j_lcmp (pc := 2) hX dX4_in_2 ?_
  obtain ⟨x1, hm_, hf⟩ := zob hf
  have kj3 : zJ X 18 [none, none, none, none, none, none, none] [vI x1] (zIj b u w) := by
    clear hm_
    obtain ⟨hz_, hf⟩ := zRzM_e hf
    exact j_zreturn (pc := 18) hX hQ hz_ (by cases hf; rfl) dX4_in_18
  have hf := hm_
  refine j_if_lt (pc := 3) hX 17 dX4_in_3 rfl hf (fun h_ hf => ?_) (fun h_ hf => ?_)
  · refine j_iconst (pc := 17) hX (0 : Int32) dX4_in_17 rfl ?_
    refine j_fg [0, 1, 3, 5] [none, none, none, none, none, none, none] rfl ?_
    cases hf
    exact kj3
  · refine j_lload_n (pc := 6) hX dX4_in_6 rfl ?_
    refine j_lload (pc := 7) hX dX4_in_7 rfl ?_
    refine j_lcmp (pc := 9) hX dX4_in_9 ?_
    refine j_if_gt (pc := 10) hX 17 dX4_in_10 rfl hf (fun h_ hf => ?_) (fun h_ hf => ?_)
    · refine j_iconst (pc := 17) hX (0 : Int32) dX4_in_17 rfl ?_
      refine j_fg [0, 1, 3, 5] [none, none, none, none, none, none, none] rfl ?_
      cases hf
      exact kj3
    · refine j_iconst (pc := 13) hX (1 : Int32) dX4_in_13 rfl ?_
      refine j_goto (pc := 14) hX 18 dX4_in_14 rfl ?_
      refine j_fg [0, 1, 3, 5] [none, none, none, none, none, none, none] rfl ?_
      cases hf
      exact kj3
def f_X4_isPerson (n : Nat) (a1 : Int32) (w : zM) : Option (Int32 × zM) :=
  zB2 (f_X4_in n (Int32.toInt64 a1) (0 : Int64) (5 : Int64) w) fun x2 w1 =>
  zRzM x2 w1
theorem mt_X4_isPerson : zMt yX4_isPerson cX4_isPerson 2 (some .boolean) 1 := ⟨q2467, q82, ⟨by decide, by decide⟩, by decide +kernel, by decide⟩
set_option maxHeartbeats 4000000 in
theorem k_X4_isPerson {l : Launch} {n : Nat} {a1 : Int32} {b : Nat} {u : zWd} {w : zM} (r : Int32) (w9 : zM) (hf : f_X4_isPerson n a1 w = some (r, w9)) : zCt l yX4_isPerson cX4_isPerson 2 (some .boolean) 2 [vA (some b), vI a1] (zIj b u w) (.inr (some (vI r), (zIj b u w9))) := by
  refine zCt_of (lv := [some (vA (some b)), some (vI a1)]) (by decide +kernel) 0 rfl rfl ?_
  intro X hX hI hN hQ
  have hX : zGd X RX4 cX4_isPerson 2 (some .boolean) 2 := hX
  unfold f_X4_isPerson at hf
  refine j_aload_n (pc := 0) hX dX4_isPerson_0 rfl ?_
  refine j_iload_n (pc := 1) hX dX4_isPerson_1 rfl ?_
  refine j_i2l (pc := 2) hX dX4_isPerson_2 ?_
  refine j_lconst (pc := 3) hX (0 : Int64) dX4_isPerson_3 rfl ?_
  refine j_ldc2 (pc := 4) hX q2468 dX4_isPerson_4 ?_
  obtain ⟨x2, w1, hc_, hf⟩ := zB2_e hf
  refine j_callV (pc := 7) hX (ci := 3) mt_X4_in q2469 q2471 qs29 (zIj_isC b u _) ⟨_, rfl, rfl⟩ [vL (Int32.toInt64 a1), vL (0 : Int64), vL (5 : Int64)] rfl rfl (Nat.le_of_ble_eq_true rfl) (by decide) dX4_isPerson_7 (k_X4_in _ _ hc_) ?_
  obtain ⟨hz_, hf⟩ := zRzM_e hf
  exact j_zreturn (pc := 10) hX hQ hz_ (by cases hf; rfl) dX4_isPerson_10
def f_X4_isPlace (n : Nat) (a1 : Int32) (w : zM) : Option (Int32 × zM) :=
  zB2 (f_X4_in n (Int32.toInt64 a1) (0 : Int64) (2 : Int64) w) fun x2 w1 =>
  zRzM x2 w1
theorem mt_X4_isPlace : zMt yX4_isPlace cX4_isPlace 2 (some .boolean) 1 := ⟨q2476, q82, ⟨by decide, by decide⟩, by decide +kernel, by decide⟩
set_option maxHeartbeats 4000000 in
theorem k_X4_isPlace {l : Launch} {n : Nat} {a1 : Int32} {b : Nat} {u : zWd} {w : zM} (r : Int32) (w9 : zM) (hf : f_X4_isPlace n a1 w = some (r, w9)) : zCt l yX4_isPlace cX4_isPlace 2 (some .boolean) 2 [vA (some b), vI a1] (zIj b u w) (.inr (some (vI r), (zIj b u w9))) := by
  refine zCt_of (lv := [some (vA (some b)), some (vI a1)]) (by decide +kernel) 0 rfl rfl ?_
  intro X hX hI hN hQ
  have hX : zGd X RX4 cX4_isPlace 2 (some .boolean) 2 := hX
  unfold f_X4_isPlace at hf
  refine j_aload_n (pc := 0) hX dX4_isPlace_0 rfl ?_
  refine j_iload_n (pc := 1) hX dX4_isPlace_1 rfl ?_
  refine j_i2l (pc := 2) hX dX4_isPlace_2 ?_
  refine j_lconst (pc := 3) hX (0 : Int64) dX4_isPlace_3 rfl ?_
  refine j_ldc2 (pc := 4) hX q2477 dX4_isPlace_4 ?_
  obtain ⟨x2, w1, hc_, hf⟩ := zB2_e hf
  refine j_callV (pc := 7) hX (ci := 3) mt_X4_in q2469 q2471 qs29 (zIj_isC b u _) ⟨_, rfl, rfl⟩ [vL (Int32.toInt64 a1), vL (0 : Int64), vL (2 : Int64)] rfl rfl (Nat.le_of_ble_eq_true rfl) (by decide) dX4_isPlace_7 (k_X4_in _ _ hc_) ?_
  obtain ⟨hz_, hf⟩ := zRzM_e hf
  exact j_zreturn (pc := 10) hX hQ hz_ (by cases hf; rfl) dX4_isPlace_10
def f_X4_isDay (n : Nat) (a1 : Int32) (w : zM) : Option (Int32 × zM) :=
  zB2 (f_X4_in n (Int32.toInt64 a1) (0 : Int64) (719 : Int64) w) fun x2 w1 =>
  zRzM x2 w1
theorem mt_X4_isDay : zMt yX4_isDay cX4_isDay 2 (some .boolean) 1 := ⟨q2481, q82, ⟨by decide, by decide⟩, by decide +kernel, by decide⟩
set_option maxHeartbeats 4000000 in
theorem k_X4_isDay {l : Launch} {n : Nat} {a1 : Int32} {b : Nat} {u : zWd} {w : zM} (r : Int32) (w9 : zM) (hf : f_X4_isDay n a1 w = some (r, w9)) : zCt l yX4_isDay cX4_isDay 2 (some .boolean) 2 [vA (some b), vI a1] (zIj b u w) (.inr (some (vI r), (zIj b u w9))) := by
  refine zCt_of (lv := [some (vA (some b)), some (vI a1)]) (by decide +kernel) 0 rfl rfl ?_
  intro X hX hI hN hQ
  have hX : zGd X RX4 cX4_isDay 2 (some .boolean) 2 := hX
  unfold f_X4_isDay at hf
  refine j_aload_n (pc := 0) hX dX4_isDay_0 rfl ?_
  refine j_iload_n (pc := 1) hX dX4_isDay_1 rfl ?_
  refine j_i2l (pc := 2) hX dX4_isDay_2 ?_
  refine j_lconst (pc := 3) hX (0 : Int64) dX4_isDay_3 rfl ?_
  refine j_ldc2 (pc := 4) hX q2482 dX4_isDay_4 ?_
  obtain ⟨x2, w1, hc_, hf⟩ := zB2_e hf
  refine j_callV (pc := 7) hX (ci := 3) mt_X4_in q2469 q2471 qs29 (zIj_isC b u _) ⟨_, rfl, rfl⟩ [vL (Int32.toInt64 a1), vL (0 : Int64), vL (719 : Int64)] rfl rfl (Nat.le_of_ble_eq_true rfl) (by decide) dX4_isDay_7 (k_X4_in _ _ hc_) ?_
  obtain ⟨hz_, hf⟩ := zRzM_e hf
  exact j_zreturn (pc := 10) hX hQ hz_ (by cases hf; rfl) dX4_isDay_10
def f_X4_holds (n : Nat) (a1 : Int32) (w : zM) : Option (Int32 × zM) :=
  (pM w 67 a1).bind fun w1 =>
  (
    if a1 ≤ (0 : Int32) then
      some (0 : Int32)
    else
      some (1 : Int32)
    ).bind fun x2 =>
  zRzM x2 w1
theorem mt_X4_holds : zMt yX4_holds cX4_holds 2 (some .boolean) 1 := ⟨q2489, q82, ⟨by decide, by decide⟩, by decide +kernel, by decide⟩
set_option maxHeartbeats 4000000 in
theorem k_X4_holds {l : Launch} {n : Nat} {a1 : Int32} {b : Nat} {u : zWd} {w : zM} (r : Int32) (w9 : zM) (hf : f_X4_holds n a1 w = some (r, w9)) : zCt l yX4_holds cX4_holds 2 (some .boolean) 1 [vA (some b), vI a1] (zIj b u w) (.inr (some (vI r), (zIj b u w9))) := by
  refine zCt_of (lv := [some (vA (some b)), some (vI a1)]) (by decide +kernel) 0 rfl rfl ?_
  intro X hX hI hN hQ
  have hX : zGd X RX4 cX4_holds 2 (some .boolean) 1 := hX
  unfold f_X4_holds at hf
  refine j_aload_n (pc := 0) hX dX4_holds_0 rfl ?_
  refine j_iload_n (pc := 1) hX dX4_holds_1 rfl ?_
  refine mp_I (pc := 2) hX 67 (by decide) rfl rfl q2312 dX4_holds_2 hf (fun w1 hf => ?_)
  refine j_iload_n (pc := 5) hX dX4_holds_5 rfl ?_
  obtain ⟨x2, hm_, hf⟩ := zob hf
  have kj6 : zJ X 14 [none, none] [vI x2] (zIj b u w1) := by
    clear hm_
    obtain ⟨hz_, hf⟩ := zRzM_e hf
    exact j_zreturn (pc := 14) hX hQ hz_ (by cases hf; rfl) dX4_holds_14
  have hf := hm_
  refine j_if_le (pc := 6) hX 13 dX4_holds_6 rfl hf (fun h_ hf => ?_) (fun h_ hf => ?_)
  · refine j_iconst (pc := 13) hX (0 : Int32) dX4_holds_13 rfl ?_
    refine j_fg [0, 1] [none, none] rfl ?_
    cases hf
    exact kj6
  · refine j_iconst (pc := 9) hX (1 : Int32) dX4_holds_9 rfl ?_
    refine j_goto (pc := 10) hX 14 dX4_holds_10 rfl ?_
    refine j_fg [0, 1] [none, none] rfl ?_
    cases hf
    exact kj6
def f_X4_spread_L4b (n : Nat) (c1 : Int32) (rec : Int32 → Int32 → zM → Option (zM)) (v2 : Int32) (v3 : Int32) (w : zM) : Option (zM) :=
  if (720 : Int32) ≤ v3 then
    some w
  else
    (rIM w 6 7200 (((720 : Int32) * c1) + v3)).bind fun x1 =>
    (
      if x1 < (0 : Int32) then
        some v2
      else
        (rIM w 6 7200 (((720 : Int32) * c1) + v3)).bind fun x2 =>
        some x2
      ).bind fun x3 =>
    (sIM w 7 7200 (((720 : Int32) * c1) + v3) x3).bind fun w4 =>
    rec x3 (v3 + (1)) w4
def f_X4_spread_L4 (n : Nat) (c1 : Int32) : Nat → Int32 → Int32 → zM → Option (zM)
  | 0, _, _, _ => none
  | k + 1, v2, v3, w => f_X4_spread_L4b n c1 (f_X4_spread_L4 n c1 k) v2 v3 w
def f_X4_spread (n : Nat) (a1 : Int32) (w : zM) : Option zM :=
  (f_X4_spread_L4 n a1 n (0 : Int32) (0 : Int32) w).bind fun w5 =>
  some w5
theorem mt_X4_spread : zMt yX4_spread cX4_spread 4 none 1 := ⟨q2493, q82, ⟨by decide, by decide⟩, by decide +kernel, by decide⟩
set_option maxHeartbeats 4000000 in
theorem lp_X4_spread_L4 {X : zX} {b : Nat} {u : zWd} (hX : zGd X RX4 cX4_spread 4 none 1) (n : Nat) (c1 : Int32) : ∀ (k : Nat) (v2 : Int32) (v3 : Int32) (w : zM) (w9 : zM) , f_X4_spread_L4 n c1 k v2 v3 w = some w9 → zJ X 62 [some (vA (some b)), some (vI c1), none, none] [] (zIj b u w9) → zJ X 4 [some (vA (some b)), some (vI c1), some (vI v2), some (vI v3)] [] (zIj b u w) := by
  intro k
  induction k with
  | zero => intro v2 v3 w w9 hf _; exact nomatch (show (none : Option (zM)) = _ from hf)
  | succ k ih =>
    intro v2 v3 w w9 hf kx
    have hf : f_X4_spread_L4b n c1 (f_X4_spread_L4 n c1 k) v2 v3 w = _ := hf
    unfold f_X4_spread_L4b at hf
    refine j_iload_n (pc := 4) hX dX4_spread_4 rfl ?_
    refine j_sipush (pc := 5) hX (720 : Int32) dX4_spread_5 (by decide +kernel) ?_
    refine j_icmp_ge (pc := 8) hX 62 dX4_spread_8 rfl hf (fun h_ hf => ?_) (fun h_ hf => ?_)
    · refine j_fg [2, 3] [some (vA (some b)), some (vI c1), none, none] rfl ?_
      cases hf
      exact kx
    · refine j_aload_n (pc := 11) hX dX4_spread_11 rfl ?_
      refine mg_A (pc := 12) hX 6 (by decide) 7 1 rfl rfl (by decide) q2251 dX4_spread_12 ?_
      refine j_sipush (pc := 15) hX (720 : Int32) dX4_spread_15 (by decide +kernel) ?_
      refine j_iload_n (pc := 18) hX dX4_spread_18 rfl ?_
      refine j_imul (pc := 19) hX dX4_spread_19 ?_
      refine j_iload_n (pc := 20) hX dX4_spread_20 rfl ?_
      refine j_iadd (pc := 21) hX dX4_spread_21 ?_
      refine mr_I (pc := 22) hX 6 7200 7 (by decide) rfl rfl rfl dX4_spread_22 hf (fun x1 hx_ hf => ?_)
      obtain ⟨x3, hm_, hf⟩ := zob hf
      have kj23 : zJ X 42 [some (vA (some b)), some (vI c1), none, some (vI v3)] [vI x3] (zIj b u w) := by
        clear hm_
        refine j_istore_n (pc := 42) hX dX4_spread_42 (by decide) [some (vA (some b)), some (vI c1), some (vI x3), some (vI v3)] rfl ?_
        refine j_aload_n (pc := 43) hX dX4_spread_43 rfl ?_
        refine mg_A (pc := 44) hX 7 (by decide) 8 1 rfl rfl (by decide) q2252 dX4_spread_44 ?_
        refine j_sipush (pc := 47) hX (720 : Int32) dX4_spread_47 (by decide +kernel) ?_
        refine j_iload_n (pc := 50) hX dX4_spread_50 rfl ?_
        refine j_imul (pc := 51) hX dX4_spread_51 ?_
        refine j_iload_n (pc := 52) hX dX4_spread_52 rfl ?_
        refine j_iadd (pc := 53) hX dX4_spread_53 ?_
        refine j_iload_n (pc := 54) hX dX4_spread_54 rfl ?_
        refine ms_I (pc := 55) hX 7 7200 8 (by decide) rfl rfl rfl dX4_spread_55 hf (fun w4 hf => ?_)
        refine j_iinc (pc := 56) hX (1) dX4_spread_56 rfl rfl (by decide) [some (vA (some b)), some (vI c1), some (vI x3), some (vI (v3 + (1)))] rfl ?_
        refine j_goto (pc := 59) hX 4 dX4_spread_59 rfl ?_
        exact ih _ _ _ _ hf kx
      have hf := hm_
      refine j_if_lt (pc := 23) hX 41 dX4_spread_23 rfl hf (fun h_ hf => ?_) (fun h_ hf => ?_)
      · refine j_iload_n (pc := 41) hX dX4_spread_41 rfl ?_
        refine j_fg [2] [some (vA (some b)), some (vI c1), none, some (vI v3)] rfl ?_
        cases hf
        exact kj23
      · refine j_aload_n (pc := 26) hX dX4_spread_26 rfl ?_
        refine mg_A (pc := 27) hX 6 (by decide) 7 1 rfl rfl (by decide) q2251 dX4_spread_27 ?_
        refine j_sipush (pc := 30) hX (720 : Int32) dX4_spread_30 (by decide +kernel) ?_
        refine j_iload_n (pc := 33) hX dX4_spread_33 rfl ?_
        refine j_imul (pc := 34) hX dX4_spread_34 ?_
        refine j_iload_n (pc := 35) hX dX4_spread_35 rfl ?_
        refine j_iadd (pc := 36) hX dX4_spread_36 ?_
        refine mr_I (pc := 37) hX 6 7200 7 (by decide) rfl rfl rfl dX4_spread_37 hf (fun x2 hx_ hf => ?_)
        refine j_goto (pc := 38) hX 42 dX4_spread_38 rfl ?_
        refine j_fg [2] [some (vA (some b)), some (vI c1), none, some (vI v3)] rfl ?_
        cases hf
        exact kj23
set_option maxHeartbeats 4000000 in
theorem k_X4_spread {l : Launch} {n : Nat} {a1 : Int32} {b : Nat} {u : zWd} {w : zM} (r : Unit) (w9 : zM) (hf : f_X4_spread n a1 w = some w9) : zCt l yX4_spread cX4_spread 4 none 1 [vA (some b), vI a1] (zIj b u w) (.inr (none, (zIj b u w9))) := by
  refine zCt_of (lv := [some (vA (some b)), some (vI a1), none, none]) (by decide +kernel) 2 rfl rfl ?_
  intro X hX hI hN hQ
  have hX : zGd X RX4 cX4_spread 4 none 1 := hX
  unfold f_X4_spread at hf
  refine j_iconst (pc := 0) hX (0 : Int32) dX4_spread_0 rfl ?_
  refine j_istore_n (pc := 1) hX dX4_spread_1 (by decide) [some (vA (some b)), some (vI a1), some (vI (0 : Int32)), none] rfl ?_
  refine j_iconst (pc := 2) hX (0 : Int32) dX4_spread_2 rfl ?_
  refine j_istore_n (pc := 3) hX dX4_spread_3 (by decide) [some (vA (some b)), some (vI a1), some (vI (0 : Int32)), some (vI (0 : Int32))] rfl ?_
  obtain ⟨w5, hm_, hf⟩ := zob hf
  refine lp_X4_spread_L4 hX n _ _ _ _ _ _ hm_ ?_
  exact j_return (pc := 62) hX hQ (by cases hf; rfl) dX4_spread_62
def f_X4_contract (n : Nat) (a1 : Int32) (a2 : Int32) (a3 : Int32) (a4 : Int32) (a5 : Int32) (a6 : Int32) (a7 : Int32) (w : zM) : Option (Int32 × zM) :=
  zB2 (f_X4_isPerson n a1 w) fun x2 w1 =>
  zB2 (
    if x2 = (0 : Int32) then
      some ((0 : Int32), w1)
    else
      zB2 (f_X4_isPlace n a2 w1) fun x4 w3 =>
      if x4 = (0 : Int32) then
        some ((0 : Int32), w3)
      else
        zB2 (f_X4_isDay n a3 w3) fun x6 w5 =>
        if x6 = (0 : Int32) then
          some ((0 : Int32), w5)
        else
          zB2 (f_X4_isDay n a4 w5) fun x8 w7 =>
          if x8 = (0 : Int32) then
            some ((0 : Int32), w7)
          else
            some ((1 : Int32), w7)
    ) fun x9 w10 =>
  zB2 (
    if a4 < a3 then
      some ((0 : Int32), w10)
    else
      zB2 (f_X4_in n (Int32.toInt64 a6) (60 : Int64) (600 : Int64) w10) fun x12 w11 =>
      if x12 = (0 : Int32) then
        some ((0 : Int32), w11)
      else
        zB2 (f_X4_in n (Int32.toInt64 a7) (0 : Int64) (1000000 : Int64) w11) fun x14 w13 =>
        if x14 = (0 : Int32) then
          some ((0 : Int32), w13)
        else
          some ((1 : Int32), w13)
    ) fun x15 w16 =>
  (
    if x9 = (0 : Int32) then
      some (1 : Int32)
    else
      if x15 = (0 : Int32) then
        some (2 : Int32)
      else
        if (mI w16 9) = (10 : Int32) then
          some (3 : Int32)
        else
          some (0 : Int32)
    ).bind fun x17 =>
  zB2 (f_X4_holds n x17 w16) fun x19 w18 =>
  if x19 = (0 : Int32) then
    (sIM w18 0 10 (mI w18 9) a1).bind fun w20 =>
    (sIM w20 1 10 (mI w18 9) a2).bind fun w21 =>
    (sIM w21 2 10 (mI w18 9) a3).bind fun w22 =>
    (sIM w22 3 10 (mI w18 9) a4).bind fun w23 =>
    (
      if a5 = (0 : Int32) then
        some (0 : Int32)
      else
        some (1 : Int32)
      ).bind fun x24 =>
    (sIM w23 4 10 (mI w18 9) x24).bind fun w25 =>
    (sIM w25 5 10 (mI w18 9) a6).bind fun w26 =>
    (sIM w26 6 7200 (((720 : Int32) * (mI w18 9)) + a3) a7).bind fun w27 =>
    (f_X4_spread n (mI w18 9) w27).bind fun w28 =>
    (pM w28 9 ((mI w28 9) + (1 : Int32))).bind fun w29 =>
    some ((mI w18 9), w29)
  else
    some ((-1 : Int32), w18)
theorem mt_X4_contract : zMt yX4_contract cX4_contract 11 (some .int) 7 := ⟨q2463, q82, ⟨by decide, by decide⟩, by decide +kernel, by decide⟩
set_option maxHeartbeats 4000000 in
theorem k_X4_contract {l : Launch} {n : Nat} {a1 : Int32} {a2 : Int32} {a3 : Int32} {a4 : Int32} {a5 : Int32} {a6 : Int32} {a7 : Int32} {b : Nat} {u : zWd} {w : zM} (r : Int32) (w9 : zM) (hf : f_X4_contract n a1 a2 a3 a4 a5 a6 a7 w = some (r, w9)) : zCt l yX4_contract cX4_contract 11 (some .int) 3 [vA (some b), vI a1, vI a2, vI a3, vI a4, vI a5, vI a6, vI a7] (zIj b u w) (.inr (some (vI r), (zIj b u w9))) := by
  refine zCt_of (lv := [some (vA (some b)), some (vI a1), some (vI a2), some (vI a3), some (vI a4), some (vI a5), some (vI a6), some (vI a7), none, none, none]) (by decide +kernel) 3 rfl rfl ?_
  intro X hX hI hN hQ
  have hX : zGd X RX4 cX4_contract 11 (some .int) 3 := hX
  unfold f_X4_contract at hf
  refine j_aload_n (pc := 0) hX dX4_contract_0 rfl ?_
  refine j_iload_n (pc := 1) hX dX4_contract_1 rfl ?_
  obtain ⟨x2, w1, hc_, hf⟩ := zB2_e hf
  refine j_callV (pc := 2) hX (ci := 3) mt_X4_isPerson q2464 q2466 qs28 (zIj_isC b u _) ⟨_, rfl, rfl⟩ [vI a1] rfl rfl (Nat.le_of_ble_eq_true rfl) (by decide) dX4_contract_2 (k_X4_isPerson _ _ hc_) ?_
  obtain ⟨x9, w10, hm_, hf⟩ := zB2_e hf
  have kj5 : zJ X 38 [some (vA (some b)), some (vI a1), some (vI a2), some (vI a3), some (vI a4), some (vI a5), some (vI a6), some (vI a7), none, none, none] [vI x9] (zIj b u w10) := by
    clear hm_
    refine j_istore (pc := 38) hX dX4_contract_38 (by decide) [some (vA (some b)), some (vI a1), some (vI a2), some (vI a3), some (vI a4), some (vI a5), some (vI a6), some (vI a7), some (vI x9), none, none] rfl ?_
    refine j_iload (pc := 40) hX dX4_contract_40 rfl ?_
    refine j_iload_n (pc := 42) hX dX4_contract_42 rfl ?_
    obtain ⟨x15, w16, hm_, hf⟩ := zB2_e hf
    have kj43 : zJ X 81 [some (vA (some b)), some (vI a1), some (vI a2), some (vI a3), some (vI a4), some (vI a5), some (vI a6), some (vI a7), some (vI x9), none, none] [vI x15] (zIj b u w16) := by
      clear hm_
      refine j_istore (pc := 81) hX dX4_contract_81 (by decide) [some (vA (some b)), some (vI a1), some (vI a2), some (vI a3), some (vI a4), some (vI a5), some (vI a6), some (vI a7), some (vI x9), some (vI x15), none] rfl ?_
      refine j_aload_n (pc := 83) hX dX4_contract_83 rfl ?_
      refine j_iload (pc := 84) hX dX4_contract_84 rfl ?_
      obtain ⟨x17, hm_, hf⟩ := zob hf
      have kj86 : zJ X 116 [some (vA (some b)), some (vI a1), some (vI a2), some (vI a3), some (vI a4), some (vI a5), some (vI a6), some (vI a7), none, none, none] [vI x17, vA (some b)] (zIj b u w16) := by
        clear hm_
        obtain ⟨x19, w18, hc_, hf⟩ := zB2_e hf
        refine j_callV (pc := 116) hX (ci := 3) mt_X4_holds q2486 q2488 qs32 (zIj_isC b u _) ⟨_, rfl, rfl⟩ [vI x17] rfl rfl (Nat.le_of_ble_eq_true rfl) (by decide) dX4_contract_116 (k_X4_holds _ _ hc_) ?_
        refine j_if_eq (pc := 119) hX 124 dX4_contract_119 rfl hf (fun h_ hf => ?_) (fun h_ hf => ?_)
        · refine j_aload_n (pc := 124) hX dX4_contract_124 rfl ?_
          refine mg_I (pc := 125) hX 9 (by decide) rfl q2254 dX4_contract_125 ?_
          refine j_istore (pc := 128) hX dX4_contract_128 (by decide) [some (vA (some b)), some (vI a1), some (vI a2), some (vI a3), some (vI a4), some (vI a5), some (vI a6), some (vI a7), none, none, some (vI (mI w18 9))] rfl ?_
          refine j_aload_n (pc := 130) hX dX4_contract_130 rfl ?_
          refine mg_A (pc := 131) hX 0 (by decide) 1 1 rfl rfl (by decide) q2245 dX4_contract_131 ?_
          refine j_iload (pc := 134) hX dX4_contract_134 rfl ?_
          refine j_iload_n (pc := 136) hX dX4_contract_136 rfl ?_
          refine ms_I (pc := 137) hX 0 10 1 (by decide) rfl rfl rfl dX4_contract_137 hf (fun w20 hf => ?_)
          refine j_aload_n (pc := 138) hX dX4_contract_138 rfl ?_
          refine mg_A (pc := 139) hX 1 (by decide) 2 1 rfl rfl (by decide) q2246 dX4_contract_139 ?_
          refine j_iload (pc := 142) hX dX4_contract_142 rfl ?_
          refine j_iload_n (pc := 144) hX dX4_contract_144 rfl ?_
          refine ms_I (pc := 145) hX 1 10 2 (by decide) rfl rfl rfl dX4_contract_145 hf (fun w21 hf => ?_)
          refine j_aload_n (pc := 146) hX dX4_contract_146 rfl ?_
          refine mg_A (pc := 147) hX 2 (by decide) 3 1 rfl rfl (by decide) q2247 dX4_contract_147 ?_
          refine j_iload (pc := 150) hX dX4_contract_150 rfl ?_
          refine j_iload_n (pc := 152) hX dX4_contract_152 rfl ?_
          refine ms_I (pc := 153) hX 2 10 3 (by decide) rfl rfl rfl dX4_contract_153 hf (fun w22 hf => ?_)
          refine j_aload_n (pc := 154) hX dX4_contract_154 rfl ?_
          refine mg_A (pc := 155) hX 3 (by decide) 4 1 rfl rfl (by decide) q2248 dX4_contract_155 ?_
          refine j_iload (pc := 158) hX dX4_contract_158 rfl ?_
          refine j_iload (pc := 160) hX dX4_contract_160 rfl ?_
          refine ms_I (pc := 162) hX 3 10 4 (by decide) rfl rfl rfl dX4_contract_162 hf (fun w23 hf => ?_)
          refine j_aload_n (pc := 163) hX dX4_contract_163 rfl ?_
          refine mg_A (pc := 164) hX 4 (by decide) 5 1 rfl rfl (by decide) q2249 dX4_contract_164 ?_
          refine j_iload (pc := 167) hX dX4_contract_167 rfl ?_
          refine j_iload (pc := 169) hX dX4_contract_169 rfl ?_
          obtain ⟨x24, hm_, hf⟩ := zob hf
          have kj171 : zJ X 179 [some (vA (some b)), none, none, some (vI a3), none, none, some (vI a6), some (vI a7), none, none, some (vI (mI w18 9))] [vI x24, vI (mI w18 9), vA (some (b + 5))] (zIj b u w23) := by
            clear hm_
            refine ms_I (pc := 179) hX 4 10 5 (by decide) rfl rfl rfl dX4_contract_179 hf (fun w25 hf => ?_)
            refine j_aload_n (pc := 180) hX dX4_contract_180 rfl ?_
            refine mg_A (pc := 181) hX 5 (by decide) 6 1 rfl rfl (by decide) q2250 dX4_contract_181 ?_
            refine j_iload (pc := 184) hX dX4_contract_184 rfl ?_
            refine j_iload (pc := 186) hX dX4_contract_186 rfl ?_
            refine ms_I (pc := 188) hX 5 10 6 (by decide) rfl rfl rfl dX4_contract_188 hf (fun w26 hf => ?_)
            refine j_aload_n (pc := 189) hX dX4_contract_189 rfl ?_
            refine mg_A (pc := 190) hX 6 (by decide) 7 1 rfl rfl (by decide) q2251 dX4_contract_190 ?_
            refine j_sipush (pc := 193) hX (720 : Int32) dX4_contract_193 (by decide +kernel) ?_
            refine j_iload (pc := 196) hX dX4_contract_196 rfl ?_
            refine j_imul (pc := 198) hX dX4_contract_198 ?_
            refine j_iload_n (pc := 199) hX dX4_contract_199 rfl ?_
            refine j_iadd (pc := 200) hX dX4_contract_200 ?_
            refine j_iload (pc := 201) hX dX4_contract_201 rfl ?_
            refine ms_I (pc := 203) hX 6 7200 7 (by decide) rfl rfl rfl dX4_contract_203 hf (fun w27 hf => ?_)
            refine j_aload_n (pc := 204) hX dX4_contract_204 rfl ?_
            refine j_iload (pc := 205) hX dX4_contract_205 rfl ?_
            obtain ⟨w28, hc_, hf⟩ := zob hf
            refine j_callV (pc := 207) hX (ci := 3) mt_X4_spread q2490 q2492 qs33 (zIj_isC b u _) ⟨_, rfl, rfl⟩ [vI (mI w18 9)] rfl rfl (Nat.le_of_ble_eq_true rfl) (by decide) dX4_contract_207 (k_X4_spread () _ hc_) ?_
            refine j_aload_n (pc := 210) hX dX4_contract_210 rfl ?_
            refine j_dup (pc := 211) hX rfl dX4_contract_211 ?_
            refine mg_I (pc := 212) hX 9 (by decide) rfl q2254 dX4_contract_212 ?_
            refine j_iconst (pc := 215) hX (1 : Int32) dX4_contract_215 rfl ?_
            refine j_iadd (pc := 216) hX dX4_contract_216 ?_
            refine mp_I (pc := 217) hX 9 (by decide) rfl rfl q2254 dX4_contract_217 hf (fun w29 hf => ?_)
            refine j_iload (pc := 220) hX dX4_contract_220 rfl ?_
            exact j_ireturn (pc := 222) hX hQ (by cases hf; rfl) dX4_contract_222
          have hf := hm_
          refine j_if_eq (pc := 171) hX 178 dX4_contract_171 rfl hf (fun h_ hf => ?_) (fun h_ hf => ?_)
          · refine j_iconst (pc := 178) hX (0 : Int32) dX4_contract_178 rfl ?_
            refine j_fg [1, 2, 4, 5] [some (vA (some b)), none, none, some (vI a3), none, none, some (vI a6), some (vI a7), none, none, some (vI (mI w18 9))] rfl ?_
            cases hf
            exact kj171
          · refine j_iconst (pc := 174) hX (1 : Int32) dX4_contract_174 rfl ?_
            refine j_goto (pc := 175) hX 179 dX4_contract_175 rfl ?_
            refine j_fg [1, 2, 4, 5] [some (vA (some b)), none, none, some (vI a3), none, none, some (vI a6), some (vI a7), none, none, some (vI (mI w18 9))] rfl ?_
            cases hf
            exact kj171
        · refine j_iconst (pc := 122) hX (-1 : Int32) dX4_contract_122 rfl ?_
          exact j_ireturn (pc := 123) hX hQ (by cases hf; rfl) dX4_contract_123
      have hf := hm_
      refine j_if_ne (pc := 86) hX 93 dX4_contract_86 rfl hf (fun h_ hf => ?_) (fun h_ hf => ?_)
      · refine j_iload (pc := 93) hX dX4_contract_93 rfl ?_
        refine j_if_ne (pc := 95) hX 102 dX4_contract_95 rfl hf (fun h_ hf => ?_) (fun h_ hf => ?_)
        · refine j_aload_n (pc := 102) hX dX4_contract_102 rfl ?_
          refine mg_I (pc := 103) hX 9 (by decide) rfl q2254 dX4_contract_103 ?_
          refine j_bipush (pc := 106) hX (10 : Int32) dX4_contract_106 (by decide +kernel) ?_
          refine j_icmp_ne (pc := 108) hX 115 dX4_contract_108 rfl hf (fun h_ hf => ?_) (fun h_ hf => ?_)
          · refine j_iconst (pc := 115) hX (0 : Int32) dX4_contract_115 rfl ?_
            refine j_fg [8, 9] [some (vA (some b)), some (vI a1), some (vI a2), some (vI a3), some (vI a4), some (vI a5), some (vI a6), some (vI a7), none, none, none] rfl ?_
            cases hf
            exact kj86
          · refine j_iconst (pc := 111) hX (3 : Int32) dX4_contract_111 rfl ?_
            refine j_goto (pc := 112) hX 116 dX4_contract_112 rfl ?_
            refine j_fg [8, 9] [some (vA (some b)), some (vI a1), some (vI a2), some (vI a3), some (vI a4), some (vI a5), some (vI a6), some (vI a7), none, none, none] rfl ?_
            cases hf
            exact kj86
        · refine j_iconst (pc := 98) hX (2 : Int32) dX4_contract_98 rfl ?_
          refine j_goto (pc := 99) hX 116 dX4_contract_99 rfl ?_
          refine j_fg [8, 9] [some (vA (some b)), some (vI a1), some (vI a2), some (vI a3), some (vI a4), some (vI a5), some (vI a6), some (vI a7), none, none, none] rfl ?_
          cases hf
          exact kj86
      · refine j_iconst (pc := 89) hX (1 : Int32) dX4_contract_89 rfl ?_
        refine j_goto (pc := 90) hX 116 dX4_contract_90 rfl ?_
        refine j_fg [8, 9] [some (vA (some b)), some (vI a1), some (vI a2), some (vI a3), some (vI a4), some (vI a5), some (vI a6), some (vI a7), none, none, none] rfl ?_
        cases hf
        exact kj86
    have hf := hm_
    refine j_icmp_lt (pc := 43) hX 80 dX4_contract_43 rfl hf (fun h_ hf => ?_) (fun h_ hf => ?_)
    · refine j_iconst (pc := 80) hX (0 : Int32) dX4_contract_80 rfl ?_
      cases hf
      exact kj43
    · refine j_aload_n (pc := 46) hX dX4_contract_46 rfl ?_
      refine j_iload (pc := 47) hX dX4_contract_47 rfl ?_
      refine j_i2l (pc := 49) hX dX4_contract_49 ?_
      refine j_ldc2 (pc := 50) hX q2483 dX4_contract_50 ?_
      refine j_ldc2 (pc := 53) hX q2484 dX4_contract_53 ?_
      obtain ⟨x12, w11, hc_, hf⟩ := zB2_e hf
      refine j_callV (pc := 56) hX (ci := 3) mt_X4_in q2469 q2471 qs29 (zIj_isC b u _) ⟨_, rfl, rfl⟩ [vL (Int32.toInt64 a6), vL (60 : Int64), vL (600 : Int64)] rfl rfl (Nat.le_of_ble_eq_true rfl) (by decide) dX4_contract_56 (k_X4_in _ _ hc_) ?_
      refine j_if_eq (pc := 59) hX 80 dX4_contract_59 rfl hf (fun h_ hf => ?_) (fun h_ hf => ?_)
      · refine j_iconst (pc := 80) hX (0 : Int32) dX4_contract_80 rfl ?_
        cases hf
        exact kj43
      · refine j_aload_n (pc := 62) hX dX4_contract_62 rfl ?_
        refine j_iload (pc := 63) hX dX4_contract_63 rfl ?_
        refine j_i2l (pc := 65) hX dX4_contract_65 ?_
        refine j_lconst (pc := 66) hX (0 : Int64) dX4_contract_66 rfl ?_
        refine j_ldc2 (pc := 67) hX q2485 dX4_contract_67 ?_
        obtain ⟨x14, w13, hc_, hf⟩ := zB2_e hf
        refine j_callV (pc := 70) hX (ci := 3) mt_X4_in q2469 q2471 qs29 (zIj_isC b u _) ⟨_, rfl, rfl⟩ [vL (Int32.toInt64 a7), vL (0 : Int64), vL (1000000 : Int64)] rfl rfl (Nat.le_of_ble_eq_true rfl) (by decide) dX4_contract_70 (k_X4_in _ _ hc_) ?_
        refine j_if_eq (pc := 73) hX 80 dX4_contract_73 rfl hf (fun h_ hf => ?_) (fun h_ hf => ?_)
        · refine j_iconst (pc := 80) hX (0 : Int32) dX4_contract_80 rfl ?_
          cases hf
          exact kj43
        · refine j_iconst (pc := 76) hX (1 : Int32) dX4_contract_76 rfl ?_
          refine j_goto (pc := 77) hX 81 dX4_contract_77 rfl ?_
          cases hf
          exact kj43
  have hf := hm_
  refine j_if_eq (pc := 5) hX 37 dX4_contract_5 rfl hf (fun h_ hf => ?_) (fun h_ hf => ?_)
  · refine j_iconst (pc := 37) hX (0 : Int32) dX4_contract_37 rfl ?_
    cases hf
    exact kj5
  · refine j_aload_n (pc := 8) hX dX4_contract_8 rfl ?_
    refine j_iload_n (pc := 9) hX dX4_contract_9 rfl ?_
    obtain ⟨x4, w3, hc_, hf⟩ := zB2_e hf
    refine j_callV (pc := 10) hX (ci := 3) mt_X4_isPlace q2473 q2475 qs30 (zIj_isC b u _) ⟨_, rfl, rfl⟩ [vI a2] rfl rfl (Nat.le_of_ble_eq_true rfl) (by decide) dX4_contract_10 (k_X4_isPlace _ _ hc_) ?_
    refine j_if_eq (pc := 13) hX 37 dX4_contract_13 rfl hf (fun h_ hf => ?_) (fun h_ hf => ?_)
    · refine j_iconst (pc := 37) hX (0 : Int32) dX4_contract_37 rfl ?_
      cases hf
      exact kj5
    · refine j_aload_n (pc := 16) hX dX4_contract_16 rfl ?_
      refine j_iload_n (pc := 17) hX dX4_contract_17 rfl ?_
      obtain ⟨x6, w5, hc_, hf⟩ := zB2_e hf
      refine j_callV (pc := 18) hX (ci := 3) mt_X4_isDay q2478 q2480 qs31 (zIj_isC b u _) ⟨_, rfl, rfl⟩ [vI a3] rfl rfl (Nat.le_of_ble_eq_true rfl) (by decide) dX4_contract_18 (k_X4_isDay _ _ hc_) ?_
      refine j_if_eq (pc := 21) hX 37 dX4_contract_21 rfl hf (fun h_ hf => ?_) (fun h_ hf => ?_)
      · refine j_iconst (pc := 37) hX (0 : Int32) dX4_contract_37 rfl ?_
        cases hf
        exact kj5
      · refine j_aload_n (pc := 24) hX dX4_contract_24 rfl ?_
        refine j_iload (pc := 25) hX dX4_contract_25 rfl ?_
        obtain ⟨x8, w7, hc_, hf⟩ := zB2_e hf
        refine j_callV (pc := 27) hX (ci := 3) mt_X4_isDay q2478 q2480 qs31 (zIj_isC b u _) ⟨_, rfl, rfl⟩ [vI a4] rfl rfl (Nat.le_of_ble_eq_true rfl) (by decide) dX4_contract_27 (k_X4_isDay _ _ hc_) ?_
        refine j_if_eq (pc := 30) hX 37 dX4_contract_30 rfl hf (fun h_ hf => ?_) (fun h_ hf => ?_)
        · refine j_iconst (pc := 37) hX (0 : Int32) dX4_contract_37 rfl ?_
          cases hf
          exact kj5
        · refine j_iconst (pc := 33) hX (1 : Int32) dX4_contract_33 rfl ?_
          refine j_goto (pc := 34) hX 38 dX4_contract_34 rfl ?_
          cases hf
          exact kj5
def f_X4_isContract (n : Nat) (a1 : Int32) (w : zM) : Option (Int32 × zM) :=
  zB2 (f_X4_in n (Int32.toInt64 a1) (0 : Int64) (Int32.toInt64 ((mI w 9) - (1 : Int32))) w) fun x2 w1 =>
  zRzM x2 w1
theorem mt_X4_isContract : zMt yX4_isContract cX4_isContract 2 (some .boolean) 1 := ⟨q2501, q82, ⟨by decide, by decide⟩, by decide +kernel, by decide⟩
set_option maxHeartbeats 4000000 in
theorem k_X4_isContract {l : Launch} {n : Nat} {a1 : Int32} {b : Nat} {u : zWd} {w : zM} (r : Int32) (w9 : zM) (hf : f_X4_isContract n a1 w = some (r, w9)) : zCt l yX4_isContract cX4_isContract 2 (some .boolean) 2 [vA (some b), vI a1] (zIj b u w) (.inr (some (vI r), (zIj b u w9))) := by
  refine zCt_of (lv := [some (vA (some b)), some (vI a1)]) (by decide +kernel) 0 rfl rfl ?_
  intro X hX hI hN hQ
  have hX : zGd X RX4 cX4_isContract 2 (some .boolean) 2 := hX
  unfold f_X4_isContract at hf
  refine j_aload_n (pc := 0) hX dX4_isContract_0 rfl ?_
  refine j_iload_n (pc := 1) hX dX4_isContract_1 rfl ?_
  refine j_i2l (pc := 2) hX dX4_isContract_2 ?_
  refine j_lconst (pc := 3) hX (0 : Int64) dX4_isContract_3 rfl ?_
  refine j_aload_n (pc := 4) hX dX4_isContract_4 rfl ?_
  refine mg_I (pc := 5) hX 9 (by decide) rfl q2254 dX4_isContract_5 ?_
  refine j_iconst (pc := 8) hX (1 : Int32) dX4_isContract_8 rfl ?_
  refine j_isub (pc := 9) hX dX4_isContract_9 ?_
  refine j_i2l (pc := 10) hX dX4_isContract_10 ?_
  obtain ⟨x2, w1, hc_, hf⟩ := zB2_e hf
  refine j_callV (pc := 11) hX (ci := 3) mt_X4_in q2469 q2471 qs29 (zIj_isC b u _) ⟨_, rfl, rfl⟩ [vL (Int32.toInt64 a1), vL (0 : Int64), vL (Int32.toInt64 ((mI w 9) - (1 : Int32)))] rfl rfl (Nat.le_of_ble_eq_true rfl) (by decide) dX4_isContract_11 (k_X4_in _ _ hc_) ?_
  obtain ⟨hz_, hf⟩ := zRzM_e hf
  exact j_zreturn (pc := 14) hX hQ hz_ (by cases hf; rfl) dX4_isContract_14
def f_X4_payOn (n : Nat) (a1 : Int32) (a2 : Int32) (w : zM) : Option (Int64 × zM) :=
  (rIM w 3 10 a1).bind fun x1 =>
  (
    if a2 ≤ x1 then
      (rIM w 2 10 a1).bind fun x2 =>
      if x2 ≤ a2 then
        some a2
      else
        (rIM w 2 10 a1).bind fun x3 =>
        some x3
    else
      (rIM w 3 10 a1).bind fun x4 =>
      some x4
    ).bind fun x5 =>
  (rIM w 7 7200 (((720 : Int32) * a1) + x5)).bind fun x6 =>
  some ((Int32.toInt64 x6), w)
theorem mt_X4_payOn : zMt yX4_payOn cX4_payOn 3 (some .long) 2 := ⟨q2505, q82, ⟨by decide, by decide⟩, by decide +kernel, by decide⟩
set_option maxHeartbeats 4000000 in
theorem k_X4_payOn {l : Launch} {n : Nat} {a1 : Int32} {a2 : Int32} {b : Nat} {u : zWd} {w : zM} (r : Int64) (w9 : zM) (hf : f_X4_payOn n a1 a2 w = some (r, w9)) : zCt l yX4_payOn cX4_payOn 3 (some .long) 1 [vA (some b), vI a1, vI a2] (zIj b u w) (.inr (some (vL r), (zIj b u w9))) := by
  refine zCt_of (lv := [some (vA (some b)), some (vI a1), some (vI a2)]) (by decide +kernel) 0 rfl rfl ?_
  intro X hX hI hN hQ
  have hX : zGd X RX4 cX4_payOn 3 (some .long) 1 := hX
  unfold f_X4_payOn at hf
  refine j_aload_n (pc := 0) hX dX4_payOn_0 rfl ?_
  refine mg_A (pc := 1) hX 7 (by decide) 8 1 rfl rfl (by decide) q2252 dX4_payOn_1 ?_
  refine j_sipush (pc := 4) hX (720 : Int32) dX4_payOn_4 (by decide +kernel) ?_
  refine j_iload_n (pc := 7) hX dX4_payOn_7 rfl ?_
  refine j_imul (pc := 8) hX dX4_payOn_8 ?_
  refine j_iload_n (pc := 9) hX dX4_payOn_9 rfl ?_
  refine j_aload_n (pc := 10) hX dX4_payOn_10 rfl ?_
  refine mg_A (pc := 11) hX 3 (by decide) 4 1 rfl rfl (by decide) q2248 dX4_payOn_11 ?_
  refine j_iload_n (pc := 14) hX dX4_payOn_14 rfl ?_
  refine mr_I (pc := 15) hX 3 10 4 (by decide) rfl rfl rfl dX4_payOn_15 hf (fun x1 hx_ hf => ?_)
  obtain ⟨x5, hm_, hf⟩ := zob hf
  have kj16 : zJ X 48 [none, none, none] [vI x5, vI ((720 : Int32) * a1), vA (some (b + 8))] (zIj b u w) := by
    clear hm_
    refine j_iadd (pc := 48) hX dX4_payOn_48 ?_
    refine mr_I (pc := 49) hX 7 7200 8 (by decide) rfl rfl rfl dX4_payOn_49 hf (fun x6 hx_ hf => ?_)
    refine j_i2l (pc := 50) hX dX4_payOn_50 ?_
    exact j_lreturn (pc := 51) hX hQ (by cases hf; rfl) dX4_payOn_51
  have hf := hm_
  refine j_icmp_le (pc := 16) hX 28 dX4_payOn_16 rfl hf (fun h_ hf => ?_) (fun h_ hf => ?_)
  · refine j_iload_n (pc := 28) hX dX4_payOn_28 rfl ?_
    refine j_aload_n (pc := 29) hX dX4_payOn_29 rfl ?_
    refine mg_A (pc := 30) hX 2 (by decide) 3 1 rfl rfl (by decide) q2247 dX4_payOn_30 ?_
    refine j_iload_n (pc := 33) hX dX4_payOn_33 rfl ?_
    refine mr_I (pc := 34) hX 2 10 3 (by decide) rfl rfl rfl dX4_payOn_34 hf (fun x2 hx_ hf => ?_)
    refine j_icmp_ge (pc := 35) hX 47 dX4_payOn_35 rfl hf (fun h_ hf => ?_) (fun h_ hf => ?_)
    · refine j_iload_n (pc := 47) hX dX4_payOn_47 rfl ?_
      refine j_fg [0, 1, 2] [none, none, none] rfl ?_
      cases hf
      exact kj16
    · refine j_aload_n (pc := 38) hX dX4_payOn_38 rfl ?_
      refine mg_A (pc := 39) hX 2 (by decide) 3 1 rfl rfl (by decide) q2247 dX4_payOn_39 ?_
      refine j_iload_n (pc := 42) hX dX4_payOn_42 rfl ?_
      refine mr_I (pc := 43) hX 2 10 3 (by decide) rfl rfl rfl dX4_payOn_43 hf (fun x3 hx_ hf => ?_)
      refine j_goto (pc := 44) hX 48 dX4_payOn_44 rfl ?_
      refine j_fg [0, 1, 2] [none, none, none] rfl ?_
      cases hf
      exact kj16
  · refine j_aload_n (pc := 19) hX dX4_payOn_19 rfl ?_
    refine mg_A (pc := 20) hX 3 (by decide) 4 1 rfl rfl (by decide) q2248 dX4_payOn_20 ?_
    refine j_iload_n (pc := 23) hX dX4_payOn_23 rfl ?_
    refine mr_I (pc := 24) hX 3 10 4 (by decide) rfl rfl rfl dX4_payOn_24 hf (fun x4 hx_ hf => ?_)
    refine j_goto (pc := 25) hX 48 dX4_payOn_25 rfl ?_
    refine j_fg [0, 1, 2] [none, none, none] rfl ?_
    cases hf
    exact kj16
def f_X4_pay (n : Nat) (a1 : Int32) (a2 : Int32) (a3 : Int32) (w : zM) : Option (Int32 × zM) :=
  zB2 (f_X4_isContract n a1 w) fun x2 w1 =>
  zB2 (
    if x2 = (0 : Int32) then
      some ((1 : Int32), w1)
    else
      zB2 (f_X4_isDay n a2 w1) fun x4 w3 =>
      if x4 = (0 : Int32) then
        some ((1 : Int32), w3)
      else
        zB2 (f_X4_in n (Int32.toInt64 a3) (0 : Int64) (1000000 : Int64) w3) fun x6 w5 =>
        if x6 = (0 : Int32) then
          some ((2 : Int32), w5)
        else
          some ((0 : Int32), w5)
    ) fun x7 w8 =>
  zB2 (f_X4_holds n x7 w8) fun x10 w9 =>
  if x10 = (0 : Int32) then
    zB2 (f_X4_payOn n a1 a2 w9) fun x12 w11 =>
    (rIM w11 2 10 a1).bind fun x13 =>
    (
      if x13 ≤ a2 then
        some a2
      else
        (rIM w11 2 10 a1).bind fun x14 =>
        some x14
      ).bind fun x15 =>
    (sIM w11 6 7200 (((720 : Int32) * a1) + x15) a3).bind fun w16 =>
    (f_X4_spread n a1 w16).bind fun w17 =>
    some ((Int64.toInt32 x12), w17)
  else
    some ((-1 : Int32), w9)
theorem mt_X4_pay : zMt yX4_pay cX4_pay 5 (some .int) 3 := ⟨q2497, q82, ⟨by decide, by decide⟩, by decide +kernel, by decide⟩
set_option maxHeartbeats 4000000 in
theorem k_X4_pay {l : Launch} {n : Nat} {a1 : Int32} {a2 : Int32} {a3 : Int32} {b : Nat} {u : zWd} {w : zM} (r : Int32) (w9 : zM) (hf : f_X4_pay n a1 a2 a3 w = some (r, w9)) : zCt l yX4_pay cX4_pay 5 (some .int) 3 [vA (some b), vI a1, vI a2, vI a3] (zIj b u w) (.inr (some (vI r), (zIj b u w9))) := by
  refine zCt_of (lv := [some (vA (some b)), some (vI a1), some (vI a2), some (vI a3), none]) (by decide +kernel) 1 rfl rfl ?_
  intro X hX hI hN hQ
  have hX : zGd X RX4 cX4_pay 5 (some .int) 3 := hX
  unfold f_X4_pay at hf
  refine j_aload_n (pc := 0) hX dX4_pay_0 rfl ?_
  refine j_aload_n (pc := 1) hX dX4_pay_1 rfl ?_
  refine j_iload_n (pc := 2) hX dX4_pay_2 rfl ?_
  obtain ⟨x2, w1, hc_, hf⟩ := zB2_e hf
  refine j_callV (pc := 3) hX (ci := 3) mt_X4_isContract q2498 q2500 qs34 (zIj_isC b u _) ⟨_, rfl, rfl⟩ [vI a1] rfl rfl (Nat.le_of_ble_eq_true rfl) (by decide) dX4_pay_3 (k_X4_isContract _ _ hc_) ?_
  obtain ⟨x7, w8, hm_, hf⟩ := zB2_e hf
  have kj6 : zJ X 39 [some (vA (some b)), some (vI a1), some (vI a2), some (vI a3), none] [vI x7, vA (some b)] (zIj b u w8) := by
    clear hm_
    obtain ⟨x10, w9, hc_, hf⟩ := zB2_e hf
    refine j_callV (pc := 39) hX (ci := 3) mt_X4_holds q2486 q2488 qs32 (zIj_isC b u _) ⟨_, rfl, rfl⟩ [vI x7] rfl rfl (Nat.le_of_ble_eq_true rfl) (by decide) dX4_pay_39 (k_X4_holds _ _ hc_) ?_
    refine j_if_eq (pc := 42) hX 47 dX4_pay_42 rfl hf (fun h_ hf => ?_) (fun h_ hf => ?_)
    · refine j_aload_n (pc := 47) hX dX4_pay_47 rfl ?_
      refine j_iload_n (pc := 48) hX dX4_pay_48 rfl ?_
      refine j_iload_n (pc := 49) hX dX4_pay_49 rfl ?_
      obtain ⟨x12, w11, hc_, hf⟩ := zB2_e hf
      refine j_callV (pc := 50) hX (ci := 3) mt_X4_payOn q2502 q2504 qs35 (zIj_isC b u _) ⟨_, rfl, rfl⟩ [vI a1, vI a2] rfl rfl (Nat.le_of_ble_eq_true rfl) (by decide) dX4_pay_50 (k_X4_payOn _ _ hc_) ?_
      refine j_l2i (pc := 53) hX dX4_pay_53 ?_
      refine j_istore (pc := 54) hX dX4_pay_54 (by decide) [some (vA (some b)), some (vI a1), some (vI a2), some (vI a3), some (vI (Int64.toInt32 x12))] rfl ?_
      refine j_aload_n (pc := 56) hX dX4_pay_56 rfl ?_
      refine mg_A (pc := 57) hX 6 (by decide) 7 1 rfl rfl (by decide) q2251 dX4_pay_57 ?_
      refine j_sipush (pc := 60) hX (720 : Int32) dX4_pay_60 (by decide +kernel) ?_
      refine j_iload_n (pc := 63) hX dX4_pay_63 rfl ?_
      refine j_imul (pc := 64) hX dX4_pay_64 ?_
      refine j_iload_n (pc := 65) hX dX4_pay_65 rfl ?_
      refine j_aload_n (pc := 66) hX dX4_pay_66 rfl ?_
      refine mg_A (pc := 67) hX 2 (by decide) 3 1 rfl rfl (by decide) q2247 dX4_pay_67 ?_
      refine j_iload_n (pc := 70) hX dX4_pay_70 rfl ?_
      refine mr_I (pc := 71) hX 2 10 3 (by decide) rfl rfl rfl dX4_pay_71 hf (fun x13 hx_ hf => ?_)
      obtain ⟨x15, hm_, hf⟩ := zob hf
      have kj72 : zJ X 85 [some (vA (some b)), some (vI a1), none, some (vI a3), some (vI (Int64.toInt32 x12))] [vI x15, vI ((720 : Int32) * a1), vA (some (b + 7))] (zIj b u w11) := by
        clear hm_
        refine j_iadd (pc := 85) hX dX4_pay_85 ?_
        refine j_iload_n (pc := 86) hX dX4_pay_86 rfl ?_
        refine ms_I (pc := 87) hX 6 7200 7 (by decide) rfl rfl rfl dX4_pay_87 hf (fun w16 hf => ?_)
        refine j_aload_n (pc := 88) hX dX4_pay_88 rfl ?_
        refine j_iload_n (pc := 89) hX dX4_pay_89 rfl ?_
        obtain ⟨w17, hc_, hf⟩ := zob hf
        refine j_callV (pc := 90) hX (ci := 3) mt_X4_spread q2490 q2492 qs33 (zIj_isC b u _) ⟨_, rfl, rfl⟩ [vI a1] rfl rfl (Nat.le_of_ble_eq_true rfl) (by decide) dX4_pay_90 (k_X4_spread () _ hc_) ?_
        refine j_iload (pc := 93) hX dX4_pay_93 rfl ?_
        exact j_ireturn (pc := 95) hX hQ (by cases hf; rfl) dX4_pay_95
      have hf := hm_
      refine j_icmp_ge (pc := 72) hX 84 dX4_pay_72 rfl hf (fun h_ hf => ?_) (fun h_ hf => ?_)
      · refine j_iload_n (pc := 84) hX dX4_pay_84 rfl ?_
        refine j_fg [2] [some (vA (some b)), some (vI a1), none, some (vI a3), some (vI (Int64.toInt32 x12))] rfl ?_
        cases hf
        exact kj72
      · refine j_aload_n (pc := 75) hX dX4_pay_75 rfl ?_
        refine mg_A (pc := 76) hX 2 (by decide) 3 1 rfl rfl (by decide) q2247 dX4_pay_76 ?_
        refine j_iload_n (pc := 79) hX dX4_pay_79 rfl ?_
        refine mr_I (pc := 80) hX 2 10 3 (by decide) rfl rfl rfl dX4_pay_80 hf (fun x14 hx_ hf => ?_)
        refine j_goto (pc := 81) hX 85 dX4_pay_81 rfl ?_
        refine j_fg [2] [some (vA (some b)), some (vI a1), none, some (vI a3), some (vI (Int64.toInt32 x12))] rfl ?_
        cases hf
        exact kj72
    · refine j_iconst (pc := 45) hX (-1 : Int32) dX4_pay_45 rfl ?_
      exact j_ireturn (pc := 46) hX hQ (by cases hf; rfl) dX4_pay_46
  have hf := hm_
  refine j_if_eq (pc := 6) hX 17 dX4_pay_6 rfl hf (fun h_ hf => ?_) (fun h_ hf => ?_)
  · refine j_iconst (pc := 17) hX (1 : Int32) dX4_pay_17 rfl ?_
    refine j_goto (pc := 18) hX 39 dX4_pay_18 rfl ?_
    cases hf
    exact kj6
  · refine j_aload_n (pc := 9) hX dX4_pay_9 rfl ?_
    refine j_iload_n (pc := 10) hX dX4_pay_10 rfl ?_
    obtain ⟨x4, w3, hc_, hf⟩ := zB2_e hf
    refine j_callV (pc := 11) hX (ci := 3) mt_X4_isDay q2478 q2480 qs31 (zIj_isC b u _) ⟨_, rfl, rfl⟩ [vI a2] rfl rfl (Nat.le_of_ble_eq_true rfl) (by decide) dX4_pay_11 (k_X4_isDay _ _ hc_) ?_
    refine j_if_ne (pc := 14) hX 21 dX4_pay_14 rfl hf (fun h_ hf => ?_) (fun h_ hf => ?_)
    · refine j_aload_n (pc := 21) hX dX4_pay_21 rfl ?_
      refine j_iload_n (pc := 22) hX dX4_pay_22 rfl ?_
      refine j_i2l (pc := 23) hX dX4_pay_23 ?_
      refine j_lconst (pc := 24) hX (0 : Int64) dX4_pay_24 rfl ?_
      refine j_ldc2 (pc := 25) hX q2485 dX4_pay_25 ?_
      obtain ⟨x6, w5, hc_, hf⟩ := zB2_e hf
      refine j_callV (pc := 28) hX (ci := 3) mt_X4_in q2469 q2471 qs29 (zIj_isC b u _) ⟨_, rfl, rfl⟩ [vL (Int32.toInt64 a3), vL (0 : Int64), vL (1000000 : Int64)] rfl rfl (Nat.le_of_ble_eq_true rfl) (by decide) dX4_pay_28 (k_X4_in _ _ hc_) ?_
      refine j_if_eq (pc := 31) hX 38 dX4_pay_31 rfl hf (fun h_ hf => ?_) (fun h_ hf => ?_)
      · refine j_iconst (pc := 38) hX (2 : Int32) dX4_pay_38 rfl ?_
        cases hf
        exact kj6
      · refine j_iconst (pc := 34) hX (0 : Int32) dX4_pay_34 rfl ?_
        refine j_goto (pc := 35) hX 39 dX4_pay_35 rfl ?_
        cases hf
        exact kj6
    · refine j_iconst (pc := 17) hX (1 : Int32) dX4_pay_17 rfl ?_
      refine j_goto (pc := 18) hX 39 dX4_pay_18 rfl ?_
      cases hf
      exact kj6
def f_X4_isOf (n : Nat) (a1 : Int32) (a2 : Int32) (w : zM) : Option (Int32 × zM) :=
  zB2 (f_X4_isContract n a1 w) fun x2 w1 =>
  zB2 (
    if x2 = (0 : Int32) then
      some ((0 : Int32), w1)
    else
      (rIM w1 2 10 a1).bind fun x3 =>
      (rIM w1 3 10 a1).bind fun x4 =>
      zB2 (f_X4_in n (Int32.toInt64 a2) (Int32.toInt64 x3) (Int32.toInt64 x4) w1) fun x6 w5 =>
      if x6 = (0 : Int32) then
        some ((0 : Int32), w5)
      else
        some ((1 : Int32), w5)
    ) fun x7 w8 =>
  zRzM x7 w8
theorem mt_X4_isOf : zMt yX4_isOf cX4_isOf 3 (some .boolean) 2 := ⟨q2515, q82, ⟨by decide, by decide⟩, by decide +kernel, by decide⟩
set_option maxHeartbeats 4000000 in
theorem k_X4_isOf {l : Launch} {n : Nat} {a1 : Int32} {a2 : Int32} {b : Nat} {u : zWd} {w : zM} (r : Int32) (w9 : zM) (hf : f_X4_isOf n a1 a2 w = some (r, w9)) : zCt l yX4_isOf cX4_isOf 3 (some .boolean) 3 [vA (some b), vI a1, vI a2] (zIj b u w) (.inr (some (vI r), (zIj b u w9))) := by
  refine zCt_of (lv := [some (vA (some b)), some (vI a1), some (vI a2)]) (by decide +kernel) 0 rfl rfl ?_
  intro X hX hI hN hQ
  have hX : zGd X RX4 cX4_isOf 3 (some .boolean) 3 := hX
  unfold f_X4_isOf at hf
  refine j_aload_n (pc := 0) hX dX4_isOf_0 rfl ?_
  refine j_iload_n (pc := 1) hX dX4_isOf_1 rfl ?_
  obtain ⟨x2, w1, hc_, hf⟩ := zB2_e hf
  refine j_callV (pc := 2) hX (ci := 3) mt_X4_isContract q2498 q2500 qs34 (zIj_isC b u _) ⟨_, rfl, rfl⟩ [vI a1] rfl rfl (Nat.le_of_ble_eq_true rfl) (by decide) dX4_isOf_2 (k_X4_isContract _ _ hc_) ?_
  obtain ⟨x7, w8, hm_, hf⟩ := zB2_e hf
  have kj5 : zJ X 36 [none, none, none] [vI x7] (zIj b u w8) := by
    clear hm_
    obtain ⟨hz_, hf⟩ := zRzM_e hf
    exact j_zreturn (pc := 36) hX hQ hz_ (by cases hf; rfl) dX4_isOf_36
  have hf := hm_
  refine j_if_eq (pc := 5) hX 35 dX4_isOf_5 rfl hf (fun h_ hf => ?_) (fun h_ hf => ?_)
  · refine j_iconst (pc := 35) hX (0 : Int32) dX4_isOf_35 rfl ?_
    refine j_fg [0, 1, 2] [none, none, none] rfl ?_
    cases hf
    exact kj5
  · refine j_aload_n (pc := 8) hX dX4_isOf_8 rfl ?_
    refine j_iload_n (pc := 9) hX dX4_isOf_9 rfl ?_
    refine j_i2l (pc := 10) hX dX4_isOf_10 ?_
    refine j_aload_n (pc := 11) hX dX4_isOf_11 rfl ?_
    refine mg_A (pc := 12) hX 2 (by decide) 3 1 rfl rfl (by decide) q2247 dX4_isOf_12 ?_
    refine j_iload_n (pc := 15) hX dX4_isOf_15 rfl ?_
    refine mr_I (pc := 16) hX 2 10 3 (by decide) rfl rfl rfl dX4_isOf_16 hf (fun x3 hx_ hf => ?_)
    refine j_i2l (pc := 17) hX dX4_isOf_17 ?_
    refine j_aload_n (pc := 18) hX dX4_isOf_18 rfl ?_
    refine mg_A (pc := 19) hX 3 (by decide) 4 1 rfl rfl (by decide) q2248 dX4_isOf_19 ?_
    refine j_iload_n (pc := 22) hX dX4_isOf_22 rfl ?_
    refine mr_I (pc := 23) hX 3 10 4 (by decide) rfl rfl rfl dX4_isOf_23 hf (fun x4 hx_ hf => ?_)
    refine j_i2l (pc := 24) hX dX4_isOf_24 ?_
    obtain ⟨x6, w5, hc_, hf⟩ := zB2_e hf
    refine j_callV (pc := 25) hX (ci := 3) mt_X4_in q2469 q2471 qs29 (zIj_isC b u _) ⟨_, rfl, rfl⟩ [vL (Int32.toInt64 a2), vL (Int32.toInt64 x3), vL (Int32.toInt64 x4)] rfl rfl (Nat.le_of_ble_eq_true rfl) (by decide) dX4_isOf_25 (k_X4_in _ _ hc_) ?_
    refine j_if_eq (pc := 28) hX 35 dX4_isOf_28 rfl hf (fun h_ hf => ?_) (fun h_ hf => ?_)
    · refine j_iconst (pc := 35) hX (0 : Int32) dX4_isOf_35 rfl ?_
      refine j_fg [0, 1, 2] [none, none, none] rfl ?_
      cases hf
      exact kj5
    · refine j_iconst (pc := 31) hX (1 : Int32) dX4_isOf_31 rfl ?_
      refine j_goto (pc := 32) hX 36 dX4_isOf_32 rfl ?_
      refine j_fg [0, 1, 2] [none, none, none] rfl ?_
      cases hf
      exact kj5
def f_X4_meets_L6b (n : Nat) (c1 : Int32) (c2 : Int32) (c3 : Int32) (w : zM) (rec : Int32 → Int32 → Option (Int32)) (v4 : Int32) (v5 : Int32) : Option (Int32) :=
  if (mI w 13) ≤ v5 then
    some v4
  else
    (rIM w 10 40 v5).bind fun x1 =>
    (
      if x1 = c1 then
        (rIM w 11 40 v5).bind fun x2 =>
        (rIM w 12 40 v5).bind fun x3 =>
        if (x2 + x3) ≤ c2 then
          some (0 : Int32)
        else
          (rIM w 11 40 v5).bind fun x4 =>
          if (c2 + c3) ≤ x4 then
            some (0 : Int32)
          else
            some (1 : Int32)
      else
        some (0 : Int32)
      ).bind fun x5 =>
    rec (v4 ||| x5) (v5 + (1))
def f_X4_meets_L6 (n : Nat) (c1 : Int32) (c2 : Int32) (c3 : Int32) (w : zM) : Nat → Int32 → Int32 → Option (Int32)
  | 0, _, _ => none
  | k + 1, v4, v5 => f_X4_meets_L6b n c1 c2 c3 w (f_X4_meets_L6 n c1 c2 c3 w k) v4 v5
def f_X4_meets (n : Nat) (a1 : Int32) (a2 : Int32) (a3 : Int32) (w : zM) : Option (Int32 × zM) :=
  (f_X4_meets_L6 n a1 a2 a3 w n (0 : Int32) (0 : Int32)).bind fun x6 =>
  zRzM x6 w
theorem mt_X4_meets : zMt yX4_meets cX4_meets 6 (some .boolean) 3 := ⟨q2519, q82, ⟨by decide, by decide⟩, by decide +kernel, by decide⟩
set_option maxHeartbeats 4000000 in
theorem lp_X4_meets_L6 {X : zX} {b : Nat} {u : zWd} (hX : zGd X RX4 cX4_meets 6 (some .boolean) 1) (n : Nat) (c1 : Int32) (c2 : Int32) (c3 : Int32) (w : zM) : ∀ (k : Nat) (v4 : Int32) (v5 : Int32) (o4 : Int32) , f_X4_meets_L6 n c1 c2 c3 w k v4 v5 = some o4 → zJ X 74 [some (vA (some b)), some (vI c1), some (vI c2), some (vI c3), some (vI o4), none] [] (zIj b u w) → zJ X 6 [some (vA (some b)), some (vI c1), some (vI c2), some (vI c3), some (vI v4), some (vI v5)] [] (zIj b u w) := by
  intro k
  induction k with
  | zero => intro v4 v5 o4 hf _; exact nomatch (show (none : Option (Int32)) = _ from hf)
  | succ k ih =>
    intro v4 v5 o4 hf kx
    have hf : f_X4_meets_L6b n c1 c2 c3 w (f_X4_meets_L6 n c1 c2 c3 w k) v4 v5 = _ := hf
    unfold f_X4_meets_L6b at hf
    refine j_iload (pc := 6) hX dX4_meets_6 rfl ?_
    refine j_aload_n (pc := 8) hX dX4_meets_8 rfl ?_
    refine mg_I (pc := 9) hX 13 (by decide) rfl q2258 dX4_meets_9 ?_
    refine j_icmp_ge (pc := 12) hX 74 dX4_meets_12 rfl hf (fun h_ hf => ?_) (fun h_ hf => ?_)
    · refine j_fg [5] [some (vA (some b)), some (vI c1), some (vI c2), some (vI c3), some (vI v4), none] rfl ?_
      cases hf
      exact kx
    · refine j_iload (pc := 15) hX dX4_meets_15 rfl ?_
      refine j_aload_n (pc := 17) hX dX4_meets_17 rfl ?_
      refine mg_A (pc := 18) hX 10 (by decide) 10 1 rfl rfl (by decide) q2255 dX4_meets_18 ?_
      refine j_iload (pc := 21) hX dX4_meets_21 rfl ?_
      refine mr_I (pc := 23) hX 10 40 10 (by decide) rfl rfl rfl dX4_meets_23 hf (fun x1 hx_ hf => ?_)
      refine j_iload_n (pc := 24) hX dX4_meets_24 rfl ?_
      obtain ⟨x5, hm_, hf⟩ := zob hf
      have kj25 : zJ X 65 [some (vA (some b)), some (vI c1), some (vI c2), some (vI c3), none, some (vI v5)] [vI x5, vI v4] (zIj b u w) := by
        clear hm_
        refine j_ior (pc := 65) hX dX4_meets_65 ?_
        refine j_istore (pc := 66) hX dX4_meets_66 (by decide) [some (vA (some b)), some (vI c1), some (vI c2), some (vI c3), some (vI (v4 ||| x5)), some (vI v5)] rfl ?_
        refine j_iinc (pc := 68) hX (1) dX4_meets_68 rfl rfl (by decide) [some (vA (some b)), some (vI c1), some (vI c2), some (vI c3), some (vI (v4 ||| x5)), some (vI (v5 + (1)))] rfl ?_
        refine j_goto (pc := 71) hX 6 dX4_meets_71 rfl ?_
        exact ih _ _ _ hf kx
      have hf := hm_
      refine j_icmp_ne (pc := 25) hX 64 dX4_meets_25 rfl hf (fun h_ hf => ?_) (fun h_ hf => ?_)
      · refine j_iconst (pc := 64) hX (0 : Int32) dX4_meets_64 rfl ?_
        refine j_fg [4] [some (vA (some b)), some (vI c1), some (vI c2), some (vI c3), none, some (vI v5)] rfl ?_
        cases hf
        exact kj25
      · refine j_iload_n (pc := 28) hX dX4_meets_28 rfl ?_
        refine j_aload_n (pc := 29) hX dX4_meets_29 rfl ?_
        refine mg_A (pc := 30) hX 11 (by decide) 11 1 rfl rfl (by decide) q2256 dX4_meets_30 ?_
        refine j_iload (pc := 33) hX dX4_meets_33 rfl ?_
        refine mr_I (pc := 35) hX 11 40 11 (by decide) rfl rfl rfl dX4_meets_35 hf (fun x2 hx_ hf => ?_)
        refine j_aload_n (pc := 36) hX dX4_meets_36 rfl ?_
        refine mg_A (pc := 37) hX 12 (by decide) 12 1 rfl rfl (by decide) q2257 dX4_meets_37 ?_
        refine j_iload (pc := 40) hX dX4_meets_40 rfl ?_
        refine mr_I (pc := 42) hX 12 40 12 (by decide) rfl rfl rfl dX4_meets_42 hf (fun x3 hx_ hf => ?_)
        refine j_iadd (pc := 43) hX dX4_meets_43 ?_
        refine j_icmp_ge (pc := 44) hX 64 dX4_meets_44 rfl hf (fun h_ hf => ?_) (fun h_ hf => ?_)
        · refine j_iconst (pc := 64) hX (0 : Int32) dX4_meets_64 rfl ?_
          refine j_fg [4] [some (vA (some b)), some (vI c1), some (vI c2), some (vI c3), none, some (vI v5)] rfl ?_
          cases hf
          exact kj25
        · refine j_aload_n (pc := 47) hX dX4_meets_47 rfl ?_
          refine mg_A (pc := 48) hX 11 (by decide) 11 1 rfl rfl (by decide) q2256 dX4_meets_48 ?_
          refine j_iload (pc := 51) hX dX4_meets_51 rfl ?_
          refine mr_I (pc := 53) hX 11 40 11 (by decide) rfl rfl rfl dX4_meets_53 hf (fun x4 hx_ hf => ?_)
          refine j_iload_n (pc := 54) hX dX4_meets_54 rfl ?_
          refine j_iload_n (pc := 55) hX dX4_meets_55 rfl ?_
          refine j_iadd (pc := 56) hX dX4_meets_56 ?_
          refine j_icmp_ge (pc := 57) hX 64 dX4_meets_57 rfl hf (fun h_ hf => ?_) (fun h_ hf => ?_)
          · refine j_iconst (pc := 64) hX (0 : Int32) dX4_meets_64 rfl ?_
            refine j_fg [4] [some (vA (some b)), some (vI c1), some (vI c2), some (vI c3), none, some (vI v5)] rfl ?_
            cases hf
            exact kj25
          · refine j_iconst (pc := 60) hX (1 : Int32) dX4_meets_60 rfl ?_
            refine j_goto (pc := 61) hX 65 dX4_meets_61 rfl ?_
            refine j_fg [4] [some (vA (some b)), some (vI c1), some (vI c2), some (vI c3), none, some (vI v5)] rfl ?_
            cases hf
            exact kj25
set_option maxHeartbeats 4000000 in
theorem k_X4_meets {l : Launch} {n : Nat} {a1 : Int32} {a2 : Int32} {a3 : Int32} {b : Nat} {u : zWd} {w : zM} (r : Int32) (w9 : zM) (hf : f_X4_meets n a1 a2 a3 w = some (r, w9)) : zCt l yX4_meets cX4_meets 6 (some .boolean) 1 [vA (some b), vI a1, vI a2, vI a3] (zIj b u w) (.inr (some (vI r), (zIj b u w9))) := by
  refine zCt_of (lv := [some (vA (some b)), some (vI a1), some (vI a2), some (vI a3), none, none]) (by decide +kernel) 2 rfl rfl ?_
  intro X hX hI hN hQ
  have hX : zGd X RX4 cX4_meets 6 (some .boolean) 1 := hX
  unfold f_X4_meets at hf
  refine j_iconst (pc := 0) hX (0 : Int32) dX4_meets_0 rfl ?_
  refine j_istore (pc := 1) hX dX4_meets_1 (by decide) [some (vA (some b)), some (vI a1), some (vI a2), some (vI a3), some (vI (0 : Int32)), none] rfl ?_
  refine j_iconst (pc := 3) hX (0 : Int32) dX4_meets_3 rfl ?_
  refine j_istore (pc := 4) hX dX4_meets_4 (by decide) [some (vA (some b)), some (vI a1), some (vI a2), some (vI a3), some (vI (0 : Int32)), some (vI (0 : Int32))] rfl ?_
  obtain ⟨x6, hm_, hf⟩ := zob hf
  refine lp_X4_meets_L6 hX n _ _ _ _ _ _ _ _ hm_ ?_
  refine j_iload (pc := 74) hX dX4_meets_74 rfl ?_
  obtain ⟨hz_, hf⟩ := zRzM_e hf
  exact j_zreturn (pc := 76) hX hQ hz_ (by cases hf; rfl) dX4_meets_76
def f_X4_shift (n : Nat) (a1 : Int32) (a2 : Int32) (a3 : Int32) (a4 : Int32) (w : zM) : Option (Int32 × zM) :=
  zB2 (f_X4_in n (Int32.toInt64 a3) (0 : Int64) (1439 : Int64) w) fun x2 w1 =>
  zB2 (
    if x2 = (0 : Int32) then
      some ((0 : Int32), w1)
    else
      zB2 (f_X4_in n (Int32.toInt64 a4) (1 : Int64) (1440 : Int64) w1) fun x4 w3 =>
      if x4 = (0 : Int32) then
        some ((0 : Int32), w3)
      else
        some ((1 : Int32), w3)
    ) fun x5 w6 =>
  zB2 (f_X4_isOf n a1 a2 w6) fun x8 w7 =>
  zB2 (
    if x8 = (0 : Int32) then
      some ((0 : Int32), w7)
    else
      if x5 = (0 : Int32) then
        some ((0 : Int32), w7)
      else
        if (mI w7 13) = (40 : Int32) then
          some ((1 : Int32), w7)
        else
          zB2 (f_X4_meets n a1 (((1440 : Int32) * a2) + a3) a4 w7) fun x10 w9 =>
          if x10 = (0 : Int32) then
            some ((0 : Int32), w9)
          else
            some ((1 : Int32), w9)
    ) fun x11 w12 =>
  zB2 (f_X4_isOf n a1 a2 w12) fun x14 w13 =>
  (
    if x14 = (0 : Int32) then
      some (1 : Int32)
    else
      if x5 = (0 : Int32) then
        some (2 : Int32)
      else
        if x11 = (0 : Int32) then
          some (0 : Int32)
        else
          some (3 : Int32)
    ).bind fun x15 =>
  zB2 (f_X4_holds n x15 w13) fun x17 w16 =>
  if x17 = (0 : Int32) then
    (sIM w16 10 40 (mI w16 13) a1).bind fun w18 =>
    (sIM w18 11 40 (mI w18 13) (((1440 : Int32) * a2) + a3)).bind fun w19 =>
    (sIM w19 12 40 (mI w19 13) a4).bind fun w20 =>
    (pM w20 13 ((mI w20 13) + (1 : Int32))).bind fun w21 =>
    (
      if a4 ≤ (360 : Int32) then
        some a4
      else
        some (a4 - (30 : Int32))
      ).bind fun x22 =>
    (
      if ((1440 : Int32) - a3) ≤ x22 then
        some ((1440 : Int32) - a3)
      else
        some x22
      ).bind fun x23 =>
    (rIM w21 8 7200 (((720 : Int32) * a1) + a2)).bind fun x24 =>
    (sIM w21 8 7200 (((720 : Int32) * a1) + a2) (x24 + x23)).bind fun w25 =>
    (
      if (719 : Int32) ≤ a2 then
        some w25
      else
        (rIM w25 8 7200 ((((720 : Int32) * a1) + a2) + (1 : Int32))).bind fun x26 =>
        (sIM w25 8 7200 ((((720 : Int32) * a1) + a2) + (1 : Int32)) (x26 + (x22 - x23))).bind fun w27 =>
        some w27
      ).bind fun w28 =>
    some ((mI w28 13), w28)
  else
    some ((-1 : Int32), w16)
theorem mt_X4_shift : zMt yX4_shift cX4_shift 9 (some .int) 4 := ⟨q2509, q82, ⟨by decide, by decide⟩, by decide +kernel, by decide⟩
set_option maxHeartbeats 4000000 in
theorem k_X4_shift {l : Launch} {n : Nat} {a1 : Int32} {a2 : Int32} {a3 : Int32} {a4 : Int32} {b : Nat} {u : zWd} {w : zM} (r : Int32) (w9 : zM) (hf : f_X4_shift n a1 a2 a3 a4 w = some (r, w9)) : zCt l yX4_shift cX4_shift 9 (some .int) 4 [vA (some b), vI a1, vI a2, vI a3, vI a4] (zIj b u w) (.inr (some (vI r), (zIj b u w9))) := by
  refine zCt_of (lv := [some (vA (some b)), some (vI a1), some (vI a2), some (vI a3), some (vI a4), none, none, none, none]) (by decide +kernel) 4 rfl rfl ?_
  intro X hX hI hN hQ
  have hX : zGd X RX4 cX4_shift 9 (some .int) 4 := hX
  unfold f_X4_shift at hf
  refine j_aload_n (pc := 0) hX dX4_shift_0 rfl ?_
  refine j_iload_n (pc := 1) hX dX4_shift_1 rfl ?_
  refine j_i2l (pc := 2) hX dX4_shift_2 ?_
  refine j_lconst (pc := 3) hX (0 : Int64) dX4_shift_3 rfl ?_
  refine j_ldc2 (pc := 4) hX q2510 dX4_shift_4 ?_
  obtain ⟨x2, w1, hc_, hf⟩ := zB2_e hf
  refine j_callV (pc := 7) hX (ci := 3) mt_X4_in q2469 q2471 qs29 (zIj_isC b u _) ⟨_, rfl, rfl⟩ [vL (Int32.toInt64 a3), vL (0 : Int64), vL (1439 : Int64)] rfl rfl (Nat.le_of_ble_eq_true rfl) (by decide) dX4_shift_7 (k_X4_in _ _ hc_) ?_
  obtain ⟨x5, w6, hm_, hf⟩ := zB2_e hf
  have kj10 : zJ X 32 [some (vA (some b)), some (vI a1), some (vI a2), some (vI a3), some (vI a4), none, none, none, none] [vI x5] (zIj b u w6) := by
    clear hm_
    refine j_istore (pc := 32) hX dX4_shift_32 (by decide) [some (vA (some b)), some (vI a1), some (vI a2), some (vI a3), some (vI a4), some (vI x5), none, none, none] rfl ?_
    refine j_aload_n (pc := 34) hX dX4_shift_34 rfl ?_
    refine j_iload_n (pc := 35) hX dX4_shift_35 rfl ?_
    refine j_iload_n (pc := 36) hX dX4_shift_36 rfl ?_
    obtain ⟨x8, w7, hc_, hf⟩ := zB2_e hf
    refine j_callV (pc := 37) hX (ci := 3) mt_X4_isOf q2512 q2514 qs36 (zIj_isC b u _) ⟨_, rfl, rfl⟩ [vI a1, vI a2] rfl rfl (Nat.le_of_ble_eq_true rfl) (by decide) dX4_shift_37 (k_X4_isOf _ _ hc_) ?_
    obtain ⟨x11, w12, hm_, hf⟩ := zB2_e hf
    have kj40 : zJ X 79 [some (vA (some b)), some (vI a1), some (vI a2), some (vI a3), some (vI a4), some (vI x5), none, none, none] [vI x11] (zIj b u w12) := by
      clear hm_
      refine j_istore (pc := 79) hX dX4_shift_79 (by decide) [some (vA (some b)), some (vI a1), some (vI a2), some (vI a3), some (vI a4), some (vI x5), some (vI x11), none, none] rfl ?_
      refine j_aload_n (pc := 81) hX dX4_shift_81 rfl ?_
      refine j_aload_n (pc := 82) hX dX4_shift_82 rfl ?_
      refine j_iload_n (pc := 83) hX dX4_shift_83 rfl ?_
      refine j_iload_n (pc := 84) hX dX4_shift_84 rfl ?_
      obtain ⟨x14, w13, hc_, hf⟩ := zB2_e hf
      refine j_callV (pc := 85) hX (ci := 3) mt_X4_isOf q2512 q2514 qs36 (zIj_isC b u _) ⟨_, rfl, rfl⟩ [vI a1, vI a2] rfl rfl (Nat.le_of_ble_eq_true rfl) (by decide) dX4_shift_85 (k_X4_isOf _ _ hc_) ?_
      obtain ⟨x15, hm_, hf⟩ := zob hf
      have kj88 : zJ X 114 [some (vA (some b)), some (vI a1), some (vI a2), some (vI a3), some (vI a4), none, none, none, none] [vI x15, vA (some b)] (zIj b u w13) := by
        clear hm_
        obtain ⟨x17, w16, hc_, hf⟩ := zB2_e hf
        refine j_callV (pc := 114) hX (ci := 3) mt_X4_holds q2486 q2488 qs32 (zIj_isC b u _) ⟨_, rfl, rfl⟩ [vI x15] rfl rfl (Nat.le_of_ble_eq_true rfl) (by decide) dX4_shift_114 (k_X4_holds _ _ hc_) ?_
        refine j_if_eq (pc := 117) hX 122 dX4_shift_117 rfl hf (fun h_ hf => ?_) (fun h_ hf => ?_)
        · refine j_aload_n (pc := 122) hX dX4_shift_122 rfl ?_
          refine mg_A (pc := 123) hX 10 (by decide) 10 1 rfl rfl (by decide) q2255 dX4_shift_123 ?_
          refine j_aload_n (pc := 126) hX dX4_shift_126 rfl ?_
          refine mg_I (pc := 127) hX 13 (by decide) rfl q2258 dX4_shift_127 ?_
          refine j_iload_n (pc := 130) hX dX4_shift_130 rfl ?_
          refine ms_I (pc := 131) hX 10 40 10 (by decide) rfl rfl rfl dX4_shift_131 hf (fun w18 hf => ?_)
          refine j_aload_n (pc := 132) hX dX4_shift_132 rfl ?_
          refine mg_A (pc := 133) hX 11 (by decide) 11 1 rfl rfl (by decide) q2256 dX4_shift_133 ?_
          refine j_aload_n (pc := 136) hX dX4_shift_136 rfl ?_
          refine mg_I (pc := 137) hX 13 (by decide) rfl q2258 dX4_shift_137 ?_
          refine j_sipush (pc := 140) hX (1440 : Int32) dX4_shift_140 (by decide +kernel) ?_
          refine j_iload_n (pc := 143) hX dX4_shift_143 rfl ?_
          refine j_imul (pc := 144) hX dX4_shift_144 ?_
          refine j_iload_n (pc := 145) hX dX4_shift_145 rfl ?_
          refine j_iadd (pc := 146) hX dX4_shift_146 ?_
          refine ms_I (pc := 147) hX 11 40 11 (by decide) rfl rfl rfl dX4_shift_147 hf (fun w19 hf => ?_)
          refine j_aload_n (pc := 148) hX dX4_shift_148 rfl ?_
          refine mg_A (pc := 149) hX 12 (by decide) 12 1 rfl rfl (by decide) q2257 dX4_shift_149 ?_
          refine j_aload_n (pc := 152) hX dX4_shift_152 rfl ?_
          refine mg_I (pc := 153) hX 13 (by decide) rfl q2258 dX4_shift_153 ?_
          refine j_iload (pc := 156) hX dX4_shift_156 rfl ?_
          refine ms_I (pc := 158) hX 12 40 12 (by decide) rfl rfl rfl dX4_shift_158 hf (fun w20 hf => ?_)
          refine j_aload_n (pc := 159) hX dX4_shift_159 rfl ?_
          refine j_dup (pc := 160) hX rfl dX4_shift_160 ?_
          refine mg_I (pc := 161) hX 13 (by decide) rfl q2258 dX4_shift_161 ?_
          refine j_iconst (pc := 164) hX (1 : Int32) dX4_shift_164 rfl ?_
          refine j_iadd (pc := 165) hX dX4_shift_165 ?_
          refine mp_I (pc := 166) hX 13 (by decide) rfl rfl q2258 dX4_shift_166 hf (fun w21 hf => ?_)
          refine j_iload (pc := 169) hX dX4_shift_169 rfl ?_
          refine j_sipush (pc := 171) hX (360 : Int32) dX4_shift_171 (by decide +kernel) ?_
          obtain ⟨x22, hm_, hf⟩ := zob hf
          have kj174 : zJ X 187 [some (vA (some b)), some (vI a1), some (vI a2), some (vI a3), none, none, none, none, none] [vI x22] (zIj b u w21) := by
            clear hm_
            refine j_istore (pc := 187) hX dX4_shift_187 (by decide) [some (vA (some b)), some (vI a1), some (vI a2), some (vI a3), none, none, none, some (vI x22), none] rfl ?_
            refine j_iload (pc := 189) hX dX4_shift_189 rfl ?_
            refine j_sipush (pc := 191) hX (1440 : Int32) dX4_shift_191 (by decide +kernel) ?_
            refine j_iload_n (pc := 194) hX dX4_shift_194 rfl ?_
            refine j_isub (pc := 195) hX dX4_shift_195 ?_
            obtain ⟨x23, hm_, hf⟩ := zob hf
            have kj196 : zJ X 209 [some (vA (some b)), some (vI a1), some (vI a2), none, none, none, none, some (vI x22), none] [vI x23] (zIj b u w21) := by
              clear hm_
              refine j_istore (pc := 209) hX dX4_shift_209 (by decide) [some (vA (some b)), some (vI a1), some (vI a2), none, none, none, none, some (vI x22), some (vI x23)] rfl ?_
              refine j_aload_n (pc := 211) hX dX4_shift_211 rfl ?_
              refine mg_A (pc := 212) hX 8 (by decide) 9 1 rfl rfl (by decide) q2253 dX4_shift_212 ?_
              refine j_sipush (pc := 215) hX (720 : Int32) dX4_shift_215 (by decide +kernel) ?_
              refine j_iload_n (pc := 218) hX dX4_shift_218 rfl ?_
              refine j_imul (pc := 219) hX dX4_shift_219 ?_
              refine j_iload_n (pc := 220) hX dX4_shift_220 rfl ?_
              refine j_iadd (pc := 221) hX dX4_shift_221 ?_
              refine j_dup2 (pc := 222) hX rfl rfl dX4_shift_222 ?_
              refine mr_I (pc := 223) hX 8 7200 9 (by decide) rfl rfl rfl dX4_shift_223 hf (fun x24 hx_ hf => ?_)
              refine j_iload (pc := 224) hX dX4_shift_224 rfl ?_
              refine j_iadd (pc := 226) hX dX4_shift_226 ?_
              refine ms_I (pc := 227) hX 8 7200 9 (by decide) rfl rfl rfl dX4_shift_227 hf (fun w25 hf => ?_)
              refine j_iload_n (pc := 228) hX dX4_shift_228 rfl ?_
              refine j_sipush (pc := 229) hX (719 : Int32) dX4_shift_229 (by decide +kernel) ?_
              obtain ⟨w28, hm_, hf⟩ := zob hf
              have kj232 : zJ X 257 [some (vA (some b)), none, none, none, none, none, none, none, none] [] (zIj b u w28) := by
                clear hm_
                refine j_aload_n (pc := 257) hX dX4_shift_257 rfl ?_
                refine mg_I (pc := 258) hX 13 (by decide) rfl q2258 dX4_shift_258 ?_
                exact j_ireturn (pc := 261) hX hQ (by cases hf; rfl) dX4_shift_261
              have hf := hm_
              refine j_icmp_ge (pc := 232) hX 257 dX4_shift_232 rfl hf (fun h_ hf => ?_) (fun h_ hf => ?_)
              · refine j_fg [1, 2, 7, 8] [some (vA (some b)), none, none, none, none, none, none, none, none] rfl ?_
                cases hf
                exact kj232
              · refine j_aload_n (pc := 235) hX dX4_shift_235 rfl ?_
                refine mg_A (pc := 236) hX 8 (by decide) 9 1 rfl rfl (by decide) q2253 dX4_shift_236 ?_
                refine j_sipush (pc := 239) hX (720 : Int32) dX4_shift_239 (by decide +kernel) ?_
                refine j_iload_n (pc := 242) hX dX4_shift_242 rfl ?_
                refine j_imul (pc := 243) hX dX4_shift_243 ?_
                refine j_iload_n (pc := 244) hX dX4_shift_244 rfl ?_
                refine j_iadd (pc := 245) hX dX4_shift_245 ?_
                refine j_iconst (pc := 246) hX (1 : Int32) dX4_shift_246 rfl ?_
                refine j_iadd (pc := 247) hX dX4_shift_247 ?_
                refine j_dup2 (pc := 248) hX rfl rfl dX4_shift_248 ?_
                refine mr_I (pc := 249) hX 8 7200 9 (by decide) rfl rfl rfl dX4_shift_249 hf (fun x26 hx_ hf => ?_)
                refine j_iload (pc := 250) hX dX4_shift_250 rfl ?_
                refine j_iload (pc := 252) hX dX4_shift_252 rfl ?_
                refine j_isub (pc := 254) hX dX4_shift_254 ?_
                refine j_iadd (pc := 255) hX dX4_shift_255 ?_
                refine ms_I (pc := 256) hX 8 7200 9 (by decide) rfl rfl rfl dX4_shift_256 hf (fun w27 hf => ?_)
                refine j_fg [1, 2, 7, 8] [some (vA (some b)), none, none, none, none, none, none, none, none] rfl ?_
                cases hf
                exact kj232
            have hf := hm_
            refine j_icmp_ge (pc := 196) hX 204 dX4_shift_196 rfl hf (fun h_ hf => ?_) (fun h_ hf => ?_)
            · refine j_sipush (pc := 204) hX (1440 : Int32) dX4_shift_204 (by decide +kernel) ?_
              refine j_iload_n (pc := 207) hX dX4_shift_207 rfl ?_
              refine j_isub (pc := 208) hX dX4_shift_208 ?_
              refine j_fg [3] [some (vA (some b)), some (vI a1), some (vI a2), none, none, none, none, some (vI x22), none] rfl ?_
              cases hf
              exact kj196
            · refine j_iload (pc := 199) hX dX4_shift_199 rfl ?_
              refine j_goto (pc := 201) hX 209 dX4_shift_201 rfl ?_
              refine j_fg [3] [some (vA (some b)), some (vI a1), some (vI a2), none, none, none, none, some (vI x22), none] rfl ?_
              cases hf
              exact kj196
          have hf := hm_
          refine j_icmp_le (pc := 174) hX 185 dX4_shift_174 rfl hf (fun h_ hf => ?_) (fun h_ hf => ?_)
          · refine j_iload (pc := 185) hX dX4_shift_185 rfl ?_
            refine j_fg [4] [some (vA (some b)), some (vI a1), some (vI a2), some (vI a3), none, none, none, none, none] rfl ?_
            cases hf
            exact kj174
          · refine j_iload (pc := 177) hX dX4_shift_177 rfl ?_
            refine j_bipush (pc := 179) hX (30 : Int32) dX4_shift_179 (by decide +kernel) ?_
            refine j_isub (pc := 181) hX dX4_shift_181 ?_
            refine j_goto (pc := 182) hX 187 dX4_shift_182 rfl ?_
            refine j_fg [4] [some (vA (some b)), some (vI a1), some (vI a2), some (vI a3), none, none, none, none, none] rfl ?_
            cases hf
            exact kj174
        · refine j_iconst (pc := 120) hX (-1 : Int32) dX4_shift_120 rfl ?_
          exact j_ireturn (pc := 121) hX hQ (by cases hf; rfl) dX4_shift_121
      have hf := hm_
      refine j_if_ne (pc := 88) hX 95 dX4_shift_88 rfl hf (fun h_ hf => ?_) (fun h_ hf => ?_)
      · refine j_iload (pc := 95) hX dX4_shift_95 rfl ?_
        refine j_if_ne (pc := 97) hX 104 dX4_shift_97 rfl hf (fun h_ hf => ?_) (fun h_ hf => ?_)
        · refine j_iload (pc := 104) hX dX4_shift_104 rfl ?_
          refine j_if_eq (pc := 106) hX 113 dX4_shift_106 rfl hf (fun h_ hf => ?_) (fun h_ hf => ?_)
          · refine j_iconst (pc := 113) hX (0 : Int32) dX4_shift_113 rfl ?_
            refine j_fg [5, 6] [some (vA (some b)), some (vI a1), some (vI a2), some (vI a3), some (vI a4), none, none, none, none] rfl ?_
            cases hf
            exact kj88
          · refine j_iconst (pc := 109) hX (3 : Int32) dX4_shift_109 rfl ?_
            refine j_goto (pc := 110) hX 114 dX4_shift_110 rfl ?_
            refine j_fg [5, 6] [some (vA (some b)), some (vI a1), some (vI a2), some (vI a3), some (vI a4), none, none, none, none] rfl ?_
            cases hf
            exact kj88
        · refine j_iconst (pc := 100) hX (2 : Int32) dX4_shift_100 rfl ?_
          refine j_goto (pc := 101) hX 114 dX4_shift_101 rfl ?_
          refine j_fg [5, 6] [some (vA (some b)), some (vI a1), some (vI a2), some (vI a3), some (vI a4), none, none, none, none] rfl ?_
          cases hf
          exact kj88
      · refine j_iconst (pc := 91) hX (1 : Int32) dX4_shift_91 rfl ?_
        refine j_goto (pc := 92) hX 114 dX4_shift_92 rfl ?_
        refine j_fg [5, 6] [some (vA (some b)), some (vI a1), some (vI a2), some (vI a3), some (vI a4), none, none, none, none] rfl ?_
        cases hf
        exact kj88
    have hf := hm_
    refine j_if_eq (pc := 40) hX 78 dX4_shift_40 rfl hf (fun h_ hf => ?_) (fun h_ hf => ?_)
    · refine j_iconst (pc := 78) hX (0 : Int32) dX4_shift_78 rfl ?_
      cases hf
      exact kj40
    · refine j_iload (pc := 43) hX dX4_shift_43 rfl ?_
      refine j_if_eq (pc := 45) hX 78 dX4_shift_45 rfl hf (fun h_ hf => ?_) (fun h_ hf => ?_)
      · refine j_iconst (pc := 78) hX (0 : Int32) dX4_shift_78 rfl ?_
        cases hf
        exact kj40
      · refine j_aload_n (pc := 48) hX dX4_shift_48 rfl ?_
        refine mg_I (pc := 49) hX 13 (by decide) rfl q2258 dX4_shift_49 ?_
        refine j_bipush (pc := 52) hX (40 : Int32) dX4_shift_52 (by decide +kernel) ?_
        refine j_icmp_eq (pc := 54) hX 74 dX4_shift_54 rfl hf (fun h_ hf => ?_) (fun h_ hf => ?_)
        · refine j_iconst (pc := 74) hX (1 : Int32) dX4_shift_74 rfl ?_
          refine j_goto (pc := 75) hX 79 dX4_shift_75 rfl ?_
          cases hf
          exact kj40
        · refine j_aload_n (pc := 57) hX dX4_shift_57 rfl ?_
          refine j_iload_n (pc := 58) hX dX4_shift_58 rfl ?_
          refine j_sipush (pc := 59) hX (1440 : Int32) dX4_shift_59 (by decide +kernel) ?_
          refine j_iload_n (pc := 62) hX dX4_shift_62 rfl ?_
          refine j_imul (pc := 63) hX dX4_shift_63 ?_
          refine j_iload_n (pc := 64) hX dX4_shift_64 rfl ?_
          refine j_iadd (pc := 65) hX dX4_shift_65 ?_
          refine j_iload (pc := 66) hX dX4_shift_66 rfl ?_
          obtain ⟨x10, w9, hc_, hf⟩ := zB2_e hf
          refine j_callV (pc := 68) hX (ci := 3) mt_X4_meets q2516 q2518 qs37 (zIj_isC b u _) ⟨_, rfl, rfl⟩ [vI a1, vI (((1440 : Int32) * a2) + a3), vI a4] rfl rfl (Nat.le_of_ble_eq_true rfl) (by decide) dX4_shift_68 (k_X4_meets _ _ hc_) ?_
          refine j_if_eq (pc := 71) hX 78 dX4_shift_71 rfl hf (fun h_ hf => ?_) (fun h_ hf => ?_)
          · refine j_iconst (pc := 78) hX (0 : Int32) dX4_shift_78 rfl ?_
            cases hf
            exact kj40
          · refine j_iconst (pc := 74) hX (1 : Int32) dX4_shift_74 rfl ?_
            refine j_goto (pc := 75) hX 79 dX4_shift_75 rfl ?_
            cases hf
            exact kj40
  have hf := hm_
  refine j_if_eq (pc := 10) hX 31 dX4_shift_10 rfl hf (fun h_ hf => ?_) (fun h_ hf => ?_)
  · refine j_iconst (pc := 31) hX (0 : Int32) dX4_shift_31 rfl ?_
    cases hf
    exact kj10
  · refine j_aload_n (pc := 13) hX dX4_shift_13 rfl ?_
    refine j_iload (pc := 14) hX dX4_shift_14 rfl ?_
    refine j_i2l (pc := 16) hX dX4_shift_16 ?_
    refine j_lconst (pc := 17) hX (1 : Int64) dX4_shift_17 rfl ?_
    refine j_ldc2 (pc := 18) hX q2511 dX4_shift_18 ?_
    obtain ⟨x4, w3, hc_, hf⟩ := zB2_e hf
    refine j_callV (pc := 21) hX (ci := 3) mt_X4_in q2469 q2471 qs29 (zIj_isC b u _) ⟨_, rfl, rfl⟩ [vL (Int32.toInt64 a4), vL (1 : Int64), vL (1440 : Int64)] rfl rfl (Nat.le_of_ble_eq_true rfl) (by decide) dX4_shift_21 (k_X4_in _ _ hc_) ?_
    refine j_if_eq (pc := 24) hX 31 dX4_shift_24 rfl hf (fun h_ hf => ?_) (fun h_ hf => ?_)
    · refine j_iconst (pc := 31) hX (0 : Int32) dX4_shift_31 rfl ?_
      cases hf
      exact kj10
    · refine j_iconst (pc := 27) hX (1 : Int32) dX4_shift_27 rfl ?_
      refine j_goto (pc := 28) hX 32 dX4_shift_28 rfl ?_
      cases hf
      exact kj10
def f_X4_minutes (n : Nat) (a1 : Int32) (a2 : Int32) (w : zM) : Option (Int32 × zM) :=
  zB2 (f_X4_isContract n a1 w) fun x2 w1 =>
  zB2 (
    if x2 = (0 : Int32) then
      some ((1 : Int32), w1)
    else
      zB2 (f_X4_isDay n a2 w1) fun x4 w3 =>
      if x4 = (0 : Int32) then
        some ((1 : Int32), w3)
      else
        some ((0 : Int32), w3)
    ) fun x5 w6 =>
  zB2 (f_X4_holds n x5 w6) fun x8 w7 =>
  (
    if x8 = (0 : Int32) then
      (rIM w7 8 7200 (((720 : Int32) * a1) + a2)).bind fun x9 =>
      some x9
    else
      some (-1 : Int32)
    ).bind fun x10 =>
  some (x10, w7)
theorem mt_X4_minutes : zMt yX4_minutes cX4_minutes 3 (some .int) 2 := ⟨q2523, q82, ⟨by decide, by decide⟩, by decide +kernel, by decide⟩
set_option maxHeartbeats 4000000 in
theorem k_X4_minutes {l : Launch} {n : Nat} {a1 : Int32} {a2 : Int32} {b : Nat} {u : zWd} {w : zM} (r : Int32) (w9 : zM) (hf : f_X4_minutes n a1 a2 w = some (r, w9)) : zCt l yX4_minutes cX4_minutes 3 (some .int) 3 [vA (some b), vI a1, vI a2] (zIj b u w) (.inr (some (vI r), (zIj b u w9))) := by
  refine zCt_of (lv := [some (vA (some b)), some (vI a1), some (vI a2)]) (by decide +kernel) 0 rfl rfl ?_
  intro X hX hI hN hQ
  have hX : zGd X RX4 cX4_minutes 3 (some .int) 3 := hX
  unfold f_X4_minutes at hf
  refine j_aload_n (pc := 0) hX dX4_minutes_0 rfl ?_
  refine j_aload_n (pc := 1) hX dX4_minutes_1 rfl ?_
  refine j_iload_n (pc := 2) hX dX4_minutes_2 rfl ?_
  obtain ⟨x2, w1, hc_, hf⟩ := zB2_e hf
  refine j_callV (pc := 3) hX (ci := 3) mt_X4_isContract q2498 q2500 qs34 (zIj_isC b u _) ⟨_, rfl, rfl⟩ [vI a1] rfl rfl (Nat.le_of_ble_eq_true rfl) (by decide) dX4_minutes_3 (k_X4_isContract _ _ hc_) ?_
  obtain ⟨x5, w6, hm_, hf⟩ := zB2_e hf
  have kj6 : zJ X 22 [some (vA (some b)), some (vI a1), some (vI a2)] [vI x5, vA (some b)] (zIj b u w6) := by
    clear hm_
    obtain ⟨x8, w7, hc_, hf⟩ := zB2_e hf
    refine j_callV (pc := 22) hX (ci := 3) mt_X4_holds q2486 q2488 qs32 (zIj_isC b u _) ⟨_, rfl, rfl⟩ [vI x5] rfl rfl (Nat.le_of_ble_eq_true rfl) (by decide) dX4_minutes_22 (k_X4_holds _ _ hc_) ?_
    obtain ⟨x10, hm_, hf⟩ := zob hf
    have kj25 : zJ X 44 [none, none, none] [vI x10] (zIj b u w7) := by
      clear hm_
      exact j_ireturn (pc := 44) hX hQ (by cases hf; rfl) dX4_minutes_44
    have hf := hm_
    refine j_if_eq (pc := 25) hX 32 dX4_minutes_25 rfl hf (fun h_ hf => ?_) (fun h_ hf => ?_)
    · refine j_aload_n (pc := 32) hX dX4_minutes_32 rfl ?_
      refine mg_A (pc := 33) hX 8 (by decide) 9 1 rfl rfl (by decide) q2253 dX4_minutes_33 ?_
      refine j_sipush (pc := 36) hX (720 : Int32) dX4_minutes_36 (by decide +kernel) ?_
      refine j_iload_n (pc := 39) hX dX4_minutes_39 rfl ?_
      refine j_imul (pc := 40) hX dX4_minutes_40 ?_
      refine j_iload_n (pc := 41) hX dX4_minutes_41 rfl ?_
      refine j_iadd (pc := 42) hX dX4_minutes_42 ?_
      refine mr_I (pc := 43) hX 8 7200 9 (by decide) rfl rfl rfl dX4_minutes_43 hf (fun x9 hx_ hf => ?_)
      refine j_fg [0, 1, 2] [none, none, none] rfl ?_
      cases hf
      exact kj25
    · refine j_iconst (pc := 28) hX (-1 : Int32) dX4_minutes_28 rfl ?_
      refine j_goto (pc := 29) hX 44 dX4_minutes_29 rfl ?_
      refine j_fg [0, 1, 2] [none, none, none] rfl ?_
      simp only [Option.some.injEq, Prod.mk.injEq] at hf
      obtain rfl := hf
      exact kj25
  have hf := hm_
  refine j_if_eq (pc := 6) hX 21 dX4_minutes_6 rfl hf (fun h_ hf => ?_) (fun h_ hf => ?_)
  · refine j_iconst (pc := 21) hX (1 : Int32) dX4_minutes_21 rfl ?_
    cases hf
    exact kj6
  · refine j_aload_n (pc := 9) hX dX4_minutes_9 rfl ?_
    refine j_iload_n (pc := 10) hX dX4_minutes_10 rfl ?_
    obtain ⟨x4, w3, hc_, hf⟩ := zB2_e hf
    refine j_callV (pc := 11) hX (ci := 3) mt_X4_isDay q2478 q2480 qs31 (zIj_isC b u _) ⟨_, rfl, rfl⟩ [vI a2] rfl rfl (Nat.le_of_ble_eq_true rfl) (by decide) dX4_minutes_11 (k_X4_isDay _ _ hc_) ?_
    refine j_if_eq (pc := 14) hX 21 dX4_minutes_14 rfl hf (fun h_ hf => ?_) (fun h_ hf => ?_)
    · refine j_iconst (pc := 21) hX (1 : Int32) dX4_minutes_21 rfl ?_
      cases hf
      exact kj6
    · refine j_iconst (pc := 17) hX (0 : Int32) dX4_minutes_17 rfl ?_
      refine j_goto (pc := 18) hX 22 dX4_minutes_18 rfl ?_
      cases hf
      exact kj6
def f_X4_over_L11b (n : Nat) (c1 : Int32) (c2 : Int32) (w : zM) (rec : Int32 → Int32 → Int32 → Option (Int32 × Int32)) (v3 : Int32) (v4 : Int32) (v5 : Int32) : Option (Int32 × Int32) :=
  if (((7 : Int32) * c2) + (7 : Int32)) ≤ v5 then
    some (v3, v4)
  else
    if (720 : Int32) ≤ v5 then
      some (v3, v4)
    else
      (rIM w 8 7200 (((720 : Int32) * c1) + v5)).bind fun x1 =>
      (rIM w 5 10 c1).bind fun x2 =>
      (
        if x1 ≤ x2 then
          some (0 : Int32)
        else
          (rIM w 5 10 c1).bind fun x3 =>
          some (x1 - x3)
        ).bind fun x4 =>
      rec (v3 + x4) (v4 + x1) (v5 + (1))
def f_X4_over_L11 (n : Nat) (c1 : Int32) (c2 : Int32) (w : zM) : Nat → Int32 → Int32 → Int32 → Option (Int32 × Int32)
  | 0, _, _, _ => none
  | k + 1, v3, v4, v5 => f_X4_over_L11b n c1 c2 w (f_X4_over_L11 n c1 c2 w k) v3 v4 v5
def f_X4_over (n : Nat) (a1 : Int32) (a2 : Int32) (w : zM) : Option (Int32 × zM) :=
  zB2 (f_X4_over_L11 n a1 a2 w n (0 : Int32) (0 : Int32) ((7 : Int32) * a2)) fun x5 x6 =>
  (rIM w 5 10 a1).bind fun x7 =>
  (
    if x6 ≤ ((5 : Int32) * x7) then
      some (0 : Int32)
    else
      (rIM w 5 10 a1).bind fun x8 =>
      some (x6 - ((5 : Int32) * x8))
    ).bind fun x9 =>
  (
    if x5 ≤ x9 then
      some x9
    else
      some x5
    ).bind fun x10 =>
  some (x10, w)
theorem mt_X4_over : zMt yX4_over cX4_over 7 (some .int) 2 := ⟨q2532, q82, ⟨by decide, by decide⟩, by decide +kernel, by decide⟩
set_option maxHeartbeats 4000000 in
theorem lp_X4_over_L11 {X : zX} {b : Nat} {u : zWd} (hX : zGd X RX4 cX4_over 7 (some .int) 1) (n : Nat) (c1 : Int32) (c2 : Int32) (w : zM) : ∀ (k : Nat) (v3 : Int32) (v4 : Int32) (v5 : Int32) (o3 : Int32) (o4 : Int32) , f_X4_over_L11 n c1 c2 w k v3 v4 v5 = some (o3, o4) → zJ X 86 [some (vA (some b)), some (vI c1), some (vI c2), some (vI o3), some (vI o4), none, none] [] (zIj b u w) → zJ X 11 [some (vA (some b)), some (vI c1), some (vI c2), some (vI v3), some (vI v4), some (vI v5), none] [] (zIj b u w) := by
  intro k
  induction k with
  | zero => intro v3 v4 v5 o3 o4 hf _; exact nomatch (show (none : Option (Int32 × Int32)) = _ from hf)
  | succ k ih =>
    intro v3 v4 v5 o3 o4 hf kx
    have hf : f_X4_over_L11b n c1 c2 w (f_X4_over_L11 n c1 c2 w k) v3 v4 v5 = _ := hf
    unfold f_X4_over_L11b at hf
    refine j_iload (pc := 11) hX dX4_over_11 rfl ?_
    refine j_bipush (pc := 13) hX (7 : Int32) dX4_over_13 (by decide +kernel) ?_
    refine j_iload_n (pc := 15) hX dX4_over_15 rfl ?_
    refine j_imul (pc := 16) hX dX4_over_16 ?_
    refine j_bipush (pc := 17) hX (7 : Int32) dX4_over_17 (by decide +kernel) ?_
    refine j_iadd (pc := 19) hX dX4_over_19 ?_
    refine j_icmp_ge (pc := 20) hX 86 dX4_over_20 rfl hf (fun h_ hf => ?_) (fun h_ hf => ?_)
    · refine j_fg [5] [some (vA (some b)), some (vI c1), some (vI c2), some (vI v3), some (vI v4), none, none] rfl ?_
      cases hf
      exact kx
    · refine j_iload (pc := 23) hX dX4_over_23 rfl ?_
      refine j_sipush (pc := 25) hX (720 : Int32) dX4_over_25 (by decide +kernel) ?_
      refine j_icmp_ge (pc := 28) hX 86 dX4_over_28 rfl hf (fun h_ hf => ?_) (fun h_ hf => ?_)
      · refine j_fg [5] [some (vA (some b)), some (vI c1), some (vI c2), some (vI v3), some (vI v4), none, none] rfl ?_
        cases hf
        exact kx
      · refine j_aload_n (pc := 31) hX dX4_over_31 rfl ?_
        refine mg_A (pc := 32) hX 8 (by decide) 9 1 rfl rfl (by decide) q2253 dX4_over_32 ?_
        refine j_sipush (pc := 35) hX (720 : Int32) dX4_over_35 (by decide +kernel) ?_
        refine j_iload_n (pc := 38) hX dX4_over_38 rfl ?_
        refine j_imul (pc := 39) hX dX4_over_39 ?_
        refine j_iload (pc := 40) hX dX4_over_40 rfl ?_
        refine j_iadd (pc := 42) hX dX4_over_42 ?_
        refine mr_I (pc := 43) hX 8 7200 9 (by decide) rfl rfl rfl dX4_over_43 hf (fun x1 hx_ hf => ?_)
        refine j_istore (pc := 44) hX dX4_over_44 (by decide) [some (vA (some b)), some (vI c1), some (vI c2), some (vI v3), some (vI v4), some (vI v5), some (vI x1)] rfl ?_
        refine j_iload (pc := 46) hX dX4_over_46 rfl ?_
        refine j_iload (pc := 48) hX dX4_over_48 rfl ?_
        refine j_iadd (pc := 50) hX dX4_over_50 ?_
        refine j_istore (pc := 51) hX dX4_over_51 (by decide) [some (vA (some b)), some (vI c1), some (vI c2), some (vI v3), some (vI (v4 + x1)), some (vI v5), some (vI x1)] rfl ?_
        refine j_iload_n (pc := 53) hX dX4_over_53 rfl ?_
        refine j_iload (pc := 54) hX dX4_over_54 rfl ?_
        refine j_aload_n (pc := 56) hX dX4_over_56 rfl ?_
        refine mg_A (pc := 57) hX 5 (by decide) 6 1 rfl rfl (by decide) q2250 dX4_over_57 ?_
        refine j_iload_n (pc := 60) hX dX4_over_60 rfl ?_
        refine mr_I (pc := 61) hX 5 10 6 (by decide) rfl rfl rfl dX4_over_61 hf (fun x2 hx_ hf => ?_)
        obtain ⟨x4, hm_, hf⟩ := zob hf
        have kj62 : zJ X 78 [some (vA (some b)), some (vI c1), some (vI c2), none, some (vI (v4 + x1)), some (vI v5), none] [vI x4, vI v3] (zIj b u w) := by
          clear hm_
          refine j_iadd (pc := 78) hX dX4_over_78 ?_
          refine j_istore_n (pc := 79) hX dX4_over_79 (by decide) [some (vA (some b)), some (vI c1), some (vI c2), some (vI (v3 + x4)), some (vI (v4 + x1)), some (vI v5), none] rfl ?_
          refine j_iinc (pc := 80) hX (1) dX4_over_80 rfl rfl (by decide) [some (vA (some b)), some (vI c1), some (vI c2), some (vI (v3 + x4)), some (vI (v4 + x1)), some (vI (v5 + (1))), none] rfl ?_
          refine j_goto (pc := 83) hX 11 dX4_over_83 rfl ?_
          exact ih _ _ _ _ _ hf kx
        have hf := hm_
        refine j_icmp_le (pc := 62) hX 77 dX4_over_62 rfl hf (fun h_ hf => ?_) (fun h_ hf => ?_)
        · refine j_iconst (pc := 77) hX (0 : Int32) dX4_over_77 rfl ?_
          refine j_fg [3, 6] [some (vA (some b)), some (vI c1), some (vI c2), none, some (vI (v4 + x1)), some (vI v5), none] rfl ?_
          cases hf
          exact kj62
        · refine j_iload (pc := 65) hX dX4_over_65 rfl ?_
          refine j_aload_n (pc := 67) hX dX4_over_67 rfl ?_
          refine mg_A (pc := 68) hX 5 (by decide) 6 1 rfl rfl (by decide) q2250 dX4_over_68 ?_
          refine j_iload_n (pc := 71) hX dX4_over_71 rfl ?_
          refine mr_I (pc := 72) hX 5 10 6 (by decide) rfl rfl rfl dX4_over_72 hf (fun x3 hx_ hf => ?_)
          refine j_isub (pc := 73) hX dX4_over_73 ?_
          refine j_goto (pc := 74) hX 78 dX4_over_74 rfl ?_
          refine j_fg [3, 6] [some (vA (some b)), some (vI c1), some (vI c2), none, some (vI (v4 + x1)), some (vI v5), none] rfl ?_
          cases hf
          exact kj62
set_option maxHeartbeats 4000000 in
theorem k_X4_over {l : Launch} {n : Nat} {a1 : Int32} {a2 : Int32} {b : Nat} {u : zWd} {w : zM} (r : Int32) (w9 : zM) (hf : f_X4_over n a1 a2 w = some (r, w9)) : zCt l yX4_over cX4_over 7 (some .int) 1 [vA (some b), vI a1, vI a2] (zIj b u w) (.inr (some (vI r), (zIj b u w9))) := by
  refine zCt_of (lv := [some (vA (some b)), some (vI a1), some (vI a2), none, none, none, none]) (by decide +kernel) 4 rfl rfl ?_
  intro X hX hI hN hQ
  have hX : zGd X RX4 cX4_over 7 (some .int) 1 := hX
  unfold f_X4_over at hf
  refine j_iconst (pc := 0) hX (0 : Int32) dX4_over_0 rfl ?_
  refine j_istore_n (pc := 1) hX dX4_over_1 (by decide) [some (vA (some b)), some (vI a1), some (vI a2), some (vI (0 : Int32)), none, none, none] rfl ?_
  refine j_iconst (pc := 2) hX (0 : Int32) dX4_over_2 rfl ?_
  refine j_istore (pc := 3) hX dX4_over_3 (by decide) [some (vA (some b)), some (vI a1), some (vI a2), some (vI (0 : Int32)), some (vI (0 : Int32)), none, none] rfl ?_
  refine j_bipush (pc := 5) hX (7 : Int32) dX4_over_5 (by decide +kernel) ?_
  refine j_iload_n (pc := 7) hX dX4_over_7 rfl ?_
  refine j_imul (pc := 8) hX dX4_over_8 ?_
  refine j_istore (pc := 9) hX dX4_over_9 (by decide) [some (vA (some b)), some (vI a1), some (vI a2), some (vI (0 : Int32)), some (vI (0 : Int32)), some (vI ((7 : Int32) * a2)), none] rfl ?_
  obtain ⟨x5, x6, hm_, hf⟩ := zB2_e hf
  refine lp_X4_over_L11 hX n _ _ _ _ _ _ _ _ _ hm_ ?_
  refine j_iload (pc := 86) hX dX4_over_86 rfl ?_
  refine j_iconst (pc := 88) hX (5 : Int32) dX4_over_88 rfl ?_
  refine j_aload_n (pc := 89) hX dX4_over_89 rfl ?_
  refine mg_A (pc := 90) hX 5 (by decide) 6 1 rfl rfl (by decide) q2250 dX4_over_90 ?_
  refine j_iload_n (pc := 93) hX dX4_over_93 rfl ?_
  refine mr_I (pc := 94) hX 5 10 6 (by decide) rfl rfl rfl dX4_over_94 hf (fun x7 hx_ hf => ?_)
  refine j_imul (pc := 95) hX dX4_over_95 ?_
  obtain ⟨x9, hm_, hf⟩ := zob hf
  have kj96 : zJ X 114 [none, none, none, some (vI x5), none, none, none] [vI x9] (zIj b u w) := by
    clear hm_
    refine j_istore (pc := 114) hX dX4_over_114 (by decide) [none, none, none, some (vI x5), none, some (vI x9), none] rfl ?_
    refine j_iload_n (pc := 116) hX dX4_over_116 rfl ?_
    refine j_iload (pc := 117) hX dX4_over_117 rfl ?_
    obtain ⟨x10, hm_, hf⟩ := zob hf
    have kj119 : zJ X 128 [none, none, none, none, none, none, none] [vI x10] (zIj b u w) := by
      clear hm_
      exact j_ireturn (pc := 128) hX hQ (by cases hf; rfl) dX4_over_128
    have hf := hm_
    refine j_icmp_le (pc := 119) hX 126 dX4_over_119 rfl hf (fun h_ hf => ?_) (fun h_ hf => ?_)
    · refine j_iload (pc := 126) hX dX4_over_126 rfl ?_
      refine j_fg [3, 5] [none, none, none, none, none, none, none] rfl ?_
      cases hf
      exact kj119
    · refine j_iload_n (pc := 122) hX dX4_over_122 rfl ?_
      refine j_goto (pc := 123) hX 128 dX4_over_123 rfl ?_
      refine j_fg [3, 5] [none, none, none, none, none, none, none] rfl ?_
      cases hf
      exact kj119
  have hf := hm_
  refine j_icmp_le (pc := 96) hX 113 dX4_over_96 rfl hf (fun h_ hf => ?_) (fun h_ hf => ?_)
  · refine j_iconst (pc := 113) hX (0 : Int32) dX4_over_113 rfl ?_
    refine j_fg [0, 1, 2, 4] [none, none, none, some (vI x5), none, none, none] rfl ?_
    cases hf
    exact kj96
  · refine j_iload (pc := 99) hX dX4_over_99 rfl ?_
    refine j_iconst (pc := 101) hX (5 : Int32) dX4_over_101 rfl ?_
    refine j_aload_n (pc := 102) hX dX4_over_102 rfl ?_
    refine mg_A (pc := 103) hX 5 (by decide) 6 1 rfl rfl (by decide) q2250 dX4_over_103 ?_
    refine j_iload_n (pc := 106) hX dX4_over_106 rfl ?_
    refine mr_I (pc := 107) hX 5 10 6 (by decide) rfl rfl rfl dX4_over_107 hf (fun x8 hx_ hf => ?_)
    refine j_imul (pc := 108) hX dX4_over_108 ?_
    refine j_isub (pc := 109) hX dX4_over_109 ?_
    refine j_goto (pc := 110) hX 114 dX4_over_110 rfl ?_
    refine j_fg [0, 1, 2, 4] [none, none, none, some (vI x5), none, none, none] rfl ?_
    cases hf
    exact kj96
def f_X4_overtime (n : Nat) (a1 : Int32) (a2 : Int32) (w : zM) : Option (Int32 × zM) :=
  zB2 (f_X4_isContract n a1 w) fun x2 w1 =>
  zB2 (
    if x2 = (0 : Int32) then
      some ((1 : Int32), w1)
    else
      zB2 (f_X4_in n (Int32.toInt64 a2) (0 : Int64) (102 : Int64) w1) fun x4 w3 =>
      if x4 = (0 : Int32) then
        some ((1 : Int32), w3)
      else
        some ((0 : Int32), w3)
    ) fun x5 w6 =>
  zB2 (f_X4_holds n x5 w6) fun x8 w7 =>
  zB2 (
    if x8 = (0 : Int32) then
      zB2 (f_X4_over n a1 a2 w7) fun x10 w9 =>
      some (x10, w9)
    else
      some ((-1 : Int32), w7)
    ) fun x11 w12 =>
  some (x11, w12)
theorem mt_X4_overtime : zMt yX4_overtime cX4_overtime 3 (some .int) 2 := ⟨q2527, q82, ⟨by decide, by decide⟩, by decide +kernel, by decide⟩
set_option maxHeartbeats 4000000 in
theorem k_X4_overtime {l : Launch} {n : Nat} {a1 : Int32} {a2 : Int32} {b : Nat} {u : zWd} {w : zM} (r : Int32) (w9 : zM) (hf : f_X4_overtime n a1 a2 w = some (r, w9)) : zCt l yX4_overtime cX4_overtime 3 (some .int) 3 [vA (some b), vI a1, vI a2] (zIj b u w) (.inr (some (vI r), (zIj b u w9))) := by
  refine zCt_of (lv := [some (vA (some b)), some (vI a1), some (vI a2)]) (by decide +kernel) 0 rfl rfl ?_
  intro X hX hI hN hQ
  have hX : zGd X RX4 cX4_overtime 3 (some .int) 3 := hX
  unfold f_X4_overtime at hf
  refine j_aload_n (pc := 0) hX dX4_overtime_0 rfl ?_
  refine j_aload_n (pc := 1) hX dX4_overtime_1 rfl ?_
  refine j_iload_n (pc := 2) hX dX4_overtime_2 rfl ?_
  obtain ⟨x2, w1, hc_, hf⟩ := zB2_e hf
  refine j_callV (pc := 3) hX (ci := 3) mt_X4_isContract q2498 q2500 qs34 (zIj_isC b u _) ⟨_, rfl, rfl⟩ [vI a1] rfl rfl (Nat.le_of_ble_eq_true rfl) (by decide) dX4_overtime_3 (k_X4_isContract _ _ hc_) ?_
  obtain ⟨x5, w6, hm_, hf⟩ := zB2_e hf
  have kj6 : zJ X 27 [some (vA (some b)), some (vI a1), some (vI a2)] [vI x5, vA (some b)] (zIj b u w6) := by
    clear hm_
    obtain ⟨x8, w7, hc_, hf⟩ := zB2_e hf
    refine j_callV (pc := 27) hX (ci := 3) mt_X4_holds q2486 q2488 qs32 (zIj_isC b u _) ⟨_, rfl, rfl⟩ [vI x5] rfl rfl (Nat.le_of_ble_eq_true rfl) (by decide) dX4_overtime_27 (k_X4_holds _ _ hc_) ?_
    obtain ⟨x11, w12, hm_, hf⟩ := zB2_e hf
    have kj30 : zJ X 43 [none, none, none] [vI x11] (zIj b u w12) := by
      clear hm_
      exact j_ireturn (pc := 43) hX hQ (by cases hf; rfl) dX4_overtime_43
    have hf := hm_
    refine j_if_eq (pc := 30) hX 37 dX4_overtime_30 rfl hf (fun h_ hf => ?_) (fun h_ hf => ?_)
    · refine j_aload_n (pc := 37) hX dX4_overtime_37 rfl ?_
      refine j_iload_n (pc := 38) hX dX4_overtime_38 rfl ?_
      refine j_iload_n (pc := 39) hX dX4_overtime_39 rfl ?_
      obtain ⟨x10, w9, hc_, hf⟩ := zB2_e hf
      refine j_callV (pc := 40) hX (ci := 3) mt_X4_over q2529 q2531 qs38 (zIj_isC b u _) ⟨_, rfl, rfl⟩ [vI a1, vI a2] rfl rfl (Nat.le_of_ble_eq_true rfl) (by decide) dX4_overtime_40 (k_X4_over _ _ hc_) ?_
      refine j_fg [0, 1, 2] [none, none, none] rfl ?_
      cases hf
      exact kj30
    · refine j_iconst (pc := 33) hX (-1 : Int32) dX4_overtime_33 rfl ?_
      refine j_goto (pc := 34) hX 43 dX4_overtime_34 rfl ?_
      refine j_fg [0, 1, 2] [none, none, none] rfl ?_
      simp only [Option.some.injEq, Prod.mk.injEq] at hf
      obtain ⟨rfl, rfl⟩ := hf
      exact kj30
  have hf := hm_
  refine j_if_eq (pc := 6) hX 26 dX4_overtime_6 rfl hf (fun h_ hf => ?_) (fun h_ hf => ?_)
  · refine j_iconst (pc := 26) hX (1 : Int32) dX4_overtime_26 rfl ?_
    cases hf
    exact kj6
  · refine j_aload_n (pc := 9) hX dX4_overtime_9 rfl ?_
    refine j_iload_n (pc := 10) hX dX4_overtime_10 rfl ?_
    refine j_i2l (pc := 11) hX dX4_overtime_11 ?_
    refine j_lconst (pc := 12) hX (0 : Int64) dX4_overtime_12 rfl ?_
    refine j_ldc2 (pc := 13) hX q2528 dX4_overtime_13 ?_
    obtain ⟨x4, w3, hc_, hf⟩ := zB2_e hf
    refine j_callV (pc := 16) hX (ci := 3) mt_X4_in q2469 q2471 qs29 (zIj_isC b u _) ⟨_, rfl, rfl⟩ [vL (Int32.toInt64 a2), vL (0 : Int64), vL (102 : Int64)] rfl rfl (Nat.le_of_ble_eq_true rfl) (by decide) dX4_overtime_16 (k_X4_in _ _ hc_) ?_
    refine j_if_eq (pc := 19) hX 26 dX4_overtime_19 rfl hf (fun h_ hf => ?_) (fun h_ hf => ?_)
    · refine j_iconst (pc := 26) hX (1 : Int32) dX4_overtime_26 rfl ?_
      cases hf
      exact kj6
    · refine j_iconst (pc := 22) hX (0 : Int32) dX4_overtime_22 rfl ?_
      refine j_goto (pc := 23) hX 27 dX4_overtime_23 rfl ?_
      cases hf
      exact kj6
def f_X4_isMonth (n : Nat) (a1 : Int32) (w : zM) : Option (Int32 × zM) :=
  zB2 (f_X4_in n (Int32.toInt64 a1) (0 : Int64) (23 : Int64) w) fun x2 w1 =>
  zRzM x2 w1
theorem mt_X4_isMonth : zMt yX4_isMonth cX4_isMonth 2 (some .boolean) 1 := ⟨q2540, q82, ⟨by decide, by decide⟩, by decide +kernel, by decide⟩
set_option maxHeartbeats 4000000 in
theorem k_X4_isMonth {l : Launch} {n : Nat} {a1 : Int32} {b : Nat} {u : zWd} {w : zM} (r : Int32) (w9 : zM) (hf : f_X4_isMonth n a1 w = some (r, w9)) : zCt l yX4_isMonth cX4_isMonth 2 (some .boolean) 2 [vA (some b), vI a1] (zIj b u w) (.inr (some (vI r), (zIj b u w9))) := by
  refine zCt_of (lv := [some (vA (some b)), some (vI a1)]) (by decide +kernel) 0 rfl rfl ?_
  intro X hX hI hN hQ
  have hX : zGd X RX4 cX4_isMonth 2 (some .boolean) 2 := hX
  unfold f_X4_isMonth at hf
  refine j_aload_n (pc := 0) hX dX4_isMonth_0 rfl ?_
  refine j_iload_n (pc := 1) hX dX4_isMonth_1 rfl ?_
  refine j_i2l (pc := 2) hX dX4_isMonth_2 ?_
  refine j_lconst (pc := 3) hX (0 : Int64) dX4_isMonth_3 rfl ?_
  refine j_ldc2 (pc := 4) hX q2541 dX4_isMonth_4 ?_
  obtain ⟨x2, w1, hc_, hf⟩ := zB2_e hf
  refine j_callV (pc := 7) hX (ci := 3) mt_X4_in q2469 q2471 qs29 (zIj_isC b u _) ⟨_, rfl, rfl⟩ [vL (Int32.toInt64 a1), vL (0 : Int64), vL (23 : Int64)] rfl rfl (Nat.le_of_ble_eq_true rfl) (by decide) dX4_isMonth_7 (k_X4_in _ _ hc_) ?_
  obtain ⟨hz_, hf⟩ := zRzM_e hf
  exact j_zreturn (pc := 10) hX hQ hz_ (by cases hf; rfl) dX4_isMonth_10
def f_X4_works_L5b (n : Nat) (c1 : Int32) (c2 : Int32) (rec : Int32 → Int32 → zM → Option (Int32 × zM)) (v3 : Int32) (v4 : Int32) (w : zM) : Option (Int32 × zM) :=
  if (mI w 9) ≤ v4 then
    some (v3, w)
  else
    (rIM w 0 10 v4).bind fun x1 =>
    zB2 (
      if x1 = c1 then
        (rIM w 2 10 v4).bind fun x2 =>
        (rIM w 3 10 v4).bind fun x3 =>
        zB2 (f_X4_in n (Int32.toInt64 c2) (Int32.toInt64 x2) (Int32.toInt64 x3) w) fun x5 w4 =>
        if x5 = (0 : Int32) then
          some ((0 : Int32), w4)
        else
          some ((1 : Int32), w4)
      else
        some ((0 : Int32), w)
      ) fun x6 w7 =>
    rec (v3 ||| x6) (v4 + (1)) w7
def f_X4_works_L5 (n : Nat) (c1 : Int32) (c2 : Int32) : Nat → Int32 → Int32 → zM → Option (Int32 × zM)
  | 0, _, _, _ => none
  | k + 1, v3, v4, w => f_X4_works_L5b n c1 c2 (f_X4_works_L5 n c1 c2 k) v3 v4 w
def f_X4_works (n : Nat) (a1 : Int32) (a2 : Int32) (w : zM) : Option (Int32 × zM) :=
  zB2 (f_X4_works_L5 n a1 a2 n (0 : Int32) (0 : Int32) w) fun x8 w9 =>
  zRzM x8 w9
theorem mt_X4_works : zMt yX4_works cX4_works 5 (some .boolean) 2 := ⟨q2550, q82, ⟨by decide, by decide⟩, by decide +kernel, by decide⟩
set_option maxHeartbeats 4000000 in
theorem lp_X4_works_L5 {X : zX} {b : Nat} {u : zWd} (hX : zGd X RX4 cX4_works 5 (some .boolean) 2) (n : Nat) (c1 : Int32) (c2 : Int32) : ∀ (k : Nat) (v3 : Int32) (v4 : Int32) (w : zM) (o3 : Int32) (w9 : zM) , f_X4_works_L5 n c1 c2 k v3 v4 w = some (o3, w9) → zJ X 64 [some (vA (some b)), some (vI c1), some (vI c2), some (vI o3), none] [] (zIj b u w9) → zJ X 5 [some (vA (some b)), some (vI c1), some (vI c2), some (vI v3), some (vI v4)] [] (zIj b u w) := by
  intro k
  induction k with
  | zero => intro v3 v4 w o3 w9 hf _; exact nomatch (show (none : Option (Int32 × zM)) = _ from hf)
  | succ k ih =>
    intro v3 v4 w o3 w9 hf kx
    have hf : f_X4_works_L5b n c1 c2 (f_X4_works_L5 n c1 c2 k) v3 v4 w = _ := hf
    unfold f_X4_works_L5b at hf
    refine j_iload (pc := 5) hX dX4_works_5 rfl ?_
    refine j_aload_n (pc := 7) hX dX4_works_7 rfl ?_
    refine mg_I (pc := 8) hX 9 (by decide) rfl q2254 dX4_works_8 ?_
    refine j_icmp_ge (pc := 11) hX 64 dX4_works_11 rfl hf (fun h_ hf => ?_) (fun h_ hf => ?_)
    · refine j_fg [4] [some (vA (some b)), some (vI c1), some (vI c2), some (vI v3), none] rfl ?_
      cases hf
      exact kx
    · refine j_iload_n (pc := 14) hX dX4_works_14 rfl ?_
      refine j_aload_n (pc := 15) hX dX4_works_15 rfl ?_
      refine mg_A (pc := 16) hX 0 (by decide) 1 1 rfl rfl (by decide) q2245 dX4_works_16 ?_
      refine j_iload (pc := 19) hX dX4_works_19 rfl ?_
      refine mr_I (pc := 21) hX 0 10 1 (by decide) rfl rfl rfl dX4_works_21 hf (fun x1 hx_ hf => ?_)
      refine j_iload_n (pc := 22) hX dX4_works_22 rfl ?_
      obtain ⟨x6, w7, hm_, hf⟩ := zB2_e hf
      have kj23 : zJ X 56 [some (vA (some b)), some (vI c1), some (vI c2), none, some (vI v4)] [vI x6, vI v3] (zIj b u w7) := by
        clear hm_
        refine j_ior (pc := 56) hX dX4_works_56 ?_
        refine j_istore_n (pc := 57) hX dX4_works_57 (by decide) [some (vA (some b)), some (vI c1), some (vI c2), some (vI (v3 ||| x6)), some (vI v4)] rfl ?_
        refine j_iinc (pc := 58) hX (1) dX4_works_58 rfl rfl (by decide) [some (vA (some b)), some (vI c1), some (vI c2), some (vI (v3 ||| x6)), some (vI (v4 + (1)))] rfl ?_
        refine j_goto (pc := 61) hX 5 dX4_works_61 rfl ?_
        exact ih _ _ _ _ _ hf kx
      have hf := hm_
      refine j_icmp_ne (pc := 23) hX 55 dX4_works_23 rfl hf (fun h_ hf => ?_) (fun h_ hf => ?_)
      · refine j_iconst (pc := 55) hX (0 : Int32) dX4_works_55 rfl ?_
        refine j_fg [3] [some (vA (some b)), some (vI c1), some (vI c2), none, some (vI v4)] rfl ?_
        cases hf
        exact kj23
      · refine j_aload_n (pc := 26) hX dX4_works_26 rfl ?_
        refine j_iload_n (pc := 27) hX dX4_works_27 rfl ?_
        refine j_i2l (pc := 28) hX dX4_works_28 ?_
        refine j_aload_n (pc := 29) hX dX4_works_29 rfl ?_
        refine mg_A (pc := 30) hX 2 (by decide) 3 1 rfl rfl (by decide) q2247 dX4_works_30 ?_
        refine j_iload (pc := 33) hX dX4_works_33 rfl ?_
        refine mr_I (pc := 35) hX 2 10 3 (by decide) rfl rfl rfl dX4_works_35 hf (fun x2 hx_ hf => ?_)
        refine j_i2l (pc := 36) hX dX4_works_36 ?_
        refine j_aload_n (pc := 37) hX dX4_works_37 rfl ?_
        refine mg_A (pc := 38) hX 3 (by decide) 4 1 rfl rfl (by decide) q2248 dX4_works_38 ?_
        refine j_iload (pc := 41) hX dX4_works_41 rfl ?_
        refine mr_I (pc := 43) hX 3 10 4 (by decide) rfl rfl rfl dX4_works_43 hf (fun x3 hx_ hf => ?_)
        refine j_i2l (pc := 44) hX dX4_works_44 ?_
        obtain ⟨x5, w4, hc_, hf⟩ := zB2_e hf
        refine j_callV (pc := 45) hX (ci := 3) mt_X4_in q2469 q2471 qs29 (zIj_isC b u _) ⟨_, rfl, rfl⟩ [vL (Int32.toInt64 c2), vL (Int32.toInt64 x2), vL (Int32.toInt64 x3)] rfl rfl (Nat.le_of_ble_eq_true rfl) (by decide) dX4_works_45 (k_X4_in _ _ hc_) ?_
        refine j_if_eq (pc := 48) hX 55 dX4_works_48 rfl hf (fun h_ hf => ?_) (fun h_ hf => ?_)
        · refine j_iconst (pc := 55) hX (0 : Int32) dX4_works_55 rfl ?_
          refine j_fg [3] [some (vA (some b)), some (vI c1), some (vI c2), none, some (vI v4)] rfl ?_
          cases hf
          exact kj23
        · refine j_iconst (pc := 51) hX (1 : Int32) dX4_works_51 rfl ?_
          refine j_goto (pc := 52) hX 56 dX4_works_52 rfl ?_
          refine j_fg [3] [some (vA (some b)), some (vI c1), some (vI c2), none, some (vI v4)] rfl ?_
          cases hf
          exact kj23
set_option maxHeartbeats 4000000 in
theorem k_X4_works {l : Launch} {n : Nat} {a1 : Int32} {a2 : Int32} {b : Nat} {u : zWd} {w : zM} (r : Int32) (w9 : zM) (hf : f_X4_works n a1 a2 w = some (r, w9)) : zCt l yX4_works cX4_works 5 (some .boolean) 2 [vA (some b), vI a1, vI a2] (zIj b u w) (.inr (some (vI r), (zIj b u w9))) := by
  refine zCt_of (lv := [some (vA (some b)), some (vI a1), some (vI a2), none, none]) (by decide +kernel) 2 rfl rfl ?_
  intro X hX hI hN hQ
  have hX : zGd X RX4 cX4_works 5 (some .boolean) 2 := hX
  unfold f_X4_works at hf
  refine j_iconst (pc := 0) hX (0 : Int32) dX4_works_0 rfl ?_
  refine j_istore_n (pc := 1) hX dX4_works_1 (by decide) [some (vA (some b)), some (vI a1), some (vI a2), some (vI (0 : Int32)), none] rfl ?_
  refine j_iconst (pc := 2) hX (0 : Int32) dX4_works_2 rfl ?_
  refine j_istore (pc := 3) hX dX4_works_3 (by decide) [some (vA (some b)), some (vI a1), some (vI a2), some (vI (0 : Int32)), some (vI (0 : Int32))] rfl ?_
  obtain ⟨x8, w9, hm_, hf⟩ := zB2_e hf
  refine lp_X4_works_L5 hX n _ _ _ _ _ _ _ _ hm_ ?_
  refine j_iload_n (pc := 64) hX dX4_works_64 rfl ?_
  obtain ⟨hz_, hf⟩ := zRzM_e hf
  exact j_zreturn (pc := 65) hX hQ hz_ (by cases hf; rfl) dX4_works_65
def f_X4_takes_L127b (n : Nat) (c1 : Int32) (c2 : Int32) (c5 : Int32) (rec : Int32 → Int32 → Int32 → zM → Option (Int32 × Int32 × zM)) (v3 : Int32) (v4 : Int32) (v6 : Int32) (w : zM) : Option (Int32 × Int32 × zM) :=
  if (mI w 17) ≤ v6 then
    some (v3, v4, w)
  else
    (rIM w 15 30 v6).bind fun x11 =>
    zB3 (
      if x11 = c5 then
        (rIM w 14 30 v6).bind fun x12 =>
        (rIM w 0 10 x12).bind fun x13 =>
        if x13 = c1 then
          (
            if (v3 + v4) < (10 : Int32) then
              some (0 : Int32)
            else
              some (1 : Int32)
            ).bind fun x14 =>
          (sIM w 16 30 v6 x14).bind fun w15 =>
          (rIM w15 16 30 v6).bind fun x16 =>
          (
            if x16 = (0 : Int32) then
              some (0 : Int32)
            else
              if (10 : Int32) ≤ v4 then
                some (10 : Int32)
              else
                some v4
            ).bind fun x17 =>
          (rIM w15 16 30 v6).bind fun x18 =>
          (
            if x18 = (0 : Int32) then
              some (0 : Int32)
            else
              some ((10 : Int32) - x17)
            ).bind fun x19 =>
          some ((v3 - x19), (v4 - x17), w15)
        else
          some (v3, v4, w)
      else
        some (v3, v4, w)
      ) fun x20 x21 w22 =>
    rec x20 x21 (v6 + (1)) w22
def f_X4_takes_L127 (n : Nat) (c1 : Int32) (c2 : Int32) (c5 : Int32) : Nat → Int32 → Int32 → Int32 → zM → Option (Int32 × Int32 × zM)
  | 0, _, _, _, _ => none
  | k + 1, v3, v4, v6, w => f_X4_takes_L127b n c1 c2 c5 (f_X4_takes_L127 n c1 c2 c5 k) v3 v4 v6 w
def f_X4_takes_L8b (n : Nat) (c1 : Int32) (c2 : Int32) (rec : Int32 → Int32 → Int32 → zM → Option (zM)) (v3 : Int32) (v4 : Int32) (v5 : Int32) (w : zM) : Option (zM) :=
  if (720 : Int32) ≤ v5 then
    some w
  else
    zB2 (
      if (v5 - v5 / (30 : Int32) * (30 : Int32)) = (0 : Int32) then
        if v5 ≤ (0 : Int32) then
          some ((0 : Int32), w)
        else
          zB2 (f_X4_works n c1 (v5 - (1 : Int32)) w) fun x2 w1 =>
          if x2 = (0 : Int32) then
            some ((0 : Int32), w1)
          else
            some ((mI w1 18), w1)
      else
        some ((0 : Int32), w)
      ) fun x3 w4 =>
    zB2 (
      if v5 = (360 : Int32) then
        (
          if (mI w4 19) ≤ (v3 + x3) then
            some (mI w4 19)
          else
            some (v3 + x3)
          ).bind fun x5 =>
        some ((0 : Int32), x5)
      else
        some ((v3 + x3), v4)
      ) fun x6 x7 =>
    (
      if v5 = ((30 : Int32) * ((12 : Int32) + (mI w4 20))) then
        some (0 : Int32)
      else
        some x7
      ).bind fun x8 =>
    (
      if v5 = c2 then
        some (x6 + x8)
      else
        some (mI w4 21)
      ).bind fun x9 =>
    (pM w4 21 x9).bind fun w10 =>
    zB3 (f_X4_takes_L127 n c1 c2 v5 n x6 x8 (0 : Int32) w10) fun x23 x24 w25 =>
    rec x23 x24 (v5 + (1)) w25
def f_X4_takes_L8 (n : Nat) (c1 : Int32) (c2 : Int32) : Nat → Int32 → Int32 → Int32 → zM → Option (zM)
  | 0, _, _, _, _ => none
  | k + 1, v3, v4, v5, w => f_X4_takes_L8b n c1 c2 (f_X4_takes_L8 n c1 c2 k) v3 v4 v5 w
def f_X4_takes (n : Nat) (a1 : Int32) (a2 : Int32) (w : zM) : Option zM :=
  (f_X4_takes_L8 n a1 a2 n (0 : Int32) (0 : Int32) (0 : Int32) w).bind fun w26 =>
  some w26
theorem mt_X4_takes : zMt yX4_takes cX4_takes 8 none 2 := ⟨q2546, q82, ⟨by decide, by decide⟩, by decide +kernel, by decide⟩
set_option maxHeartbeats 4000000 in
theorem lp_X4_takes_L127 {X : zX} {b : Nat} {u : zWd} (hX : zGd X RX4 cX4_takes 8 none 3) (n : Nat) (c1 : Int32) (c2 : Int32) (c5 : Int32) : ∀ (k : Nat) (v3 : Int32) (v4 : Int32) (v6 : Int32) (w : zM) (o3 : Int32) (o4 : Int32) (w9 : zM) , f_X4_takes_L127 n c1 c2 c5 k v3 v4 v6 w = some (o3, o4, w9) → zJ X 250 [some (vA (some b)), some (vI c1), some (vI c2), some (vI o3), some (vI o4), some (vI c5), none, none] [] (zIj b u w9) → zJ X 127 [some (vA (some b)), some (vI c1), some (vI c2), some (vI v3), some (vI v4), some (vI c5), some (vI v6), none] [] (zIj b u w) := by
  intro k
  induction k with
  | zero => intro v3 v4 v6 w o3 o4 w9 hf _; exact nomatch (show (none : Option (Int32 × Int32 × zM)) = _ from hf)
  | succ k ih =>
    intro v3 v4 v6 w o3 o4 w9 hf kx
    have hf : f_X4_takes_L127b n c1 c2 c5 (f_X4_takes_L127 n c1 c2 c5 k) v3 v4 v6 w = _ := hf
    unfold f_X4_takes_L127b at hf
    refine j_iload (pc := 127) hX dX4_takes_127 rfl ?_
    refine j_aload_n (pc := 129) hX dX4_takes_129 rfl ?_
    refine mg_I (pc := 130) hX 17 (by decide) rfl q2262 dX4_takes_130 ?_
    refine j_icmp_ge (pc := 133) hX 250 dX4_takes_133 rfl hf (fun h_ hf => ?_) (fun h_ hf => ?_)
    · refine j_fg [6] [some (vA (some b)), some (vI c1), some (vI c2), some (vI v3), some (vI v4), some (vI c5), none, none] rfl ?_
      cases hf
      exact kx
    · refine j_aload_n (pc := 136) hX dX4_takes_136 rfl ?_
      refine mg_A (pc := 137) hX 15 (by decide) 14 1 rfl rfl (by decide) q2260 dX4_takes_137 ?_
      refine j_iload (pc := 140) hX dX4_takes_140 rfl ?_
      refine mr_I (pc := 142) hX 15 30 14 (by decide) rfl rfl rfl dX4_takes_142 hf (fun x11 hx_ hf => ?_)
      refine j_iload (pc := 143) hX dX4_takes_143 rfl ?_
      obtain ⟨x20, x21, w22, hm_, hf⟩ := zB3_e hf
      have kj145 : zJ X 244 [some (vA (some b)), some (vI c1), some (vI c2), some (vI x20), some (vI x21), some (vI c5), some (vI v6), none] [] (zIj b u w22) := by
        clear hm_
        refine j_iinc (pc := 244) hX (1) dX4_takes_244 rfl rfl (by decide) [some (vA (some b)), some (vI c1), some (vI c2), some (vI x20), some (vI x21), some (vI c5), some (vI (v6 + (1))), none] rfl ?_
        refine j_goto (pc := 247) hX 127 dX4_takes_247 rfl ?_
        exact ih _ _ _ _ _ _ _ hf kx
      have hf := hm_
      refine j_icmp_ne (pc := 145) hX 244 dX4_takes_145 rfl hf (fun h_ hf => ?_) (fun h_ hf => ?_)
      · cases hf
        exact kj145
      · refine j_aload_n (pc := 148) hX dX4_takes_148 rfl ?_
        refine mg_A (pc := 149) hX 0 (by decide) 1 1 rfl rfl (by decide) q2245 dX4_takes_149 ?_
        refine j_aload_n (pc := 152) hX dX4_takes_152 rfl ?_
        refine mg_A (pc := 153) hX 14 (by decide) 13 1 rfl rfl (by decide) q2259 dX4_takes_153 ?_
        refine j_iload (pc := 156) hX dX4_takes_156 rfl ?_
        refine mr_I (pc := 158) hX 14 30 13 (by decide) rfl rfl rfl dX4_takes_158 hf (fun x12 hx_ hf => ?_)
        refine mr_I (pc := 159) hX 0 10 1 (by decide) rfl rfl rfl dX4_takes_159 hf (fun x13 hx_ hf => ?_)
        refine j_iload_n (pc := 160) hX dX4_takes_160 rfl ?_
        refine j_icmp_ne (pc := 161) hX 244 dX4_takes_161 rfl hf (fun h_ hf => ?_) (fun h_ hf => ?_)
        · cases hf
          exact kj145
        · refine j_aload_n (pc := 164) hX dX4_takes_164 rfl ?_
          refine mg_A (pc := 165) hX 16 (by decide) 15 1 rfl rfl (by decide) q2261 dX4_takes_165 ?_
          refine j_iload (pc := 168) hX dX4_takes_168 rfl ?_
          refine j_iload_n (pc := 170) hX dX4_takes_170 rfl ?_
          refine j_iload (pc := 171) hX dX4_takes_171 rfl ?_
          refine j_iadd (pc := 173) hX dX4_takes_173 ?_
          refine j_bipush (pc := 174) hX (10 : Int32) dX4_takes_174 (by decide +kernel) ?_
          obtain ⟨x14, hm_, hf⟩ := zob hf
          have kj176 : zJ X 184 [some (vA (some b)), some (vI c1), some (vI c2), some (vI v3), some (vI v4), some (vI c5), some (vI v6), none] [vI x14, vI v6, vA (some (b + 15))] (zIj b u w) := by
            clear hm_
            refine ms_I (pc := 184) hX 16 30 15 (by decide) rfl rfl rfl dX4_takes_184 hf (fun w15 hf => ?_)
            refine j_aload_n (pc := 185) hX dX4_takes_185 rfl ?_
            refine mg_A (pc := 186) hX 16 (by decide) 15 1 rfl rfl (by decide) q2261 dX4_takes_186 ?_
            refine j_iload (pc := 189) hX dX4_takes_189 rfl ?_
            refine mr_I (pc := 191) hX 16 30 15 (by decide) rfl rfl rfl dX4_takes_191 hf (fun x16 hx_ hf => ?_)
            obtain ⟨x17, hm_, hf⟩ := zob hf
            have kj192 : zJ X 213 [some (vA (some b)), some (vI c1), some (vI c2), some (vI v3), some (vI v4), some (vI c5), some (vI v6), none] [vI x17] (zIj b u w15) := by
              clear hm_
              refine j_istore (pc := 213) hX dX4_takes_213 (by decide) [some (vA (some b)), some (vI c1), some (vI c2), some (vI v3), some (vI v4), some (vI c5), some (vI v6), some (vI x17)] rfl ?_
              refine j_iload (pc := 215) hX dX4_takes_215 rfl ?_
              refine j_iload (pc := 217) hX dX4_takes_217 rfl ?_
              refine j_isub (pc := 219) hX dX4_takes_219 ?_
              refine j_istore (pc := 220) hX dX4_takes_220 (by decide) [some (vA (some b)), some (vI c1), some (vI c2), some (vI v3), some (vI (v4 - x17)), some (vI c5), some (vI v6), some (vI x17)] rfl ?_
              refine j_iload_n (pc := 222) hX dX4_takes_222 rfl ?_
              refine j_aload_n (pc := 223) hX dX4_takes_223 rfl ?_
              refine mg_A (pc := 224) hX 16 (by decide) 15 1 rfl rfl (by decide) q2261 dX4_takes_224 ?_
              refine j_iload (pc := 227) hX dX4_takes_227 rfl ?_
              refine mr_I (pc := 229) hX 16 30 15 (by decide) rfl rfl rfl dX4_takes_229 hf (fun x18 hx_ hf => ?_)
              obtain ⟨x19, hm_, hf⟩ := zob hf
              have kj230 : zJ X 242 [some (vA (some b)), some (vI c1), some (vI c2), none, some (vI (v4 - x17)), some (vI c5), some (vI v6), none] [vI x19, vI v3] (zIj b u w15) := by
                clear hm_
                refine j_isub (pc := 242) hX dX4_takes_242 ?_
                refine j_istore_n (pc := 243) hX dX4_takes_243 (by decide) [some (vA (some b)), some (vI c1), some (vI c2), some (vI (v3 - x19)), some (vI (v4 - x17)), some (vI c5), some (vI v6), none] rfl ?_
                cases hf
                exact kj145
              have hf := hm_
              refine j_if_ne (pc := 230) hX 237 dX4_takes_230 rfl hf (fun h_ hf => ?_) (fun h_ hf => ?_)
              · refine j_bipush (pc := 237) hX (10 : Int32) dX4_takes_237 (by decide +kernel) ?_
                refine j_iload (pc := 239) hX dX4_takes_239 rfl ?_
                refine j_isub (pc := 241) hX dX4_takes_241 ?_
                refine j_fg [3, 7] [some (vA (some b)), some (vI c1), some (vI c2), none, some (vI (v4 - x17)), some (vI c5), some (vI v6), none] rfl ?_
                cases hf
                exact kj230
              · refine j_iconst (pc := 233) hX (0 : Int32) dX4_takes_233 rfl ?_
                refine j_goto (pc := 234) hX 242 dX4_takes_234 rfl ?_
                refine j_fg [3, 7] [some (vA (some b)), some (vI c1), some (vI c2), none, some (vI (v4 - x17)), some (vI c5), some (vI v6), none] rfl ?_
                cases hf
                exact kj230
            have hf := hm_
            refine j_if_ne (pc := 192) hX 199 dX4_takes_192 rfl hf (fun h_ hf => ?_) (fun h_ hf => ?_)
            · refine j_iload (pc := 199) hX dX4_takes_199 rfl ?_
              refine j_bipush (pc := 201) hX (10 : Int32) dX4_takes_201 (by decide +kernel) ?_
              refine j_icmp_ge (pc := 203) hX 211 dX4_takes_203 rfl hf (fun h_ hf => ?_) (fun h_ hf => ?_)
              · refine j_bipush (pc := 211) hX (10 : Int32) dX4_takes_211 (by decide +kernel) ?_
                cases hf
                exact kj192
              · refine j_iload (pc := 206) hX dX4_takes_206 rfl ?_
                refine j_goto (pc := 208) hX 213 dX4_takes_208 rfl ?_
                cases hf
                exact kj192
            · refine j_iconst (pc := 195) hX (0 : Int32) dX4_takes_195 rfl ?_
              refine j_goto (pc := 196) hX 213 dX4_takes_196 rfl ?_
              cases hf
              exact kj192
          have hf := hm_
          refine j_icmp_lt (pc := 176) hX 183 dX4_takes_176 rfl hf (fun h_ hf => ?_) (fun h_ hf => ?_)
          · refine j_iconst (pc := 183) hX (0 : Int32) dX4_takes_183 rfl ?_
            cases hf
            exact kj176
          · refine j_iconst (pc := 179) hX (1 : Int32) dX4_takes_179 rfl ?_
            refine j_goto (pc := 180) hX 184 dX4_takes_180 rfl ?_
            cases hf
            exact kj176
set_option maxHeartbeats 4000000 in
theorem lp_X4_takes_L8 {X : zX} {b : Nat} {u : zWd} (hX : zGd X RX4 cX4_takes 8 none 3) (n : Nat) (c1 : Int32) (c2 : Int32) : ∀ (k : Nat) (v3 : Int32) (v4 : Int32) (v5 : Int32) (w : zM) (w9 : zM) , f_X4_takes_L8 n c1 c2 k v3 v4 v5 w = some w9 → zJ X 256 [some (vA (some b)), some (vI c1), some (vI c2), none, none, none, none, none] [] (zIj b u w9) → zJ X 8 [some (vA (some b)), some (vI c1), some (vI c2), some (vI v3), some (vI v4), some (vI v5), none, none] [] (zIj b u w) := by
  intro k
  induction k with
  | zero => intro v3 v4 v5 w w9 hf _; exact nomatch (show (none : Option (zM)) = _ from hf)
  | succ k ih =>
    intro v3 v4 v5 w w9 hf kx
    have hf : f_X4_takes_L8b n c1 c2 (f_X4_takes_L8 n c1 c2 k) v3 v4 v5 w = _ := hf
    unfold f_X4_takes_L8b at hf
    refine j_iload (pc := 8) hX dX4_takes_8 rfl ?_
    refine j_sipush (pc := 10) hX (720 : Int32) dX4_takes_10 (by decide +kernel) ?_
    refine j_icmp_ge (pc := 13) hX 256 dX4_takes_13 rfl hf (fun h_ hf => ?_) (fun h_ hf => ?_)
    · refine j_fg [3, 4, 5] [some (vA (some b)), some (vI c1), some (vI c2), none, none, none, none, none] rfl ?_
      cases hf
      exact kx
    · refine j_iload_n (pc := 16) hX dX4_takes_16 rfl ?_
      refine j_iload (pc := 17) hX dX4_takes_17 rfl ?_
      refine j_bipush (pc := 19) hX (30 : Int32) dX4_takes_19 (by decide +kernel) ?_
      refine j_irem (pc := 21) hX dX4_takes_21 (by decide) ?_
      obtain ⟨x3, w4, hm_, hf⟩ := zB2_e hf
      have kj22 : zJ X 50 [some (vA (some b)), some (vI c1), some (vI c2), none, some (vI v4), some (vI v5), none, none] [vI x3, vI v3] (zIj b u w4) := by
        clear hm_
        refine j_iadd (pc := 50) hX dX4_takes_50 ?_
        refine j_istore_n (pc := 51) hX dX4_takes_51 (by decide) [some (vA (some b)), some (vI c1), some (vI c2), some (vI (v3 + x3)), some (vI v4), some (vI v5), none, none] rfl ?_
        refine j_iload (pc := 52) hX dX4_takes_52 rfl ?_
        refine j_sipush (pc := 54) hX (360 : Int32) dX4_takes_54 (by decide +kernel) ?_
        obtain ⟨x6, x7, hm_, hf⟩ := zB2_e hf
        have kj57 : zJ X 80 [some (vA (some b)), some (vI c1), some (vI c2), some (vI x6), some (vI x7), some (vI v5), none, none] [] (zIj b u w4) := by
          clear hm_
          refine j_iload (pc := 80) hX dX4_takes_80 rfl ?_
          refine j_bipush (pc := 82) hX (30 : Int32) dX4_takes_82 (by decide +kernel) ?_
          refine j_bipush (pc := 84) hX (12 : Int32) dX4_takes_84 (by decide +kernel) ?_
          refine j_aload_n (pc := 86) hX dX4_takes_86 rfl ?_
          refine mg_I (pc := 87) hX 20 (by decide) rfl q2265 dX4_takes_87 ?_
          refine j_iadd (pc := 90) hX dX4_takes_90 ?_
          refine j_imul (pc := 91) hX dX4_takes_91 ?_
          obtain ⟨x8, hm_, hf⟩ := zob hf
          have kj92 : zJ X 101 [some (vA (some b)), some (vI c1), some (vI c2), some (vI x6), none, some (vI v5), none, none] [vI x8] (zIj b u w4) := by
            clear hm_
            refine j_istore (pc := 101) hX dX4_takes_101 (by decide) [some (vA (some b)), some (vI c1), some (vI c2), some (vI x6), some (vI x8), some (vI v5), none, none] rfl ?_
            refine j_aload_n (pc := 103) hX dX4_takes_103 rfl ?_
            refine j_iload (pc := 104) hX dX4_takes_104 rfl ?_
            refine j_iload_n (pc := 106) hX dX4_takes_106 rfl ?_
            obtain ⟨x9, hm_, hf⟩ := zob hf
            have kj107 : zJ X 121 [some (vA (some b)), some (vI c1), some (vI c2), some (vI x6), some (vI x8), some (vI v5), none, none] [vI x9, vA (some b)] (zIj b u w4) := by
              clear hm_
              refine mp_I (pc := 121) hX 21 (by decide) rfl rfl q2266 dX4_takes_121 hf (fun w10 hf => ?_)
              refine j_iconst (pc := 124) hX (0 : Int32) dX4_takes_124 rfl ?_
              refine j_istore (pc := 125) hX dX4_takes_125 (by decide) [some (vA (some b)), some (vI c1), some (vI c2), some (vI x6), some (vI x8), some (vI v5), some (vI (0 : Int32)), none] rfl ?_
              obtain ⟨x23, x24, w25, hm_, hf⟩ := zB3_e hf
              refine lp_X4_takes_L127 hX n _ _ _ _ _ _ _ _ _ _ _ hm_ ?_
              refine j_iinc (pc := 250) hX (1) dX4_takes_250 rfl rfl (by decide) [some (vA (some b)), some (vI c1), some (vI c2), some (vI x23), some (vI x24), some (vI (v5 + (1))), none, none] rfl ?_
              refine j_goto (pc := 253) hX 8 dX4_takes_253 rfl ?_
              exact ih _ _ _ _ _ hf kx
            have hf := hm_
            refine j_icmp_ne (pc := 107) hX 117 dX4_takes_107 rfl hf (fun h_ hf => ?_) (fun h_ hf => ?_)
            · refine j_aload_n (pc := 117) hX dX4_takes_117 rfl ?_
              refine mg_I (pc := 118) hX 21 (by decide) rfl q2266 dX4_takes_118 ?_
              cases hf
              exact kj107
            · refine j_iload_n (pc := 110) hX dX4_takes_110 rfl ?_
              refine j_iload (pc := 111) hX dX4_takes_111 rfl ?_
              refine j_iadd (pc := 113) hX dX4_takes_113 ?_
              refine j_goto (pc := 114) hX 121 dX4_takes_114 rfl ?_
              cases hf
              exact kj107
          have hf := hm_
          refine j_icmp_ne (pc := 92) hX 99 dX4_takes_92 rfl hf (fun h_ hf => ?_) (fun h_ hf => ?_)
          · refine j_iload (pc := 99) hX dX4_takes_99 rfl ?_
            refine j_fg [4] [some (vA (some b)), some (vI c1), some (vI c2), some (vI x6), none, some (vI v5), none, none] rfl ?_
            cases hf
            exact kj92
          · refine j_iconst (pc := 95) hX (0 : Int32) dX4_takes_95 rfl ?_
            refine j_goto (pc := 96) hX 101 dX4_takes_96 rfl ?_
            refine j_fg [4] [some (vA (some b)), some (vI c1), some (vI c2), some (vI x6), none, some (vI v5), none, none] rfl ?_
            cases hf
            exact kj92
        have hf := hm_
        refine j_icmp_ne (pc := 57) hX 80 dX4_takes_57 rfl hf (fun h_ hf => ?_) (fun h_ hf => ?_)
        · cases hf
          exact kj57
        · refine j_iload_n (pc := 60) hX dX4_takes_60 rfl ?_
          refine j_aload_n (pc := 61) hX dX4_takes_61 rfl ?_
          refine mg_I (pc := 62) hX 19 (by decide) rfl q2264 dX4_takes_62 ?_
          obtain ⟨x5, hm_, hf⟩ := zob hf
          have kj65 : zJ X 76 [some (vA (some b)), some (vI c1), some (vI c2), none, none, some (vI v5), none, none] [vI x5] (zIj b u w4) := by
            clear hm_
            refine j_istore (pc := 76) hX dX4_takes_76 (by decide) [some (vA (some b)), some (vI c1), some (vI c2), none, some (vI x5), some (vI v5), none, none] rfl ?_
            refine j_iconst (pc := 78) hX (0 : Int32) dX4_takes_78 rfl ?_
            refine j_istore_n (pc := 79) hX dX4_takes_79 (by decide) [some (vA (some b)), some (vI c1), some (vI c2), some (vI (0 : Int32)), some (vI x5), some (vI v5), none, none] rfl ?_
            cases hf
            exact kj57
          have hf := hm_
          refine j_icmp_ge (pc := 65) hX 72 dX4_takes_65 rfl hf (fun h_ hf => ?_) (fun h_ hf => ?_)
          · refine j_aload_n (pc := 72) hX dX4_takes_72 rfl ?_
            refine mg_I (pc := 73) hX 19 (by decide) rfl q2264 dX4_takes_73 ?_
            refine j_fg [3, 4] [some (vA (some b)), some (vI c1), some (vI c2), none, none, some (vI v5), none, none] rfl ?_
            cases hf
            exact kj65
          · refine j_iload_n (pc := 68) hX dX4_takes_68 rfl ?_
            refine j_goto (pc := 69) hX 76 dX4_takes_69 rfl ?_
            refine j_fg [3, 4] [some (vA (some b)), some (vI c1), some (vI c2), none, none, some (vI v5), none, none] rfl ?_
            cases hf
            exact kj65
      have hf := hm_
      refine j_if_ne (pc := 22) hX 49 dX4_takes_22 rfl hf (fun h_ hf => ?_) (fun h_ hf => ?_)
      · refine j_iconst (pc := 49) hX (0 : Int32) dX4_takes_49 rfl ?_
        refine j_fg [3] [some (vA (some b)), some (vI c1), some (vI c2), none, some (vI v4), some (vI v5), none, none] rfl ?_
        cases hf
        exact kj22
      · refine j_iload (pc := 25) hX dX4_takes_25 rfl ?_
        refine j_if_le (pc := 27) hX 49 dX4_takes_27 rfl hf (fun h_ hf => ?_) (fun h_ hf => ?_)
        · refine j_iconst (pc := 49) hX (0 : Int32) dX4_takes_49 rfl ?_
          refine j_fg [3] [some (vA (some b)), some (vI c1), some (vI c2), none, some (vI v4), some (vI v5), none, none] rfl ?_
          cases hf
          exact kj22
        · refine j_aload_n (pc := 30) hX dX4_takes_30 rfl ?_
          refine j_iload_n (pc := 31) hX dX4_takes_31 rfl ?_
          refine j_iload (pc := 32) hX dX4_takes_32 rfl ?_
          refine j_iconst (pc := 34) hX (1 : Int32) dX4_takes_34 rfl ?_
          refine j_isub (pc := 35) hX dX4_takes_35 ?_
          obtain ⟨x2, w1, hc_, hf⟩ := zB2_e hf
          refine j_callV (pc := 36) hX (ci := 3) mt_X4_works q2547 q2549 qs41 (zIj_isC b u _) ⟨_, rfl, rfl⟩ [vI c1, vI (v5 - (1 : Int32))] rfl rfl (Nat.le_of_ble_eq_true rfl) (by decide) dX4_takes_36 (k_X4_works _ _ hc_) ?_
          refine j_if_eq (pc := 39) hX 49 dX4_takes_39 rfl hf (fun h_ hf => ?_) (fun h_ hf => ?_)
          · refine j_iconst (pc := 49) hX (0 : Int32) dX4_takes_49 rfl ?_
            refine j_fg [3] [some (vA (some b)), some (vI c1), some (vI c2), none, some (vI v4), some (vI v5), none, none] rfl ?_
            cases hf
            exact kj22
          · refine j_aload_n (pc := 42) hX dX4_takes_42 rfl ?_
            refine mg_I (pc := 43) hX 18 (by decide) rfl q2263 dX4_takes_43 ?_
            refine j_goto (pc := 46) hX 50 dX4_takes_46 rfl ?_
            refine j_fg [3] [some (vA (some b)), some (vI c1), some (vI c2), none, some (vI v4), some (vI v5), none, none] rfl ?_
            cases hf
            exact kj22
set_option maxHeartbeats 4000000 in
theorem k_X4_takes {l : Launch} {n : Nat} {a1 : Int32} {a2 : Int32} {b : Nat} {u : zWd} {w : zM} (r : Unit) (w9 : zM) (hf : f_X4_takes n a1 a2 w = some w9) : zCt l yX4_takes cX4_takes 8 none 3 [vA (some b), vI a1, vI a2] (zIj b u w) (.inr (none, (zIj b u w9))) := by
  refine zCt_of (lv := [some (vA (some b)), some (vI a1), some (vI a2), none, none, none, none, none]) (by decide +kernel) 5 rfl rfl ?_
  intro X hX hI hN hQ
  have hX : zGd X RX4 cX4_takes 8 none 3 := hX
  unfold f_X4_takes at hf
  refine j_iconst (pc := 0) hX (0 : Int32) dX4_takes_0 rfl ?_
  refine j_istore_n (pc := 1) hX dX4_takes_1 (by decide) [some (vA (some b)), some (vI a1), some (vI a2), some (vI (0 : Int32)), none, none, none, none] rfl ?_
  refine j_iconst (pc := 2) hX (0 : Int32) dX4_takes_2 rfl ?_
  refine j_istore (pc := 3) hX dX4_takes_3 (by decide) [some (vA (some b)), some (vI a1), some (vI a2), some (vI (0 : Int32)), some (vI (0 : Int32)), none, none, none] rfl ?_
  refine j_iconst (pc := 5) hX (0 : Int32) dX4_takes_5 rfl ?_
  refine j_istore (pc := 6) hX dX4_takes_6 (by decide) [some (vA (some b)), some (vI a1), some (vI a2), some (vI (0 : Int32)), some (vI (0 : Int32)), some (vI (0 : Int32)), none, none] rfl ?_
  obtain ⟨w26, hm_, hf⟩ := zob hf
  refine lp_X4_takes_L8 hX n _ _ _ _ _ _ _ _ hm_ ?_
  exact j_return (pc := 256) hX hQ (by cases hf; rfl) dX4_takes_256
def f_X4_down (n : Nat) (a1 : Int64) (a2 : Int64) (w : zM) : Option (Int64 × zM) :=
  if a2 = (0 : Int64) then none else
  if a2 = (0 : Int64) then none else
  (
    if (0 : Int32) ≤ (lg_cmp (a1 - a1 / a2 * a2) (0 : Int64)) then
      some (a1 / a2)
    else
      some ((a1 / a2) - (1 : Int64))
    ).bind fun x1 =>
  some (x1, w)
theorem mt_X4_down : zMt yX4_down cX4_down 7 (some .long) 2 := ⟨q2563, q82, ⟨by decide, by decide⟩, by decide +kernel, by decide⟩
set_option maxHeartbeats 4000000 in
theorem k_X4_down {l : Launch} {n : Nat} {a1 : Int64} {a2 : Int64} {b : Nat} {u : zWd} {w : zM} (r : Int64) (w9 : zM) (hf : f_X4_down n a1 a2 w = some (r, w9)) : zCt l yX4_down cX4_down 7 (some .long) 1 [vA (some b), vL a1, vL a2] (zIj b u w) (.inr (some (vL r), (zIj b u w9))) := by
  refine zCt_of (lv := [some (vA (some b)), some (vL a1), none, some (vL a2), none, none, none]) (by decide +kernel) 2 rfl rfl ?_
  intro X hX hI hN hQ
  have hX : zGd X RX4 cX4_down 7 (some .long) 1 := hX
  unfold f_X4_down at hf
  refine j_lload_n (pc := 0) hX dX4_down_0 rfl ?_
  refine j_lload_n (pc := 1) hX dX4_down_1 rfl ?_
  obtain ⟨hne_, hf⟩ := zGd_e hf
  refine j_ldiv (pc := 2) hX dX4_down_2 hne_ ?_
  refine j_lstore (pc := 3) hX dX4_down_3 (by decide) [some (vA (some b)), some (vL a1), none, some (vL a2), none, some (vL (a1 / a2)), none] rfl ?_
  refine j_lload_n (pc := 5) hX dX4_down_5 rfl ?_
  refine j_lload_n (pc := 6) hX dX4_down_6 rfl ?_
  obtain ⟨hne_, hf⟩ := zGd_e hf
  refine j_lrem (pc := 7) hX dX4_down_7 hne_ ?_
  refine j_lconst (pc := 8) hX (0 : Int64) dX4_down_8 rfl ?_
  refine j_lcmp (pc := 9) hX dX4_down_9 ?_
  obtain ⟨x1, hm_, hf⟩ := zob hf
  have kj10 : zJ X 22 [none, none, none, none, none, none, none] [vL x1] (zIj b u w) := by
    clear hm_
    exact j_lreturn (pc := 22) hX hQ (by cases hf; rfl) dX4_down_22
  have hf := hm_
  refine j_if_ge (pc := 10) hX 20 dX4_down_10 rfl hf (fun h_ hf => ?_) (fun h_ hf => ?_)
  · refine j_lload (pc := 20) hX dX4_down_20 rfl ?_
    refine j_fg [0, 1, 3, 5] [none, none, none, none, none, none, none] rfl ?_
    cases hf
    exact kj10
  · refine j_lload (pc := 13) hX dX4_down_13 rfl ?_
    refine j_lconst (pc := 15) hX (1 : Int64) dX4_down_15 rfl ?_
    refine j_lsub (pc := 16) hX dX4_down_16 ?_
    refine j_goto (pc := 17) hX 22 dX4_down_17 rfl ?_
    refine j_fg [0, 1, 3, 5] [none, none, none, none, none, none, none] rfl ?_
    cases hf
    exact kj10
