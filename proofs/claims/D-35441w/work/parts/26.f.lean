set_option maxRecDepth 100000
def f_X18_init (n : Nat) (a0 : Option Nat) (a1 : Int32) (a2 : Int32) (a3 : Int64) (w : zWd) : Option zWd :=
  if a0 = none then none else
  (pI w 17 0 a0 a1).bind fun w1 =>
  (pI w1 17 1 a0 a2).bind fun w2 =>
  (pL w2 17 2 a0 a3).bind fun w3 =>
  some w3
theorem mt_X18_init : zMt yX18_init cX18_init 5 none 3 := ⟨q2186, q117, ⟨by decide, by decide⟩, by decide +kernel, by decide⟩
set_option maxHeartbeats 4000000 in
theorem k_X18_init {l : Launch} {n : Nat} {a0 : Option Nat} {a1 : Int32} {a2 : Int32} {a3 : Int64} {w : zWd} (r : Unit) (w9 : zWd) (hf : f_X18_init n a0 a1 a2 a3 w = some w9) : zCt l yX18_init cX18_init 5 none 1 [vA a0, vI a1, vI a2, vL a3] w (.inr (none, w9)) := by
  refine zCt_of (lv := [some (vA a0), some (vI a1), some (vI a2), some (vL a3), none]) (by decide +kernel) 0 rfl rfl ?_
  intro X hX hI hN hQ
  have hX : zGd X RX18 cX18_init 5 none 1 := hX
  unfold f_X18_init at hf
  refine j_aload_n (pc := 0) hX dX18_init_0 rfl ?_
  obtain ⟨hne_, hf⟩ := zGd_e hf
  refine j_objInit (pc := 1) hX (by decide) q2187 q124 q125 (by rw [zCs_eq]; exact Nat.le_of_ble_eq_true rfl) dX18_init_1 hne_ ?_
  refine j_aload_n (pc := 4) hX dX18_init_4 rfl ?_
  refine j_iload_n (pc := 5) hX dX18_init_5 rfl ?_
  refine j_putIF (pc := 6) hX hI kX18 (k := 0) (Nat.le_of_ble_eq_true rfl) q2188 rfl rfl rfl rfl dX18_init_6 hf (fun w1 hf => ?_)
  refine j_aload_n (pc := 9) hX dX18_init_9 rfl ?_
  refine j_iload_n (pc := 10) hX dX18_init_10 rfl ?_
  refine j_putIF (pc := 11) hX hI kX18 (k := 1) (Nat.le_of_ble_eq_true rfl) q2190 rfl rfl rfl rfl dX18_init_11 hf (fun w2 hf => ?_)
  refine j_aload_n (pc := 14) hX dX18_init_14 rfl ?_
  refine j_lload_n (pc := 15) hX dX18_init_15 rfl ?_
  refine j_putLF (pc := 16) hX hI kX18 (k := 2) (Nat.le_of_ble_eq_true rfl) q2192 rfl rfl rfl rfl dX18_init_16 hf (fun w3 hf => ?_)
  exact j_return (pc := 19) hX hQ (by cases hf; rfl) dX18_init_19
def f_X1_close_L120b (n : Nat) (c0 : Option Nat) (c1 : Int32) (c2 : Option Nat) (c3 : Int32) (c4 : Option Nat) (c7 : Int32) (rec : Int32 → zWd → Option (zWd)) (v8 : Int32) (w : zWd) : Option (zWd) :=
  if (3 : Int32) ≤ v8 then
    some w
  else
    (aA w c2 v8).bind fun x26 =>
    (aA w x26 c7).bind fun x27 =>
    (aL w x27 (0 : Int32)).bind fun x28 =>
    (gA w 13 5 c4).bind fun x29 =>
    (aL w x29 ((c7 * (3 : Int32)) + v8)).bind fun x30 =>
    (sL w x27 (0 : Int32) (x28 + x30)).bind fun w31 =>
    (aA w31 c2 v8).bind fun x32 =>
    (aA w31 x32 c7).bind fun x33 =>
    (aL w31 x33 (1 : Int32)).bind fun x34 =>
    (gA w31 13 6 c4).bind fun x35 =>
    (aL w31 x35 ((c7 * (3 : Int32)) + v8)).bind fun x36 =>
    (sL w31 x33 (1 : Int32) (x34 + x36)).bind fun w37 =>
    rec (v8 + (1)) w37
def f_X1_close_L120 (n : Nat) (c0 : Option Nat) (c1 : Int32) (c2 : Option Nat) (c3 : Int32) (c4 : Option Nat) (c7 : Int32) : Nat → Int32 → zWd → Option (zWd)
  | 0, _, _ => none
  | k + 1, v8, w => f_X1_close_L120b n c0 c1 c2 c3 c4 c7 (f_X1_close_L120 n c0 c1 c2 c3 c4 c7 k) v8 w
def f_X1_close_L108b (n : Nat) (c0 : Option Nat) (c1 : Int32) (c2 : Option Nat) (c3 : Int32) (c4 : Option Nat) (rec : Int32 → zWd → Option (zWd)) (v7 : Int32) (w : zWd) : Option (zWd) :=
  (gI w 0 17 c0).bind fun x25 =>
  if x25 < v7 then
    some w
  else
    (f_X1_close_L120 n c0 c1 c2 c3 c4 v7 n (0 : Int32) w).bind fun w38 =>
    rec (v7 + (1)) w38
def f_X1_close_L108 (n : Nat) (c0 : Option Nat) (c1 : Int32) (c2 : Option Nat) (c3 : Int32) (c4 : Option Nat) : Nat → Int32 → zWd → Option (zWd)
  | 0, _, _ => none
  | k + 1, v7, w => f_X1_close_L108b n c0 c1 c2 c3 c4 (f_X1_close_L108 n c0 c1 c2 c3 c4 k) v7 w
def f_X1_close_L38b (n : Nat) (c0 : Option Nat) (c1 : Int32) (c2 : Option Nat) (rec : Int32 → zWd → Option (zWd)) (v3 : Int32) (w : zWd) : Option (zWd) :=
  if (6 : Int32) ≤ v3 then
    some w
  else
    zB2 (zNew w 18 (.inr (13, df_X14))) fun x9 w10 =>
    (zV (decide (x9 ≠ none)) (f_X14_init n x9 c0 v3 w10)).bind fun w11 =>
    (gI w11 0 17 c0).bind fun x12 =>
    zB2 (zV (isC w11 13 x9) (f_X14_payouts n x9 (x12 + (1 : Int32)) w11)) fun x14 w13 =>
    zB2 (zV (isC w13 0 c0) (f_X1_paidTo n c0 v3 w13)) fun x16 w15 =>
    (
      if (lg_cmp (x14 - x16) (0 : Int64)) ≤ (0 : Int32) then
        some w15
      else
        (gA w15 0 16 c0).bind fun x17 =>
        zB2 (zNew w15 4 (.inr (17, df_X18))) fun x18 w19 =>
        (gI w19 0 17 c0).bind fun x20 =>
        (zV (decide (x18 ≠ none)) (f_X18_init n x18 v3 x20 (x14 - x16) w19)).bind fun w21 =>
        zB2 (zV (isC w21 18 x17) (f_J2_add n x17 x18 w21)) fun x23 w22 =>
        some w22
      ).bind fun w24 =>
    (f_X1_close_L108 n c0 c1 c2 v3 x9 n (0 : Int32) w24).bind fun w39 =>
    rec (v3 + (1)) w39
def f_X1_close_L38 (n : Nat) (c0 : Option Nat) (c1 : Int32) (c2 : Option Nat) : Nat → Int32 → zWd → Option (zWd)
  | 0, _, _ => none
  | k + 1, v3, w => f_X1_close_L38b n c0 c1 c2 (f_X1_close_L38 n c0 c1 c2 k) v3 w
def f_X1_close_L204b (n : Nat) (c0 : Option Nat) (c1 : Int32) (c2 : Option Nat) (c3 : Int32) (rec : Int32 → zWd → Option (zWd)) (v4 : Int32) (w : zWd) : Option (zWd) :=
  (gI w 0 17 c0).bind fun x41 =>
  if x41 < v4 then
    some w
  else
    (gA w 0 18 c0).bind fun x42 =>
    (aA w x42 c3).bind fun x43 =>
    (aA w x43 v4).bind fun x44 =>
    (aL w x44 (0 : Int32)).bind fun x45 =>
    (aA w c2 c3).bind fun x46 =>
    (aA w x46 v4).bind fun x47 =>
    (aL w x47 (0 : Int32)).bind fun x48 =>
    (
      if (lg_cmp x45 x48) = (0 : Int32) then
        (aL w x44 (1 : Int32)).bind fun x49 =>
        (aA w c2 c3).bind fun x50 =>
        (aA w x50 v4).bind fun x51 =>
        (aL w x51 (1 : Int32)).bind fun x52 =>
        if (lg_cmp x49 x52) = (0 : Int32) then
          some (0 : Int32)
        else
          some (1 : Int32)
      else
        some (1 : Int32)
      ).bind fun x53 =>
    (gA w 0 19 c0).bind fun x54 =>
    (aA w x54 c3).bind fun x55 =>
    (aI w x55 v4).bind fun x56 =>
    (gI w 0 17 c0).bind fun x57 =>
    (
      if x57 ≤ v4 then
        some (0 : Int32)
      else
        if x53 = (0 : Int32) then
          some (0 : Int32)
        else
          some (1 : Int32)
      ).bind fun x58 =>
    (sI w x55 v4 (x56 + x58)).bind fun w59 =>
    (gA w59 0 18 c0).bind fun x60 =>
    (aA w59 x60 c3).bind fun x61 =>
    (aA w59 c2 c3).bind fun x62 =>
    (aA w59 x62 v4).bind fun x63 =>
    (sA w59 x61 v4 x63).bind fun w64 =>
    rec (v4 + (1)) w64
def f_X1_close_L204 (n : Nat) (c0 : Option Nat) (c1 : Int32) (c2 : Option Nat) (c3 : Int32) : Nat → Int32 → zWd → Option (zWd)
  | 0, _, _ => none
  | k + 1, v4, w => f_X1_close_L204b n c0 c1 c2 c3 (f_X1_close_L204 n c0 c1 c2 c3 k) v4 w
def f_X1_close_L196b (n : Nat) (c0 : Option Nat) (c1 : Int32) (c2 : Option Nat) (rec : Int32 → zWd → Option (zWd)) (v3 : Int32) (w : zWd) : Option (zWd) :=
  if (3 : Int32) ≤ v3 then
    some w
  else
    (f_X1_close_L204 n c0 c1 c2 v3 n (0 : Int32) w).bind fun w65 =>
    rec (v3 + (1)) w65
def f_X1_close_L196 (n : Nat) (c0 : Option Nat) (c1 : Int32) (c2 : Option Nat) : Nat → Int32 → zWd → Option (zWd)
  | 0, _, _ => none
  | k + 1, v3, w => f_X1_close_L196b n c0 c1 c2 (f_X1_close_L196 n c0 c1 c2 k) v3 w
def f_X1_close (n : Nat) (a0 : Option Nat) (w : zWd) : Option ((String ⊕ Int32) × zWd) :=
  (gI w 0 17 a0).bind fun x1 =>
  (
    if (24 : Int32) ≤ x1 then
      some (0 : Int32)
    else
      some (1 : Int32)
    ).bind fun x2 =>
  zBX (f_X1_must n x2 w) fun _u w3 =>
  (gA w3 0 16 a0).bind fun x4 =>
  zB2 (zV (isC w3 18 x4) (f_J2_size n x4 w3)) fun x6 w5 =>
  zB2 (nML3 w5 (3 : Int32) (24 : Int32) (2 : Int32)) fun x7 w8 =>
  (f_X1_close_L38 n a0 x6 x7 n (0 : Int32) w8).bind fun w40 =>
  (f_X1_close_L196 n a0 x6 x7 n (0 : Int32) w40).bind fun w66 =>
  (gI w66 0 17 a0).bind fun x67 =>
  (pI w66 0 17 a0 (x67 + (1 : Int32))).bind fun w68 =>
  (gA w68 0 16 a0).bind fun x69 =>
  zB2 (zV (isC w68 18 x69) (f_J2_size n x69 w68)) fun x71 w70 =>
  some (.inr (x71 - x6), w70)
theorem mt_X1_close : zMt yX1_close cX1_close 9 (some .int) 0 := ⟨q2173, q66, ⟨by decide, by decide⟩, by decide +kernel, by decide⟩
set_option maxHeartbeats 4000000 in
theorem lp_X1_close_L120 {X : zX} (hX : zGd X RX1 cX1_close 9 (some .int) 12) (n : Nat) (c0 : Option Nat) (c1 : Int32) (c2 : Option Nat) (c3 : Int32) (c4 : Option Nat) (c7 : Int32) : ∀ (k : Nat) (v8 : Int32) (w : zWd) (w9 : zWd) , f_X1_close_L120 n c0 c1 c2 c3 c4 c7 k v8 w = some w9 → zJ X 182 [some (vA c0), some (vI c1), some (vA c2), some (vI c3), some (vA c4), none, none, some (vI c7), none] [] w9 → zJ X 120 [some (vA c0), some (vI c1), some (vA c2), some (vI c3), some (vA c4), none, none, some (vI c7), some (vI v8)] [] w := by
  intro k
  induction k with
  | zero => intro v8 w w9 hf _; exact nomatch (show (none : Option (zWd)) = _ from hf)
  | succ k ih =>
    intro v8 w w9 hf kx
    have hf : f_X1_close_L120b n c0 c1 c2 c3 c4 c7 (f_X1_close_L120 n c0 c1 c2 c3 c4 c7 k) v8 w = _ := hf
    unfold f_X1_close_L120b at hf
    refine j_iload (pc := 120) hX dX1_close_120 rfl ?_
    refine j_iconst (pc := 122) hX (3 : Int32) dX1_close_122 rfl ?_
    refine j_icmp_ge (pc := 123) hX 182 dX1_close_123 rfl hf (fun h_ hf => ?_) (fun h_ hf => ?_)
    · refine j_fg [8] [some (vA c0), some (vI c1), some (vA c2), some (vI c3), some (vA c4), none, none, some (vI c7), none] rfl ?_
      cases hf
      exact kx
    · refine j_aload_n (pc := 126) hX dX1_close_126 rfl ?_
      refine j_iload (pc := 127) hX dX1_close_127 rfl ?_
      refine j_aaload (pc := 129) hX dX1_close_129 hf (fun x26 hx_ hf => ?_)
      refine j_iload (pc := 130) hX dX1_close_130 rfl ?_
      refine j_aaload (pc := 132) hX dX1_close_132 hf (fun x27 hx_ hf => ?_)
      refine j_iconst (pc := 133) hX (0 : Int32) dX1_close_133 rfl ?_
      refine j_dup2 (pc := 134) hX rfl rfl dX1_close_134 ?_
      refine j_laload (pc := 135) hX dX1_close_135 hf (fun x28 hx_ hf => ?_)
      refine j_aload (pc := 136) hX dX1_close_136 rfl ?_
      refine j_getAN (pc := 138) hX kX14 (k := 5) (Nat.le_of_ble_eq_true rfl) q1961 rfl dX1_close_138 hf (fun x29 hx_ hf => ?_)
      refine j_iload (pc := 141) hX dX1_close_141 rfl ?_
      refine j_iconst (pc := 143) hX (3 : Int32) dX1_close_143 rfl ?_
      refine j_imul (pc := 144) hX dX1_close_144 ?_
      refine j_iload (pc := 145) hX dX1_close_145 rfl ?_
      refine j_iadd (pc := 147) hX dX1_close_147 ?_
      refine j_laload (pc := 148) hX dX1_close_148 hf (fun x30 hx_ hf => ?_)
      refine j_ladd (pc := 149) hX dX1_close_149 ?_
      refine j_lastore (pc := 150) hX dX1_close_150 hf (fun w31 hf => ?_)
      refine j_aload_n (pc := 151) hX dX1_close_151 rfl ?_
      refine j_iload (pc := 152) hX dX1_close_152 rfl ?_
      refine j_aaload (pc := 154) hX dX1_close_154 hf (fun x32 hx_ hf => ?_)
      refine j_iload (pc := 155) hX dX1_close_155 rfl ?_
      refine j_aaload (pc := 157) hX dX1_close_157 hf (fun x33 hx_ hf => ?_)
      refine j_iconst (pc := 158) hX (1 : Int32) dX1_close_158 rfl ?_
      refine j_dup2 (pc := 159) hX rfl rfl dX1_close_159 ?_
      refine j_laload (pc := 160) hX dX1_close_160 hf (fun x34 hx_ hf => ?_)
      refine j_aload (pc := 161) hX dX1_close_161 rfl ?_
      refine j_getAN (pc := 163) hX kX14 (k := 6) (Nat.le_of_ble_eq_true rfl) q1963 rfl dX1_close_163 hf (fun x35 hx_ hf => ?_)
      refine j_iload (pc := 166) hX dX1_close_166 rfl ?_
      refine j_iconst (pc := 168) hX (3 : Int32) dX1_close_168 rfl ?_
      refine j_imul (pc := 169) hX dX1_close_169 ?_
      refine j_iload (pc := 170) hX dX1_close_170 rfl ?_
      refine j_iadd (pc := 172) hX dX1_close_172 ?_
      refine j_laload (pc := 173) hX dX1_close_173 hf (fun x36 hx_ hf => ?_)
      refine j_ladd (pc := 174) hX dX1_close_174 ?_
      refine j_lastore (pc := 175) hX dX1_close_175 hf (fun w37 hf => ?_)
      refine j_iinc (pc := 176) hX (1) dX1_close_176 rfl rfl (by decide) [some (vA c0), some (vI c1), some (vA c2), some (vI c3), some (vA c4), none, none, some (vI c7), some (vI (v8 + (1)))] rfl ?_
      refine j_goto (pc := 179) hX 120 dX1_close_179 rfl ?_
      exact ih _ _ _ hf kx
set_option maxHeartbeats 4000000 in
theorem lp_X1_close_L108 {X : zX} (hX : zGd X RX1 cX1_close 9 (some .int) 12) (n : Nat) (c0 : Option Nat) (c1 : Int32) (c2 : Option Nat) (c3 : Int32) (c4 : Option Nat) : ∀ (k : Nat) (v7 : Int32) (w : zWd) (w9 : zWd) , f_X1_close_L108 n c0 c1 c2 c3 c4 k v7 w = some w9 → zJ X 188 [some (vA c0), some (vI c1), some (vA c2), some (vI c3), some (vA c4), none, none, none, none] [] w9 → zJ X 108 [some (vA c0), some (vI c1), some (vA c2), some (vI c3), some (vA c4), none, none, some (vI v7), none] [] w := by
  intro k
  induction k with
  | zero => intro v7 w w9 hf _; exact nomatch (show (none : Option (zWd)) = _ from hf)
  | succ k ih =>
    intro v7 w w9 hf kx
    have hf : f_X1_close_L108b n c0 c1 c2 c3 c4 (f_X1_close_L108 n c0 c1 c2 c3 c4 k) v7 w = _ := hf
    unfold f_X1_close_L108b at hf
    refine j_iload (pc := 108) hX dX1_close_108 rfl ?_
    refine j_aload_n (pc := 110) hX dX1_close_110 rfl ?_
    refine j_getI (pc := 111) hX kX1 (k := 17) (Nat.le_of_ble_eq_true rfl) q360 (Or.inl rfl) dX1_close_111 hf (fun x25 hx_ hf => ?_)
    refine j_icmp_gt (pc := 114) hX 188 dX1_close_114 rfl hf (fun h_ hf => ?_) (fun h_ hf => ?_)
    · refine j_fg [7] [some (vA c0), some (vI c1), some (vA c2), some (vI c3), some (vA c4), none, none, none, none] rfl ?_
      cases hf
      exact kx
    · refine j_iconst (pc := 117) hX (0 : Int32) dX1_close_117 rfl ?_
      refine j_istore (pc := 118) hX dX1_close_118 (by decide) [some (vA c0), some (vI c1), some (vA c2), some (vI c3), some (vA c4), none, none, some (vI v7), some (vI (0 : Int32))] rfl ?_
      obtain ⟨w38, hm_, hf⟩ := zob hf
      refine lp_X1_close_L120 hX n _ _ _ _ _ _ _ _ _ _ hm_ ?_
      refine j_iinc (pc := 182) hX (1) dX1_close_182 rfl rfl (by decide) [some (vA c0), some (vI c1), some (vA c2), some (vI c3), some (vA c4), none, none, some (vI (v7 + (1))), none] rfl ?_
      refine j_goto (pc := 185) hX 108 dX1_close_185 rfl ?_
      exact ih _ _ _ hf kx
set_option maxHeartbeats 4000000 in
theorem lp_X1_close_L38 {X : zX} (hX : zGd X RX1 cX1_close 9 (some .int) 12) (n : Nat) (c0 : Option Nat) (c1 : Int32) (c2 : Option Nat) : ∀ (k : Nat) (v3 : Int32) (w : zWd) (w9 : zWd) , f_X1_close_L38 n c0 c1 c2 k v3 w = some w9 → zJ X 194 [some (vA c0), some (vI c1), some (vA c2), none, none, none, none, none, none] [] w9 → zJ X 38 [some (vA c0), some (vI c1), some (vA c2), some (vI v3), none, none, none, none, none] [] w := by
  intro k
  induction k with
  | zero => intro v3 w w9 hf _; exact nomatch (show (none : Option (zWd)) = _ from hf)
  | succ k ih =>
    intro v3 w w9 hf kx
    have hf : f_X1_close_L38b n c0 c1 c2 (f_X1_close_L38 n c0 c1 c2 k) v3 w = _ := hf
    unfold f_X1_close_L38b at hf
    refine j_iload_n (pc := 38) hX dX1_close_38 rfl ?_
    refine j_bipush (pc := 39) hX (6 : Int32) dX1_close_39 (by decide +kernel) ?_
    refine j_icmp_ge (pc := 41) hX 194 dX1_close_41 rfl hf (fun h_ hf => ?_) (fun h_ hf => ?_)
    · refine j_fg [3] [some (vA c0), some (vI c1), some (vA c2), none, none, none, none, none, none] rfl ?_
      cases hf
      exact kx
    · refine j_new (pc := 44) hX kX14 q1580 q1581 q111 df_X14 df_X14_ok dX1_close_44 hf (fun x9 w10 hf => ?_)
      refine j_dup (pc := 47) hX rfl dX1_close_47 ?_
      refine j_aload_n (pc := 48) hX dX1_close_48 rfl ?_
      refine j_iload_n (pc := 49) hX dX1_close_49 rfl ?_
      obtain ⟨w11, hc_, hf⟩ := zob hf
      obtain ⟨hi_, hc_⟩ := zV_e hc_
      refine j_callI (pc := 50) hX mt_X14_init q1582 q1583 rfl rfl [vA c0, vI v3] rfl rfl (Nat.le_of_ble_eq_true rfl) (by decide) dX1_close_50 (of_decide_eq_true hi_) (k_X14_init () _ hc_) ?_
      refine j_astore (pc := 53) hX dX1_close_53 (by decide) [some (vA c0), some (vI c1), some (vA c2), some (vI v3), some (vA x9), none, none, none, none] rfl ?_
      refine j_aload (pc := 55) hX dX1_close_55 rfl ?_
      refine j_aload_n (pc := 57) hX dX1_close_57 rfl ?_
      refine j_getI (pc := 58) hX kX1 (k := 17) (Nat.le_of_ble_eq_true rfl) q360 (Or.inl rfl) dX1_close_58 hf (fun x12 hx_ hf => ?_)
      refine j_iconst (pc := 61) hX (1 : Int32) dX1_close_61 rfl ?_
      refine j_iadd (pc := 62) hX dX1_close_62 ?_
      obtain ⟨x14, w13, hc_, hf⟩ := zB2_e hf
      obtain ⟨hi_, hc_⟩ := zV_e hc_
      refine j_callV (pc := 63) hX (ci := 13) mt_X14_payouts q2174 q2175 q2176 hi_ ⟨_, rfl, rfl⟩ [vI (x12 + (1 : Int32))] rfl rfl (Nat.le_of_ble_eq_true rfl) (by decide) dX1_close_63 (k_X14_payouts _ _ hc_) ?_
      refine j_aload_n (pc := 66) hX dX1_close_66 rfl ?_
      refine j_iload_n (pc := 67) hX dX1_close_67 rfl ?_
      obtain ⟨x16, w15, hc_, hf⟩ := zB2_e hf
      obtain ⟨hi_, hc_⟩ := zV_e hc_
      refine j_callV (pc := 68) hX (ci := 0) mt_X1_paidTo q2178 q2180 qs27 hi_ ⟨_, rfl, rfl⟩ [vI v3] rfl rfl (Nat.le_of_ble_eq_true rfl) (by decide) dX1_close_68 (k_X1_paidTo _ _ hc_) ?_
      refine j_lsub (pc := 71) hX dX1_close_71 ?_
      refine j_lstore (pc := 72) hX dX1_close_72 (by decide) [some (vA c0), some (vI c1), some (vA c2), some (vI v3), some (vA x9), some (vL (x14 - x16)), none, none, none] rfl ?_
      refine j_lload (pc := 74) hX dX1_close_74 rfl ?_
      refine j_lconst (pc := 76) hX (0 : Int64) dX1_close_76 rfl ?_
      refine j_lcmp (pc := 77) hX dX1_close_77 ?_
      obtain ⟨w24, hm_, hf⟩ := zob hf
      have kj78 : zJ X 105 [some (vA c0), some (vI c1), some (vA c2), some (vI v3), some (vA x9), none, none, none, none] [] w24 := by
        clear hm_
        refine j_iconst (pc := 105) hX (0 : Int32) dX1_close_105 rfl ?_
        refine j_istore (pc := 106) hX dX1_close_106 (by decide) [some (vA c0), some (vI c1), some (vA c2), some (vI v3), some (vA x9), none, none, some (vI (0 : Int32)), none] rfl ?_
        obtain ⟨w39, hm_, hf⟩ := zob hf
        refine lp_X1_close_L108 hX n _ _ _ _ _ _ _ _ _ hm_ ?_
        refine j_iinc (pc := 188) hX (1) dX1_close_188 rfl rfl (by decide) [some (vA c0), some (vI c1), some (vA c2), some (vI (v3 + (1))), some (vA x9), none, none, none, none] rfl ?_
        refine j_goto (pc := 191) hX 38 dX1_close_191 rfl ?_
        refine j_fg [4] [some (vA c0), some (vI c1), some (vA c2), some (vI (v3 + (1))), none, none, none, none, none] rfl ?_
        exact ih _ _ _ hf kx
      have hf := hm_
      refine j_if_le (pc := 78) hX 105 dX1_close_78 rfl hf (fun h_ hf => ?_) (fun h_ hf => ?_)
      · refine j_fg [5] [some (vA c0), some (vI c1), some (vA c2), some (vI v3), some (vA x9), none, none, none, none] rfl ?_
        cases hf
        exact kj78
      · refine j_aload_n (pc := 81) hX dX1_close_81 rfl ?_
        refine j_getA (pc := 82) hX kX1 (k := 16) (Nat.le_of_ble_eq_true rfl) q359 (Or.inl rfl) dX1_close_82 hf (fun x17 hx_ hf => ?_)
        refine j_new (pc := 85) hX kX18 q2182 q2183 q117 df_X18 df_X18_ok dX1_close_85 hf (fun x18 w19 hf => ?_)
        refine j_dup (pc := 88) hX rfl dX1_close_88 ?_
        refine j_iload_n (pc := 89) hX dX1_close_89 rfl ?_
        refine j_aload_n (pc := 90) hX dX1_close_90 rfl ?_
        refine j_getI (pc := 91) hX kX1 (k := 17) (Nat.le_of_ble_eq_true rfl) q360 (Or.inl rfl) dX1_close_91 hf (fun x20 hx_ hf => ?_)
        refine j_lload (pc := 94) hX dX1_close_94 rfl ?_
        obtain ⟨w21, hc_, hf⟩ := zob hf
        obtain ⟨hi_, hc_⟩ := zV_e hc_
        refine j_callI (pc := 96) hX mt_X18_init q2184 q2185 rfl rfl [vI v3, vI x20, vL (x14 - x16)] rfl rfl (Nat.le_of_ble_eq_true rfl) (by decide) dX1_close_96 (of_decide_eq_true hi_) (k_X18_init () _ hc_) ?_
        obtain ⟨x23, w22, hc_, hf⟩ := zB2_e hf
        obtain ⟨hi_, hc_⟩ := zV_e hc_
        refine j_callF (pc := 99) hX (ci := 18) mt_J2_add q226 q232 q230 (by decide +kernel) rfl hi_ ⟨_, rfl, rfl⟩ [vA x18] rfl rfl (Nat.le_of_ble_eq_true rfl) (by decide) dX1_close_99 (k_J2_add _ _ hc_) ?_
        refine j_pop (pc := 104) hX rfl dX1_close_104 ?_
        refine j_fg [5] [some (vA c0), some (vI c1), some (vA c2), some (vI v3), some (vA x9), none, none, none, none] rfl ?_
        cases hf
        exact kj78
set_option maxHeartbeats 4000000 in
theorem lp_X1_close_L204 {X : zX} (hX : zGd X RX1 cX1_close 9 (some .int) 12) (n : Nat) (c0 : Option Nat) (c1 : Int32) (c2 : Option Nat) (c3 : Int32) : ∀ (k : Nat) (v4 : Int32) (w : zWd) (w9 : zWd) , f_X1_close_L204 n c0 c1 c2 c3 k v4 w = some w9 → zJ X 315 [some (vA c0), some (vI c1), some (vA c2), some (vI c3), none, none, none, none, none] [] w9 → zJ X 204 [some (vA c0), some (vI c1), some (vA c2), some (vI c3), some (vI v4), none, none, none, none] [] w := by
  intro k
  induction k with
  | zero => intro v4 w w9 hf _; exact nomatch (show (none : Option (zWd)) = _ from hf)
  | succ k ih =>
    intro v4 w w9 hf kx
    have hf : f_X1_close_L204b n c0 c1 c2 c3 (f_X1_close_L204 n c0 c1 c2 c3 k) v4 w = _ := hf
    unfold f_X1_close_L204b at hf
    refine j_iload (pc := 204) hX dX1_close_204 rfl ?_
    refine j_aload_n (pc := 206) hX dX1_close_206 rfl ?_
    refine j_getI (pc := 207) hX kX1 (k := 17) (Nat.le_of_ble_eq_true rfl) q360 (Or.inl rfl) dX1_close_207 hf (fun x41 hx_ hf => ?_)
    refine j_icmp_gt (pc := 210) hX 315 dX1_close_210 rfl hf (fun h_ hf => ?_) (fun h_ hf => ?_)
    · refine j_fg [4] [some (vA c0), some (vI c1), some (vA c2), some (vI c3), none, none, none, none, none] rfl ?_
      cases hf
      exact kx
    · refine j_aload_n (pc := 213) hX dX1_close_213 rfl ?_
      refine j_getA (pc := 214) hX kX1 (k := 18) (Nat.le_of_ble_eq_true rfl) q361 (Or.inl rfl) dX1_close_214 hf (fun x42 hx_ hf => ?_)
      refine j_iload_n (pc := 217) hX dX1_close_217 rfl ?_
      refine j_aaload (pc := 218) hX dX1_close_218 hf (fun x43 hx_ hf => ?_)
      refine j_iload (pc := 219) hX dX1_close_219 rfl ?_
      refine j_aaload (pc := 221) hX dX1_close_221 hf (fun x44 hx_ hf => ?_)
      refine j_astore (pc := 222) hX dX1_close_222 (by decide) [some (vA c0), some (vI c1), some (vA c2), some (vI c3), some (vI v4), some (vA x44), none, none, none] rfl ?_
      refine j_aload (pc := 224) hX dX1_close_224 rfl ?_
      refine j_iconst (pc := 226) hX (0 : Int32) dX1_close_226 rfl ?_
      refine j_laload (pc := 227) hX dX1_close_227 hf (fun x45 hx_ hf => ?_)
      refine j_aload_n (pc := 228) hX dX1_close_228 rfl ?_
      refine j_iload_n (pc := 229) hX dX1_close_229 rfl ?_
      refine j_aaload (pc := 230) hX dX1_close_230 hf (fun x46 hx_ hf => ?_)
      refine j_iload (pc := 231) hX dX1_close_231 rfl ?_
      refine j_aaload (pc := 233) hX dX1_close_233 hf (fun x47 hx_ hf => ?_)
      refine j_iconst (pc := 234) hX (0 : Int32) dX1_close_234 rfl ?_
      refine j_laload (pc := 235) hX dX1_close_235 hf (fun x48 hx_ hf => ?_)
      refine j_lcmp (pc := 236) hX dX1_close_236 ?_
      obtain ⟨x53, hm_, hf⟩ := zob hf
      have kj237 : zJ X 261 [some (vA c0), some (vI c1), some (vA c2), some (vI c3), some (vI v4), none, none, none, none] [vI x53] w := by
        clear hm_
        refine j_istore (pc := 261) hX dX1_close_261 (by decide) [some (vA c0), some (vI c1), some (vA c2), some (vI c3), some (vI v4), none, some (vI x53), none, none] rfl ?_
        refine j_aload_n (pc := 263) hX dX1_close_263 rfl ?_
        refine j_getA (pc := 264) hX kX1 (k := 19) (Nat.le_of_ble_eq_true rfl) q362 (Or.inl rfl) dX1_close_264 hf (fun x54 hx_ hf => ?_)
        refine j_iload_n (pc := 267) hX dX1_close_267 rfl ?_
        refine j_aaload (pc := 268) hX dX1_close_268 hf (fun x55 hx_ hf => ?_)
        refine j_iload (pc := 269) hX dX1_close_269 rfl ?_
        refine j_dup2 (pc := 271) hX rfl rfl dX1_close_271 ?_
        refine j_iaload (pc := 272) hX dX1_close_272 hf (fun x56 hx_ hf => ?_)
        refine j_iload (pc := 273) hX dX1_close_273 rfl ?_
        refine j_aload_n (pc := 275) hX dX1_close_275 rfl ?_
        refine j_getI (pc := 276) hX kX1 (k := 17) (Nat.le_of_ble_eq_true rfl) q360 (Or.inl rfl) dX1_close_276 hf (fun x57 hx_ hf => ?_)
        obtain ⟨x58, hm_, hf⟩ := zob hf
        have kj279 : zJ X 292 [some (vA c0), some (vI c1), some (vA c2), some (vI c3), some (vI v4), none, none, none, none] [vI x58, vI x56, vI v4, vA x55] w := by
          clear hm_
          refine j_iadd (pc := 292) hX dX1_close_292 ?_
          refine j_iastore (pc := 293) hX dX1_close_293 hf (fun w59 hf => ?_)
          refine j_aload_n (pc := 294) hX dX1_close_294 rfl ?_
          refine j_getA (pc := 295) hX kX1 (k := 18) (Nat.le_of_ble_eq_true rfl) q361 (Or.inl rfl) dX1_close_295 hf (fun x60 hx_ hf => ?_)
          refine j_iload_n (pc := 298) hX dX1_close_298 rfl ?_
          refine j_aaload (pc := 299) hX dX1_close_299 hf (fun x61 hx_ hf => ?_)
          refine j_iload (pc := 300) hX dX1_close_300 rfl ?_
          refine j_aload_n (pc := 302) hX dX1_close_302 rfl ?_
          refine j_iload_n (pc := 303) hX dX1_close_303 rfl ?_
          refine j_aaload (pc := 304) hX dX1_close_304 hf (fun x62 hx_ hf => ?_)
          refine j_iload (pc := 305) hX dX1_close_305 rfl ?_
          refine j_aaload (pc := 307) hX dX1_close_307 hf (fun x63 hx_ hf => ?_)
          refine j_aastore (pc := 308) hX dX1_close_308 hf (fun w64 hf => ?_)
          refine j_iinc (pc := 309) hX (1) dX1_close_309 rfl rfl (by decide) [some (vA c0), some (vI c1), some (vA c2), some (vI c3), some (vI (v4 + (1))), none, none, none, none] rfl ?_
          refine j_goto (pc := 312) hX 204 dX1_close_312 rfl ?_
          exact ih _ _ _ hf kx
        have hf := hm_
        refine j_icmp_ge (pc := 279) hX 291 dX1_close_279 rfl hf (fun h_ hf => ?_) (fun h_ hf => ?_)
        · refine j_iconst (pc := 291) hX (0 : Int32) dX1_close_291 rfl ?_
          refine j_fg [6] [some (vA c0), some (vI c1), some (vA c2), some (vI c3), some (vI v4), none, none, none, none] rfl ?_
          cases hf
          exact kj279
        · refine j_iload (pc := 282) hX dX1_close_282 rfl ?_
          refine j_if_eq (pc := 284) hX 291 dX1_close_284 rfl hf (fun h_ hf => ?_) (fun h_ hf => ?_)
          · refine j_iconst (pc := 291) hX (0 : Int32) dX1_close_291 rfl ?_
            refine j_fg [6] [some (vA c0), some (vI c1), some (vA c2), some (vI c3), some (vI v4), none, none, none, none] rfl ?_
            cases hf
            exact kj279
          · refine j_iconst (pc := 287) hX (1 : Int32) dX1_close_287 rfl ?_
            refine j_goto (pc := 288) hX 292 dX1_close_288 rfl ?_
            refine j_fg [6] [some (vA c0), some (vI c1), some (vA c2), some (vI c3), some (vI v4), none, none, none, none] rfl ?_
            cases hf
            exact kj279
      have hf := hm_
      refine j_if_ne (pc := 237) hX 256 dX1_close_237 rfl hf (fun h_ hf => ?_) (fun h_ hf => ?_)
      · refine j_iconst (pc := 256) hX (1 : Int32) dX1_close_256 rfl ?_
        refine j_goto (pc := 257) hX 261 dX1_close_257 rfl ?_
        refine j_fg [5] [some (vA c0), some (vI c1), some (vA c2), some (vI c3), some (vI v4), none, none, none, none] rfl ?_
        cases hf
        exact kj237
      · refine j_aload (pc := 240) hX dX1_close_240 rfl ?_
        refine j_iconst (pc := 242) hX (1 : Int32) dX1_close_242 rfl ?_
        refine j_laload (pc := 243) hX dX1_close_243 hf (fun x49 hx_ hf => ?_)
        refine j_aload_n (pc := 244) hX dX1_close_244 rfl ?_
        refine j_iload_n (pc := 245) hX dX1_close_245 rfl ?_
        refine j_aaload (pc := 246) hX dX1_close_246 hf (fun x50 hx_ hf => ?_)
        refine j_iload (pc := 247) hX dX1_close_247 rfl ?_
        refine j_aaload (pc := 249) hX dX1_close_249 hf (fun x51 hx_ hf => ?_)
        refine j_iconst (pc := 250) hX (1 : Int32) dX1_close_250 rfl ?_
        refine j_laload (pc := 251) hX dX1_close_251 hf (fun x52 hx_ hf => ?_)
        refine j_lcmp (pc := 252) hX dX1_close_252 ?_
        refine j_if_eq (pc := 253) hX 260 dX1_close_253 rfl hf (fun h_ hf => ?_) (fun h_ hf => ?_)
        · refine j_iconst (pc := 260) hX (0 : Int32) dX1_close_260 rfl ?_
          refine j_fg [5] [some (vA c0), some (vI c1), some (vA c2), some (vI c3), some (vI v4), none, none, none, none] rfl ?_
          cases hf
          exact kj237
        · refine j_iconst (pc := 256) hX (1 : Int32) dX1_close_256 rfl ?_
          refine j_goto (pc := 257) hX 261 dX1_close_257 rfl ?_
          refine j_fg [5] [some (vA c0), some (vI c1), some (vA c2), some (vI c3), some (vI v4), none, none, none, none] rfl ?_
          cases hf
          exact kj237
set_option maxHeartbeats 4000000 in
theorem lp_X1_close_L196 {X : zX} (hX : zGd X RX1 cX1_close 9 (some .int) 12) (n : Nat) (c0 : Option Nat) (c1 : Int32) (c2 : Option Nat) : ∀ (k : Nat) (v3 : Int32) (w : zWd) (w9 : zWd) , f_X1_close_L196 n c0 c1 c2 k v3 w = some w9 → zJ X 321 [some (vA c0), some (vI c1), some (vA c2), none, none, none, none, none, none] [] w9 → zJ X 196 [some (vA c0), some (vI c1), some (vA c2), some (vI v3), none, none, none, none, none] [] w := by
  intro k
  induction k with
  | zero => intro v3 w w9 hf _; exact nomatch (show (none : Option (zWd)) = _ from hf)
  | succ k ih =>
    intro v3 w w9 hf kx
    have hf : f_X1_close_L196b n c0 c1 c2 (f_X1_close_L196 n c0 c1 c2 k) v3 w = _ := hf
    unfold f_X1_close_L196b at hf
    refine j_iload_n (pc := 196) hX dX1_close_196 rfl ?_
    refine j_iconst (pc := 197) hX (3 : Int32) dX1_close_197 rfl ?_
    refine j_icmp_ge (pc := 198) hX 321 dX1_close_198 rfl hf (fun h_ hf => ?_) (fun h_ hf => ?_)
    · refine j_fg [3] [some (vA c0), some (vI c1), some (vA c2), none, none, none, none, none, none] rfl ?_
      cases hf
      exact kx
    · refine j_iconst (pc := 201) hX (0 : Int32) dX1_close_201 rfl ?_
      refine j_istore (pc := 202) hX dX1_close_202 (by decide) [some (vA c0), some (vI c1), some (vA c2), some (vI v3), some (vI (0 : Int32)), none, none, none, none] rfl ?_
      obtain ⟨w65, hm_, hf⟩ := zob hf
      refine lp_X1_close_L204 hX n _ _ _ _ _ _ _ _ hm_ ?_
      refine j_iinc (pc := 315) hX (1) dX1_close_315 rfl rfl (by decide) [some (vA c0), some (vI c1), some (vA c2), some (vI (v3 + (1))), none, none, none, none, none] rfl ?_
      refine j_goto (pc := 318) hX 196 dX1_close_318 rfl ?_
      exact ih _ _ _ hf kx
set_option maxHeartbeats 4000000 in
theorem k_X1_close {l : Launch} {n : Nat} {a0 : Option Nat} {w : zWd} (r : String ⊕ Int32) (w9 : zWd) (hf : f_X1_close n a0 w = some (r, w9)) : zCt l yX1_close cX1_close 9 (some .int) 12 [vA a0] w (zXI r w9) := by
  refine zCt_of (lv := [some (vA a0), none, none, none, none, none, none, none, none]) (by decide +kernel) 8 rfl rfl ?_
  intro X hX hI hN hQ
  have hX : zGd X RX1 cX1_close 9 (some .int) 12 := hX
  unfold f_X1_close at hf
  refine j_aload_n (pc := 0) hX dX1_close_0 rfl ?_
  refine j_getI (pc := 1) hX kX1 (k := 17) (Nat.le_of_ble_eq_true rfl) q360 (Or.inl rfl) dX1_close_1 hf (fun x1 hx_ hf => ?_)
  refine j_bipush (pc := 4) hX (24 : Int32) dX1_close_4 (by decide +kernel) ?_
  obtain ⟨x2, hm_, hf⟩ := zob hf
  have kj6 : zJ X 14 [some (vA a0), none, none, none, none, none, none, none, none] [vI x2] w := by
    clear hm_
    obtain ⟨⟨q_, w3⟩, hc_, hf⟩ := zob hf
    cases q_ with
    | inl E_ =>
      cases hf
      exact j_callSX (pc := 14) hX mt_X1_must q543 q544 [vI x2] rfl rfl (Nat.le_of_ble_eq_true rfl) (by decide) dX1_close_14 hN hQ (k_X1_must _ _ hc_)
    | inr u_ =>
      refine j_callS (pc := 14) hX mt_X1_must q543 q544 [vI x2] rfl rfl (Nat.le_of_ble_eq_true rfl) (by decide) dX1_close_14 (k_X1_must _ _ hc_) ?_
      refine j_aload_n (pc := 17) hX dX1_close_17 rfl ?_
      refine j_getA (pc := 18) hX kX1 (k := 16) (Nat.le_of_ble_eq_true rfl) q359 (Or.inl rfl) dX1_close_18 hf (fun x4 hx_ hf => ?_)
      obtain ⟨x6, w5, hc_, hf⟩ := zB2_e hf
      obtain ⟨hi_, hc_⟩ := zV_e hc_
      refine j_callF (pc := 21) hX (ci := 18) mt_J2_size q413 q418 q416 (by decide +kernel) rfl hi_ ⟨_, rfl, rfl⟩ [] rfl rfl (Nat.le_of_ble_eq_true rfl) (by decide) dX1_close_21 (k_J2_size _ _ hc_) ?_
      refine j_istore_n (pc := 26) hX dX1_close_26 (by decide) [some (vA a0), some (vI x6), none, none, none, none, none, none, none] rfl ?_
      refine j_iconst (pc := 27) hX (3 : Int32) dX1_close_27 rfl ?_
      refine j_bipush (pc := 28) hX (24 : Int32) dX1_close_28 (by decide +kernel) ?_
      refine j_iconst (pc := 30) hX (2 : Int32) dX1_close_30 rfl ?_
      refine j_multiL3 (pc := 31) hX q158 dX1_close_31 hf (fun x7 w8 hf => ?_)
      refine j_astore_n (pc := 35) hX dX1_close_35 (by decide) [some (vA a0), some (vI x6), some (vA x7), none, none, none, none, none, none] rfl ?_
      refine j_iconst (pc := 36) hX (0 : Int32) dX1_close_36 rfl ?_
      refine j_istore_n (pc := 37) hX dX1_close_37 (by decide) [some (vA a0), some (vI x6), some (vA x7), some (vI (0 : Int32)), none, none, none, none, none] rfl ?_
      obtain ⟨w40, hm_, hf⟩ := zob hf
      refine lp_X1_close_L38 hX n _ _ _ _ _ _ _ hm_ ?_
      refine j_iconst (pc := 194) hX (0 : Int32) dX1_close_194 rfl ?_
      refine j_istore_n (pc := 195) hX dX1_close_195 (by decide) [some (vA a0), some (vI x6), some (vA x7), some (vI (0 : Int32)), none, none, none, none, none] rfl ?_
      obtain ⟨w66, hm_, hf⟩ := zob hf
      refine lp_X1_close_L196 hX n _ _ _ _ _ _ _ hm_ ?_
      refine j_aload_n (pc := 321) hX dX1_close_321 rfl ?_
      refine j_dup (pc := 322) hX rfl dX1_close_322 ?_
      refine j_getI (pc := 323) hX kX1 (k := 17) (Nat.le_of_ble_eq_true rfl) q360 (Or.inl rfl) dX1_close_323 hf (fun x67 hx_ hf => ?_)
      refine j_iconst (pc := 326) hX (1 : Int32) dX1_close_326 rfl ?_
      refine j_iadd (pc := 327) hX dX1_close_327 ?_
      refine j_putI (pc := 328) hX kX1 (k := 17) (Nat.le_of_ble_eq_true rfl) q360 (Or.inl rfl) rfl rfl dX1_close_328 hf (fun w68 hf => ?_)
      refine j_aload_n (pc := 331) hX dX1_close_331 rfl ?_
      refine j_getA (pc := 332) hX kX1 (k := 16) (Nat.le_of_ble_eq_true rfl) q359 (Or.inl rfl) dX1_close_332 hf (fun x69 hx_ hf => ?_)
      obtain ⟨x71, w70, hc_, hf⟩ := zB2_e hf
      obtain ⟨hi_, hc_⟩ := zV_e hc_
      refine j_callF (pc := 335) hX (ci := 18) mt_J2_size q413 q418 q416 (by decide +kernel) rfl hi_ ⟨_, rfl, rfl⟩ [] rfl rfl (Nat.le_of_ble_eq_true rfl) (by decide) dX1_close_335 (k_J2_size _ _ hc_) ?_
      refine j_iload_n (pc := 340) hX dX1_close_340 rfl ?_
      refine j_isub (pc := 341) hX dX1_close_341 ?_
      exact j_ireturn (pc := 342) hX hQ (by cases hf; rfl) dX1_close_342
  have hf := hm_
  refine j_icmp_ge (pc := 6) hX 13 dX1_close_6 rfl hf (fun h_ hf => ?_) (fun h_ hf => ?_)
  · refine j_iconst (pc := 13) hX (0 : Int32) dX1_close_13 rfl ?_
    cases hf
    exact kj6
  · refine j_iconst (pc := 9) hX (1 : Int32) dX1_close_9 rfl ?_
    refine j_goto (pc := 10) hX 14 dX1_close_10 rfl ?_
    cases hf
    exact kj6
def f_X1_payment (n : Nat) (a0 : Option Nat) (a1 : Int32) (a2 : Int32) (w : zWd) : Option ((String ⊕ Int64) × zWd) :=
  (gA w 0 16 a0).bind fun x1 =>
  (gA w 0 16 a0).bind fun x2 =>
  zB2 (zV (isC w 18 x2) (f_J2_size n x2 w)) fun x4 w3 =>
  zBX (f_X1_at n a1 x4 w3) fun x6 w5 =>
  zB2 (zV (isC w5 18 x1) (f_J2_get n x1 x6 w5)) fun x8 w7 =>
  (cK w7 [17] x8).bind fun _ =>
  zBX (f_X1_in n a2 (0 : Int32) (3 : Int32) w7) fun x10 w9 =>
  if x10 = (0 : Int32) then
    (gI w9 17 0 x8).bind fun x11 =>
    some (.inr (Int32.toInt64 x11), w9)
  else
  if x10 = (1 : Int32) then
    (gI w9 17 1 x8).bind fun x12 =>
    some (.inr (Int32.toInt64 x12), w9)
  else
  if x10 = (2 : Int32) then
    (gL w9 17 2 x8).bind fun x13 =>
    some (.inr x13, w9)
  else
    (gI w9 17 3 x8).bind fun x14 =>
    (
      if x14 = (0 : Int32) then
        some (0 : Int64)
      else
        some (1 : Int64)
      ).bind fun x15 =>
    some (.inr x15, w9)
theorem mt_X1_payment : zMt yX1_payment cX1_payment 4 (some .long) 2 := ⟨q2210, q66, ⟨by decide, by decide⟩, by decide +kernel, by decide⟩
set_option maxHeartbeats 4000000 in
theorem k_X1_payment {l : Launch} {n : Nat} {a0 : Option Nat} {a1 : Int32} {a2 : Int32} {w : zWd} (r : String ⊕ Int64) (w9 : zWd) (hf : f_X1_payment n a0 a1 a2 w = some (r, w9)) : zCt l yX1_payment cX1_payment 4 (some .long) 7 [vA a0, vI a1, vI a2] w (zXL r w9) := by
  refine zCt_of (lv := [some (vA a0), some (vI a1), some (vI a2), none]) (by decide +kernel) 1 rfl rfl ?_
  intro X hX hI hN hQ
  have hX : zGd X RX1 cX1_payment 4 (some .long) 7 := hX
  unfold f_X1_payment at hf
  refine j_aload_n (pc := 0) hX dX1_payment_0 rfl ?_
  refine j_getA (pc := 1) hX kX1 (k := 16) (Nat.le_of_ble_eq_true rfl) q359 (Or.inl rfl) dX1_payment_1 hf (fun x1 hx_ hf => ?_)
  refine j_iload_n (pc := 4) hX dX1_payment_4 rfl ?_
  refine j_aload_n (pc := 5) hX dX1_payment_5 rfl ?_
  refine j_getA (pc := 6) hX kX1 (k := 16) (Nat.le_of_ble_eq_true rfl) q359 (Or.inl rfl) dX1_payment_6 hf (fun x2 hx_ hf => ?_)
  obtain ⟨x4, w3, hc_, hf⟩ := zB2_e hf
  obtain ⟨hi_, hc_⟩ := zV_e hc_
  refine j_callF (pc := 9) hX (ci := 18) mt_J2_size q413 q418 q416 (by decide +kernel) rfl hi_ ⟨_, rfl, rfl⟩ [] rfl rfl (Nat.le_of_ble_eq_true rfl) (by decide) dX1_payment_9 (k_J2_size _ _ hc_) ?_
  obtain ⟨⟨q_, w5⟩, hc_, hf⟩ := zob hf
  cases q_ with
  | inl E_ =>
    cases hf
    exact j_callSX (pc := 14) hX mt_X1_at q507 q508 [vI a1, vI x4] rfl rfl (Nat.le_of_ble_eq_true rfl) (by decide) dX1_payment_14 hN hQ (k_X1_at _ _ hc_)
  | inr x6 =>
    refine j_callS (pc := 14) hX mt_X1_at q507 q508 [vI a1, vI x4] rfl rfl (Nat.le_of_ble_eq_true rfl) (by decide) dX1_payment_14 (k_X1_at _ _ hc_) ?_
    obtain ⟨x8, w7, hc_, hf⟩ := zB2_e hf
    obtain ⟨hi_, hc_⟩ := zV_e hc_
    refine j_callF (pc := 17) hX (ci := 18) mt_J2_get q965 q970 q968 (by decide +kernel) rfl hi_ ⟨_, rfl, rfl⟩ [vI x6] rfl rfl (Nat.le_of_ble_eq_true rfl) (by decide) dX1_payment_17 (k_J2_get _ _ hc_) ?_
    refine j_cast (pc := 22) hX q2182 [17] (zC1 ⟨_, rfl, Or.inl rfl⟩) dX1_payment_22 hf (fun hf => ?_)
    refine j_astore_n (pc := 25) hX dX1_payment_25 (by decide) [some (vA a0), some (vI a1), some (vI a2), some (vA x8)] rfl ?_
    refine j_iload_n (pc := 26) hX dX1_payment_26 rfl ?_
    refine j_iconst (pc := 27) hX (0 : Int32) dX1_payment_27 rfl ?_
    refine j_iconst (pc := 28) hX (3 : Int32) dX1_payment_28 rfl ?_
    obtain ⟨⟨q_, w9⟩, hc_, hf⟩ := zob hf
    cases q_ with
    | inl E_ =>
      cases hf
      exact j_callSX (pc := 29) hX mt_X1_in q523 q524 [vI a2, vI (0 : Int32), vI (3 : Int32)] rfl rfl (Nat.le_of_ble_eq_true rfl) (by decide) dX1_payment_29 hN hQ (k_X1_in _ _ hc_)
    | inr x10 =>
      refine j_callS (pc := 29) hX mt_X1_in q523 q524 [vI a2, vI (0 : Int32), vI (3 : Int32)] rfl rfl (Nat.le_of_ble_eq_true rfl) (by decide) dX1_payment_29 (k_X1_in _ _ hc_) ?_
      change (if x10 = (0 : Int32) then _ else _) = _ at hf
      by_cases h_0 : x10 = (0 : Int32)
      · rw [if_pos h_0] at hf
        refine j_tsIn (pc := 32) hX 60 dX1_payment_32 0 (by rw [h_0]; rfl) (by decide) rfl rfl ?_
        refine j_aload_n (pc := 60) hX dX1_payment_60 rfl ?_
        refine j_getIN (pc := 61) hX kX18 (k := 0) (Nat.le_of_ble_eq_true rfl) q2189 rfl dX1_payment_61 hf (fun x11 hx_ hf => ?_)
        refine j_i2l (pc := 64) hX dX1_payment_64 ?_
        exact j_lreturn (pc := 65) hX hQ (by cases hf; rfl) dX1_payment_65
      rw [if_neg h_0] at hf
      by_cases h_1 : x10 = (1 : Int32)
      · rw [if_pos h_1] at hf
        refine j_tsIn (pc := 32) hX 66 dX1_payment_32 1 (by rw [h_1]; rfl) (by decide) rfl rfl ?_
        refine j_aload_n (pc := 66) hX dX1_payment_66 rfl ?_
        refine j_getIN (pc := 67) hX kX18 (k := 1) (Nat.le_of_ble_eq_true rfl) q2191 rfl dX1_payment_67 hf (fun x12 hx_ hf => ?_)
        refine j_i2l (pc := 70) hX dX1_payment_70 ?_
        exact j_lreturn (pc := 71) hX hQ (by cases hf; rfl) dX1_payment_71
      rw [if_neg h_1] at hf
      by_cases h_2 : x10 = (2 : Int32)
      · rw [if_pos h_2] at hf
        refine j_tsIn (pc := 32) hX 72 dX1_payment_32 2 (by rw [h_2]; rfl) (by decide) rfl rfl ?_
        refine j_aload_n (pc := 72) hX dX1_payment_72 rfl ?_
        refine j_getLN (pc := 73) hX kX18 (k := 2) (Nat.le_of_ble_eq_true rfl) q2193 rfl dX1_payment_73 hf (fun x13 hx_ hf => ?_)
        exact j_lreturn (pc := 76) hX hQ (by cases hf; rfl) dX1_payment_76
      rw [if_neg h_2] at hf
      refine j_tsOut (pc := 32) hX 77 dX1_payment_32 (fun k_ h1_ h2_ => by
        have h3_ : k_ = 0 ∨ k_ = 1 ∨ k_ = 2 := by omega
        rcases h3_ with rfl | rfl | rfl <;> first | exact h_0 | exact h_1 | exact h_2) (by decide) rfl ?_
      refine j_aload_n (pc := 77) hX dX1_payment_77 rfl ?_
      refine j_getIN (pc := 78) hX kX18 (k := 3) (Nat.le_of_ble_eq_true rfl) q2194 rfl dX1_payment_78 hf (fun x14 hx_ hf => ?_)
      obtain ⟨x15, hm_, hf⟩ := zob hf
      have kj81 : zJ X 89 [none, none, none, none] [vL x15] w9 := by
        clear hm_
        exact j_lreturn (pc := 89) hX hQ (by cases hf; rfl) dX1_payment_89
      have hf := hm_
      refine j_if_eq (pc := 81) hX 88 dX1_payment_81 rfl hf (fun h_ hf => ?_) (fun h_ hf => ?_)
      · refine j_lconst (pc := 88) hX (0 : Int64) dX1_payment_88 rfl ?_
        refine j_fg [0, 1, 2, 3] [none, none, none, none] rfl ?_
        cases hf
        exact kj81
      · refine j_lconst (pc := 84) hX (1 : Int64) dX1_payment_84 rfl ?_
        refine j_goto (pc := 85) hX 89 dX1_payment_85 rfl ?_
        refine j_fg [0, 1, 2, 3] [none, none, none, none] rfl ?_
        cases hf
        exact kj81
def f_X1_comeBack (n : Nat) (a0 : Option Nat) (a1 : Int32) (w : zWd) : Option ((String ⊕ Int64) × zWd) :=
  (gA w 0 16 a0).bind fun x1 =>
  (gA w 0 16 a0).bind fun x2 =>
  zB2 (zV (isC w 18 x2) (f_J2_size n x2 w)) fun x4 w3 =>
  zBX (f_X1_at n a1 x4 w3) fun x6 w5 =>
  zB2 (zV (isC w5 18 x1) (f_J2_get n x1 x6 w5)) fun x8 w7 =>
  (cK w7 [17] x8).bind fun _ =>
  (gI w7 17 3 x8).bind fun x9 =>
  (
    if x9 = (0 : Int32) then
      some (1 : Int32)
    else
      some (0 : Int32)
    ).bind fun x10 =>
  zBX (f_X1_must n x10 w7) fun _u w11 =>
  (pZ w11 17 3 x8 (1 : Int32)).bind fun w12 =>
  (gL w12 17 2 x8).bind fun x13 =>
  some (.inr x13, w12)
theorem mt_X1_comeBack : zMt yX1_comeBack cX1_comeBack 3 (some .long) 1 := ⟨q2217, q66, ⟨by decide, by decide⟩, by decide +kernel, by decide⟩
set_option maxHeartbeats 4000000 in
theorem k_X1_comeBack {l : Launch} {n : Nat} {a0 : Option Nat} {a1 : Int32} {w : zWd} (r : String ⊕ Int64) (w9 : zWd) (hf : f_X1_comeBack n a0 a1 w = some (r, w9)) : zCt l yX1_comeBack cX1_comeBack 3 (some .long) 7 [vA a0, vI a1] w (zXL r w9) := by
  refine zCt_of (lv := [some (vA a0), some (vI a1), none]) (by decide +kernel) 1 rfl rfl ?_
  intro X hX hI hN hQ
  have hX : zGd X RX1 cX1_comeBack 3 (some .long) 7 := hX
  unfold f_X1_comeBack at hf
  refine j_aload_n (pc := 0) hX dX1_comeBack_0 rfl ?_
  refine j_getA (pc := 1) hX kX1 (k := 16) (Nat.le_of_ble_eq_true rfl) q359 (Or.inl rfl) dX1_comeBack_1 hf (fun x1 hx_ hf => ?_)
  refine j_iload_n (pc := 4) hX dX1_comeBack_4 rfl ?_
  refine j_aload_n (pc := 5) hX dX1_comeBack_5 rfl ?_
  refine j_getA (pc := 6) hX kX1 (k := 16) (Nat.le_of_ble_eq_true rfl) q359 (Or.inl rfl) dX1_comeBack_6 hf (fun x2 hx_ hf => ?_)
  obtain ⟨x4, w3, hc_, hf⟩ := zB2_e hf
  obtain ⟨hi_, hc_⟩ := zV_e hc_
  refine j_callF (pc := 9) hX (ci := 18) mt_J2_size q413 q418 q416 (by decide +kernel) rfl hi_ ⟨_, rfl, rfl⟩ [] rfl rfl (Nat.le_of_ble_eq_true rfl) (by decide) dX1_comeBack_9 (k_J2_size _ _ hc_) ?_
  obtain ⟨⟨q_, w5⟩, hc_, hf⟩ := zob hf
  cases q_ with
  | inl E_ =>
    cases hf
    exact j_callSX (pc := 14) hX mt_X1_at q507 q508 [vI a1, vI x4] rfl rfl (Nat.le_of_ble_eq_true rfl) (by decide) dX1_comeBack_14 hN hQ (k_X1_at _ _ hc_)
  | inr x6 =>
    refine j_callS (pc := 14) hX mt_X1_at q507 q508 [vI a1, vI x4] rfl rfl (Nat.le_of_ble_eq_true rfl) (by decide) dX1_comeBack_14 (k_X1_at _ _ hc_) ?_
    obtain ⟨x8, w7, hc_, hf⟩ := zB2_e hf
    obtain ⟨hi_, hc_⟩ := zV_e hc_
    refine j_callF (pc := 17) hX (ci := 18) mt_J2_get q965 q970 q968 (by decide +kernel) rfl hi_ ⟨_, rfl, rfl⟩ [vI x6] rfl rfl (Nat.le_of_ble_eq_true rfl) (by decide) dX1_comeBack_17 (k_J2_get _ _ hc_) ?_
    refine j_cast (pc := 22) hX q2182 [17] (zC1 ⟨_, rfl, Or.inl rfl⟩) dX1_comeBack_22 hf (fun hf => ?_)
    refine j_astore_n (pc := 25) hX dX1_comeBack_25 (by decide) [some (vA a0), some (vI a1), some (vA x8)] rfl ?_
    refine j_aload_n (pc := 26) hX dX1_comeBack_26 rfl ?_
    refine j_getIN (pc := 27) hX kX18 (k := 3) (Nat.le_of_ble_eq_true rfl) q2194 rfl dX1_comeBack_27 hf (fun x9 hx_ hf => ?_)
    obtain ⟨x10, hm_, hf⟩ := zob hf
    have kj30 : zJ X 38 [none, none, some (vA x8)] [vI x10] w7 := by
      clear hm_
      obtain ⟨⟨q_, w11⟩, hc_, hf⟩ := zob hf
      cases q_ with
      | inl E_ =>
        cases hf
        exact j_callSX (pc := 38) hX mt_X1_must q543 q544 [vI x10] rfl rfl (Nat.le_of_ble_eq_true rfl) (by decide) dX1_comeBack_38 hN hQ (k_X1_must _ _ hc_)
      | inr u_ =>
        refine j_callS (pc := 38) hX mt_X1_must q543 q544 [vI x10] rfl rfl (Nat.le_of_ble_eq_true rfl) (by decide) dX1_comeBack_38 (k_X1_must _ _ hc_) ?_
        refine j_aload_n (pc := 41) hX dX1_comeBack_41 rfl ?_
        refine j_iconst (pc := 42) hX (1 : Int32) dX1_comeBack_42 rfl ?_
        refine j_putZN (pc := 43) hX kX18 (k := 3) (Nat.le_of_ble_eq_true rfl) q2194 rfl rfl rfl dX1_comeBack_43 hf (fun w12 hf => ?_)
        refine j_aload_n (pc := 46) hX dX1_comeBack_46 rfl ?_
        refine j_getLN (pc := 47) hX kX18 (k := 2) (Nat.le_of_ble_eq_true rfl) q2193 rfl dX1_comeBack_47 hf (fun x13 hx_ hf => ?_)
        exact j_lreturn (pc := 50) hX hQ (by cases hf; rfl) dX1_comeBack_50
    have hf := hm_
    refine j_if_ne (pc := 30) hX 37 dX1_comeBack_30 rfl hf (fun h_ hf => ?_) (fun h_ hf => ?_)
    · refine j_iconst (pc := 37) hX (0 : Int32) dX1_comeBack_37 rfl ?_
      refine j_fg [0, 1] [none, none, some (vA x8)] rfl ?_
      cases hf
      exact kj30
    · refine j_iconst (pc := 33) hX (1 : Int32) dX1_comeBack_33 rfl ?_
      refine j_goto (pc := 34) hX 38 dX1_comeBack_34 rfl ?_
      refine j_fg [0, 1] [none, none, some (vA x8)] rfl ?_
      cases hf
      exact kj30
def f_X1_owed (n : Nat) (a0 : Option Nat) (a1 : Int32) (w : zWd) : Option ((String ⊕ Int64) × zWd) :=
  zBX (f_X1_at n a1 (6 : Int32) w) fun x2 w1 =>
  zB2 (zNew w1 18 (.inr (13, df_X14))) fun x3 w4 =>
  (zV (decide (x3 ≠ none)) (f_X14_init n x3 a0 a1 w4)).bind fun w5 =>
  (gI w5 0 17 a0).bind fun x6 =>
  zB2 (f_J7_min n (24 : Int32) (x6 + (1 : Int32)) w5) fun x8 w7 =>
  zB2 (zV (isC w7 13 x3) (f_X14_payouts n x3 x8 w7)) fun x10 w9 =>
  zB2 (zV (isC w9 0 a0) (f_X1_paidTo n a0 a1 w9)) fun x12 w11 =>
  some (.inr (x10 - x12), w11)
theorem mt_X1_owed : zMt yX1_owed cX1_owed 2 (some .long) 1 := ⟨q2224, q66, ⟨by decide, by decide⟩, by decide +kernel, by decide⟩
set_option maxHeartbeats 4000000 in
theorem k_X1_owed {l : Launch} {n : Nat} {a0 : Option Nat} {a1 : Int32} {w : zWd} (r : String ⊕ Int64) (w9 : zWd) (hf : f_X1_owed n a0 a1 w = some (r, w9)) : zCt l yX1_owed cX1_owed 2 (some .long) 12 [vA a0, vI a1] w (zXL r w9) := by
  refine zCt_of (lv := [some (vA a0), some (vI a1)]) (by decide +kernel) 0 rfl rfl ?_
  intro X hX hI hN hQ
  have hX : zGd X RX1 cX1_owed 2 (some .long) 12 := hX
  unfold f_X1_owed at hf
  refine j_iload_n (pc := 0) hX dX1_owed_0 rfl ?_
  refine j_bipush (pc := 1) hX (6 : Int32) dX1_owed_1 (by decide +kernel) ?_
  obtain ⟨⟨q_, w1⟩, hc_, hf⟩ := zob hf
  cases q_ with
  | inl E_ =>
    cases hf
    exact j_callSX (pc := 3) hX mt_X1_at q507 q508 [vI a1, vI (6 : Int32)] rfl rfl (Nat.le_of_ble_eq_true rfl) (by decide) dX1_owed_3 hN hQ (k_X1_at _ _ hc_)
  | inr x2 =>
    refine j_callS (pc := 3) hX mt_X1_at q507 q508 [vI a1, vI (6 : Int32)] rfl rfl (Nat.le_of_ble_eq_true rfl) (by decide) dX1_owed_3 (k_X1_at _ _ hc_) ?_
    refine j_pop (pc := 6) hX rfl dX1_owed_6 ?_
    refine j_new (pc := 7) hX kX14 q1580 q1581 q111 df_X14 df_X14_ok dX1_owed_7 hf (fun x3 w4 hf => ?_)
    refine j_dup (pc := 10) hX rfl dX1_owed_10 ?_
    refine j_aload_n (pc := 11) hX dX1_owed_11 rfl ?_
    refine j_iload_n (pc := 12) hX dX1_owed_12 rfl ?_
    obtain ⟨w5, hc_, hf⟩ := zob hf
    obtain ⟨hi_, hc_⟩ := zV_e hc_
    refine j_callI (pc := 13) hX mt_X14_init q1582 q1583 rfl rfl [vA a0, vI a1] rfl rfl (Nat.le_of_ble_eq_true rfl) (by decide) dX1_owed_13 (of_decide_eq_true hi_) (k_X14_init () _ hc_) ?_
    refine j_bipush (pc := 16) hX (24 : Int32) dX1_owed_16 (by decide +kernel) ?_
    refine j_aload_n (pc := 18) hX dX1_owed_18 rfl ?_
    refine j_getI (pc := 19) hX kX1 (k := 17) (Nat.le_of_ble_eq_true rfl) q360 (Or.inl rfl) dX1_owed_19 hf (fun x6 hx_ hf => ?_)
    refine j_iconst (pc := 22) hX (1 : Int32) dX1_owed_22 rfl ?_
    refine j_iadd (pc := 23) hX dX1_owed_23 ?_
    obtain ⟨x8, w7, hc_, hf⟩ := zB2_e hf
    refine j_callS (pc := 24) hX mt_J7_min q1307 q303 [vI (24 : Int32), vI (x6 + (1 : Int32))] rfl rfl (Nat.le_of_ble_eq_true rfl) (by decide) dX1_owed_24 (k_J7_min _ _ hc_) ?_
    obtain ⟨x10, w9, hc_, hf⟩ := zB2_e hf
    obtain ⟨hi_, hc_⟩ := zV_e hc_
    refine j_callV (pc := 27) hX (ci := 13) mt_X14_payouts q2174 q2175 q2176 hi_ ⟨_, rfl, rfl⟩ [vI x8] rfl rfl (Nat.le_of_ble_eq_true rfl) (by decide) dX1_owed_27 (k_X14_payouts _ _ hc_) ?_
    refine j_aload_n (pc := 30) hX dX1_owed_30 rfl ?_
    refine j_iload_n (pc := 31) hX dX1_owed_31 rfl ?_
    obtain ⟨x12, w11, hc_, hf⟩ := zB2_e hf
    obtain ⟨hi_, hc_⟩ := zV_e hc_
    refine j_callV (pc := 32) hX (ci := 0) mt_X1_paidTo q2178 q2180 qs27 hi_ ⟨_, rfl, rfl⟩ [vI a1] rfl rfl (Nat.le_of_ble_eq_true rfl) (by decide) dX1_owed_32 (k_X1_paidTo _ _ hc_) ?_
    refine j_lsub (pc := 35) hX dX1_owed_35 ?_
    exact j_lreturn (pc := 36) hX hQ (by cases hf; rfl) dX1_owed_36
def f_X1_filed (n : Nat) (a0 : Option Nat) (a1 : Int32) (a2 : Int32) (a3 : Int32) (w : zWd) : Option ((String ⊕ Int64) × zWd) :=
  zBX (f_X1_at n a1 (3 : Int32) w) fun x2 w1 =>
  (gA w1 0 18 a0).bind fun x3 =>
  (aA w1 x3 a1).bind fun x4 =>
  zBX (f_X1_at n a2 (24 : Int32) w1) fun x6 w5 =>
  (aA w5 x4 x6).bind fun x7 =>
  (
    if a3 = (0 : Int32) then
      some (0 : Int32)
    else
      some (1 : Int32)
    ).bind fun x8 =>
  (aL w5 x7 x8).bind fun x9 =>
  some (.inr x9, w5)
theorem mt_X1_filed : zMt yX1_filed cX1_filed 4 (some .long) 3 := ⟨q2231, q66, ⟨by decide, by decide⟩, by decide +kernel, by decide⟩
set_option maxHeartbeats 4000000 in
theorem k_X1_filed {l : Launch} {n : Nat} {a0 : Option Nat} {a1 : Int32} {a2 : Int32} {a3 : Int32} {w : zWd} (r : String ⊕ Int64) (w9 : zWd) (hf : f_X1_filed n a0 a1 a2 a3 w = some (r, w9)) : zCt l yX1_filed cX1_filed 4 (some .long) 7 [vA a0, vI a1, vI a2, vI a3] w (zXL r w9) := by
  refine zCt_of (lv := [some (vA a0), some (vI a1), some (vI a2), some (vI a3)]) (by decide +kernel) 0 rfl rfl ?_
  intro X hX hI hN hQ
  have hX : zGd X RX1 cX1_filed 4 (some .long) 7 := hX
  unfold f_X1_filed at hf
  refine j_iload_n (pc := 0) hX dX1_filed_0 rfl ?_
  refine j_iconst (pc := 1) hX (3 : Int32) dX1_filed_1 rfl ?_
  obtain ⟨⟨q_, w1⟩, hc_, hf⟩ := zob hf
  cases q_ with
  | inl E_ =>
    cases hf
    exact j_callSX (pc := 2) hX mt_X1_at q507 q508 [vI a1, vI (3 : Int32)] rfl rfl (Nat.le_of_ble_eq_true rfl) (by decide) dX1_filed_2 hN hQ (k_X1_at _ _ hc_)
  | inr x2 =>
    refine j_callS (pc := 2) hX mt_X1_at q507 q508 [vI a1, vI (3 : Int32)] rfl rfl (Nat.le_of_ble_eq_true rfl) (by decide) dX1_filed_2 (k_X1_at _ _ hc_) ?_
    refine j_pop (pc := 5) hX rfl dX1_filed_5 ?_
    refine j_aload_n (pc := 6) hX dX1_filed_6 rfl ?_
    refine j_getA (pc := 7) hX kX1 (k := 18) (Nat.le_of_ble_eq_true rfl) q361 (Or.inl rfl) dX1_filed_7 hf (fun x3 hx_ hf => ?_)
    refine j_iload_n (pc := 10) hX dX1_filed_10 rfl ?_
    refine j_aaload (pc := 11) hX dX1_filed_11 hf (fun x4 hx_ hf => ?_)
    refine j_iload_n (pc := 12) hX dX1_filed_12 rfl ?_
    refine j_bipush (pc := 13) hX (24 : Int32) dX1_filed_13 (by decide +kernel) ?_
    obtain ⟨⟨q_, w5⟩, hc_, hf⟩ := zob hf
    cases q_ with
    | inl E_ =>
      cases hf
      exact j_callSX (pc := 15) hX mt_X1_at q507 q508 [vI a2, vI (24 : Int32)] rfl rfl (Nat.le_of_ble_eq_true rfl) (by decide) dX1_filed_15 hN hQ (k_X1_at _ _ hc_)
    | inr x6 =>
      refine j_callS (pc := 15) hX mt_X1_at q507 q508 [vI a2, vI (24 : Int32)] rfl rfl (Nat.le_of_ble_eq_true rfl) (by decide) dX1_filed_15 (k_X1_at _ _ hc_) ?_
      refine j_aaload (pc := 18) hX dX1_filed_18 hf (fun x7 hx_ hf => ?_)
      refine j_iload_n (pc := 19) hX dX1_filed_19 rfl ?_
      obtain ⟨x8, hm_, hf⟩ := zob hf
      have kj20 : zJ X 28 [none, none, none, none] [vI x8, vA x7] w5 := by
        clear hm_
        refine j_laload (pc := 28) hX dX1_filed_28 hf (fun x9 hx_ hf => ?_)
        exact j_lreturn (pc := 29) hX hQ (by cases hf; rfl) dX1_filed_29
      have hf := hm_
      refine j_if_eq (pc := 20) hX 27 dX1_filed_20 rfl hf (fun h_ hf => ?_) (fun h_ hf => ?_)
      · refine j_iconst (pc := 27) hX (0 : Int32) dX1_filed_27 rfl ?_
        refine j_fg [0, 1, 2, 3] [none, none, none, none] rfl ?_
        cases hf
        exact kj20
      · refine j_iconst (pc := 23) hX (1 : Int32) dX1_filed_23 rfl ?_
        refine j_goto (pc := 24) hX 28 dX1_filed_24 rfl ?_
        refine j_fg [0, 1, 2, 3] [none, none, none, none] rfl ?_
        cases hf
        exact kj20
def f_X1_corrections (n : Nat) (a0 : Option Nat) (a1 : Int32) (a2 : Int32) (w : zWd) : Option ((String ⊕ Int32) × zWd) :=
  zBX (f_X1_at n a1 (3 : Int32) w) fun x2 w1 =>
  (gA w1 0 19 a0).bind fun x3 =>
  (aA w1 x3 a1).bind fun x4 =>
  zBX (f_X1_at n a2 (24 : Int32) w1) fun x6 w5 =>
  (aI w5 x4 x6).bind fun x7 =>
  some (.inr x7, w5)
theorem mt_X1_corrections : zMt yX1_corrections cX1_corrections 3 (some .int) 2 := ⟨q2238, q66, ⟨by decide, by decide⟩, by decide +kernel, by decide⟩
set_option maxHeartbeats 4000000 in
theorem k_X1_corrections {l : Launch} {n : Nat} {a0 : Option Nat} {a1 : Int32} {a2 : Int32} {w : zWd} (r : String ⊕ Int32) (w9 : zWd) (hf : f_X1_corrections n a0 a1 a2 w = some (r, w9)) : zCt l yX1_corrections cX1_corrections 3 (some .int) 7 [vA a0, vI a1, vI a2] w (zXI r w9) := by
  refine zCt_of (lv := [some (vA a0), some (vI a1), some (vI a2)]) (by decide +kernel) 0 rfl rfl ?_
  intro X hX hI hN hQ
  have hX : zGd X RX1 cX1_corrections 3 (some .int) 7 := hX
  unfold f_X1_corrections at hf
  refine j_iload_n (pc := 0) hX dX1_corrections_0 rfl ?_
  refine j_iconst (pc := 1) hX (3 : Int32) dX1_corrections_1 rfl ?_
  obtain ⟨⟨q_, w1⟩, hc_, hf⟩ := zob hf
  cases q_ with
  | inl E_ =>
    cases hf
    exact j_callSX (pc := 2) hX mt_X1_at q507 q508 [vI a1, vI (3 : Int32)] rfl rfl (Nat.le_of_ble_eq_true rfl) (by decide) dX1_corrections_2 hN hQ (k_X1_at _ _ hc_)
  | inr x2 =>
    refine j_callS (pc := 2) hX mt_X1_at q507 q508 [vI a1, vI (3 : Int32)] rfl rfl (Nat.le_of_ble_eq_true rfl) (by decide) dX1_corrections_2 (k_X1_at _ _ hc_) ?_
    refine j_pop (pc := 5) hX rfl dX1_corrections_5 ?_
    refine j_aload_n (pc := 6) hX dX1_corrections_6 rfl ?_
    refine j_getA (pc := 7) hX kX1 (k := 19) (Nat.le_of_ble_eq_true rfl) q362 (Or.inl rfl) dX1_corrections_7 hf (fun x3 hx_ hf => ?_)
    refine j_iload_n (pc := 10) hX dX1_corrections_10 rfl ?_
    refine j_aaload (pc := 11) hX dX1_corrections_11 hf (fun x4 hx_ hf => ?_)
    refine j_iload_n (pc := 12) hX dX1_corrections_12 rfl ?_
    refine j_bipush (pc := 13) hX (24 : Int32) dX1_corrections_13 (by decide +kernel) ?_
    obtain ⟨⟨q_, w5⟩, hc_, hf⟩ := zob hf
    cases q_ with
    | inl E_ =>
      cases hf
      exact j_callSX (pc := 15) hX mt_X1_at q507 q508 [vI a2, vI (24 : Int32)] rfl rfl (Nat.le_of_ble_eq_true rfl) (by decide) dX1_corrections_15 hN hQ (k_X1_at _ _ hc_)
    | inr x6 =>
      refine j_callS (pc := 15) hX mt_X1_at q507 q508 [vI a2, vI (24 : Int32)] rfl rfl (Nat.le_of_ble_eq_true rfl) (by decide) dX1_corrections_15 (k_X1_at _ _ hc_) ?_
      refine j_iaload (pc := 18) hX dX1_corrections_18 hf (fun x7 hx_ hf => ?_)
      exact j_ireturn (pc := 19) hX hQ (by cases hf; rfl) dX1_corrections_19
