set_option maxRecDepth 100000
/-! THE LAW'S LOOP AND START -/
def Ops (N s L x b out : Nat) (xs : Nat → Int32) (S : Nat → zWd → zM → Prop) : Prop :=
  Op_contract N s L x b out xs S ∧
  Op_pay N s L x b out xs S ∧
  Op_shift N s L x b out xs S ∧
  Op_minutes N s L x b out xs S ∧
  Op_overtime N s L x b out xs S ∧
  Op_base N s L x b out xs S ∧
  Op_leaveRule N s L x b out xs S ∧
  Op_leave N s L x b out xs S ∧
  Op_leaveLeft N s L x b out xs S ∧
  Op_word N s L x b out xs S ∧
  Op_element N s L x b out xs S ∧
  Op_order N s L x b out xs S ∧
  Op_bonus N s L x b out xs S ∧
  Op_contribution N s L x b out xs S ∧
  Op_bracket N s L x b out xs S ∧
  Op_state N s L x b out xs S ∧
  Op_pension N s L x b out xs S ∧
  Op_yearTax N s L x b out xs S ∧
  Op_slip N s L x b out xs S ∧
  Op_slipIn N s L x b out xs S ∧
  Op_elementOf N s L x b out xs S ∧
  Op_pensionOf N s L x b out xs S ∧
  Op_grossFor N s L x b out xs S ∧
  Op_garnish N s L x b out xs S ∧
  Op_takenBy N s L x b out xs S ∧
  Op_advance N s L x b out xs S ∧
  Op_open N s L x b out xs S ∧
  Op_close N s L x b out xs S ∧
  Op_payments N s L x b out xs S ∧
  Op_payment N s L x b out xs S ∧
  Op_comeBack N s L x b out xs S ∧
  Op_owed N s L x b out xs S ∧
  Op_filed N s L x b out xs S ∧
  Op_corrections N s L x b out xs S
theorem lw_len {s L x b out : Nat} {xs : Nat → Int32} {w : zWd} {M : zM} (h : zLI s L x b out xs w M) : (aN w (some s)).bind some = some (nI L) := by
  obtain ⟨⟨fl, h1⟩, -⟩ := h
  simp only [aN]
  rw [h1]
  rfl
theorem lwI_add {a b : Nat} : nI a + nI b = nI (a + b) := by
  unfold nI
  exact (Int32.ofNat_add a b).symm
theorem lw_exit {L n : Nat} (hL : L ≤ 512) (hn : 8 * n ≤ 512) : nI L - 8 < nI (8 * n) ↔ L < 8 * n + 8 := by
  rw [Int32.lt_iff_toInt_lt, nI_toInt (by omega), Int32.toInt_sub, nI_toInt (by omega), show (8 : Int32).toInt = 8 from rfl, Int.bmod_eq_of_le (by omega) (by omega)]
  omega
set_option maxHeartbeats 4000000 in
theorem law_loop {X : zX} (hX : zGd X RX0 cL_law 8 ret 24) {s L x b out N : Nat} {xs : Nat → Int32} {S : Nat → zWd → zM → Prop} (hL : L ≤ 512) (ops : Ops N s L x b out xs S) (hS : ∀ n w M, n < 64 → S n w M → S (n + 1) w M)
    (fin : ∀ (w : zWd) (M : zM) (i : Int32), zLI s L x b out xs w M → zJ X 2697 [some (vA (some s)), some (vA (some x)), some (vA (some b)), some (vA (some out)), some (vI i), none, none, none] [] w) : ∀ (m n : Nat), n + m = 64 → ∀ (w : zWd) (M : zM), zLI s L x b out xs w M → S n w M → zJ X 23 [some (vA (some s)), some (vA (some x)), some (vA (some b)), some (vA (some out)), some (vI (nI (8 * n))), none, none, none] [] w := by
  intro m
  induction m with
  | zero =>
    intro n hnm w M hc hSn
    have hn : n = 64 := by omega
    subst hn
    refine j_iload (pc := 23) hX dL_law_23 rfl ?_
    refine j_aload_n (pc := 25) hX dL_law_25 rfl ?_
    refine j_alen (pc := 26) (f := some) (o := nI L) hX dL_law_26 (lw_len hc) (fun y _ hy => ?_)
    cases hy
    refine j_bipush (pc := 27) hX (8 : Int32) dL_law_27 (by decide +kernel) ?_
    refine j_isub (pc := 29) hX dL_law_29 ?_
    refine j_icmp_gt (pc := 30) hX 2697 (A := some ()) (B := some ()) (o := ()) dL_law_30 rfl (by split <;> rfl) (fun _ _ => fin w M _ hc) (fun h_ _ => absurd ((lw_exit hL (by omega)).mpr (by omega)) h_)
  | succ m ih =>
    intro n hnm w M hc hSn
    have hn : n < 64 := by omega
    refine j_iload (pc := 23) hX dL_law_23 rfl ?_
    refine j_aload_n (pc := 25) hX dL_law_25 rfl ?_
    refine j_alen (pc := 26) (f := some) (o := nI L) hX dL_law_26 (lw_len hc) (fun y _ hy => ?_)
    cases hy
    refine j_bipush (pc := 27) hX (8 : Int32) dL_law_27 (by decide +kernel) ?_
    refine j_isub (pc := 29) hX dL_law_29 ?_
    refine j_icmp_gt (pc := 30) hX 2697 (A := some ()) (B := some ()) (o := ()) dL_law_30 rfl (by split <;> rfl) (fun _ _ => fin w M _ hc) (fun h_ _ => ?_)
    have hlt : 8 * n + 8 ≤ L := Nat.not_lt.mp fun q => h_ ((lw_exit hL (by omega)).mpr q)
    have hbd : ∀ j : Nat, j < 8 → ¬ (nI (8 * n + j) < 0 ∨ L ≤ (nI (8 * n + j)).toNatClampNeg) := fun j hj q => by
      rcases q with q | q
      · exact nI_pos (by omega) q
      · rw [nI_clamp (by omega)] at q
        omega
    have hb : ∀ j ∈ [(1 : Int32), 2, 3, 4, 5, 6, 7], ¬ (nI (8 * n) + j < 0 ∨ L ≤ (nI (8 * n) + j).toNatClampNeg) := by
      intro j hj
      simp only [List.mem_cons, List.not_mem_nil, or_false] at hj
      rcases hj with rfl | rfl | rfl | rfl | rfl | rfl | rfl
      · rw [show nI (8 * n) + 1 = nI (8 * n + 1) from lwI_add (b := 1)]; exact hbd 1 (by omega)
      · rw [show nI (8 * n) + 2 = nI (8 * n + 2) from lwI_add (b := 2)]; exact hbd 2 (by omega)
      · rw [show nI (8 * n) + 3 = nI (8 * n + 3) from lwI_add (b := 3)]; exact hbd 3 (by omega)
      · rw [show nI (8 * n) + 4 = nI (8 * n + 4) from lwI_add (b := 4)]; exact hbd 4 (by omega)
      · rw [show nI (8 * n) + 5 = nI (8 * n + 5) from lwI_add (b := 5)]; exact hbd 5 (by omega)
      · rw [show nI (8 * n) + 6 = nI (8 * n + 6) from lwI_add (b := 6)]; exact hbd 6 (by omega)
      · rw [show nI (8 * n) + 7 = nI (8 * n + 7) from lwI_add (b := 7)]; exact hbd 7 (by omega)
    have next : ∀ w' M', zLI s L x b out xs w' M' → S (n + 1) w' M' → zJ X 2691 [some (vA (some s)), some (vA (some x)), some (vA (some b)), some (vA (some out)), some (vI (nI (8 * n))), none, none, none] [] w' := by
      intro w' M' hc' hS'
      refine j_iinc (pc := 2691) hX (8) dL_law_2691 rfl rfl (by decide) [some (vA (some s)), some (vA (some x)), some (vA (some b)), some (vA (some out)), some (vI (nI (8 * n) + (8))), none, none, none] rfl ?_
      rw [show nI (8 * n) + 8 = nI (8 * (n + 1)) from lwI_add (b := 8)]
      refine j_goto (pc := 2694) hX 23 dL_law_2694 rfl ?_
      exact ih (n + 1) (by omega) w' M' hc' hS'
    refine j_aload_n (pc := 33) hX dL_law_33 rfl ?_
    refine j_iload (pc := 34) hX dL_law_34 rfl ?_
    refine j_rd (pc := 36) hX (v := xs (8 * n)) hc.1 (hbd 0 (by omega)) (by rw [nI_clamp (by omega)]) dL_law_36 ?_
    refine j_bipush (pc := 37) hX (63 : Int32) dL_law_37 (by decide +kernel) ?_
    refine j_iand (pc := 39) hX dL_law_39 ?_
    generalize xs (8 * n) &&& 63 = q
    unfold Ops at ops
    obtain ⟨o0, o1, o2, o3, o4, o5, o6, o7, o8, o9, o10, o11, o12, o13, o14, o15, o16, o17, o18, o19, o20, o21, o22, o23, o24, o25, o26, o27, o28, o29, o30, o31, o32, o33⟩ := ops
    by_cases h0 : q = (0 : Int32)
    · exact j_tsIn (pc := 40) hX 192 dL_law_40 0 (by rw [h0]; rfl) (by decide) rfl rfl (lc_contract hX hn hc hSn o0 hb next)
    by_cases h1 : q = (1 : Int32)
    · exact j_tsIn (pc := 40) hX 340 dL_law_40 1 (by rw [h1]; rfl) (by decide) rfl rfl (lc_pay hX hn hc hSn o1 hb next)
    by_cases h2 : q = (2 : Int32)
    · exact j_tsIn (pc := 40) hX 420 dL_law_40 2 (by rw [h2]; rfl) (by decide) rfl rfl (lc_shift hX hn hc hSn o2 hb next)
    by_cases h3 : q = (3 : Int32)
    · exact j_tsIn (pc := 40) hX 512 dL_law_40 3 (by rw [h3]; rfl) (by decide) rfl rfl (lc_minutes hX hn hc hSn o3 hb next)
    by_cases h4 : q = (4 : Int32)
    · exact j_tsIn (pc := 40) hX 580 dL_law_40 4 (by rw [h4]; rfl) (by decide) rfl rfl (lc_overtime hX hn hc hSn o4 hb next)
    by_cases h5 : q = (5 : Int32)
    · exact j_tsIn (pc := 40) hX 648 dL_law_40 5 (by rw [h5]; rfl) (by decide) rfl rfl (lc_base hX hn hc hSn o5 hb next)
    by_cases h6 : q = (6 : Int32)
    · exact j_tsIn (pc := 40) hX 715 dL_law_40 6 (by rw [h6]; rfl) (by decide) rfl rfl (lc_leaveRule hX hn hc hSn o6 hb next)
    by_cases h7 : q = (7 : Int32)
    · exact j_tsIn (pc := 40) hX 775 dL_law_40 7 (by rw [h7]; rfl) (by decide) rfl rfl (lc_leave hX hn hc hSn o7 hb next)
    by_cases h8 : q = (8 : Int32)
    · exact j_tsIn (pc := 40) hX 850 dL_law_40 8 (by rw [h8]; rfl) (by decide) rfl rfl (lc_leaveLeft hX hn hc hSn o8 hb next)
    by_cases h9 : q = (9 : Int32)
    · exact j_tsIn (pc := 40) hX 918 dL_law_40 9 (by rw [h9]; rfl) (by decide) rfl rfl (lc_word hX hn hc hSn o9 hb next)
    by_cases h10 : q = (10 : Int32)
    · exact j_tsIn (pc := 40) hX 986 dL_law_40 10 (by rw [h10]; rfl) (by decide) rfl rfl (lc_element hX hn hc hSn o10 hb next)
    by_cases h11 : q = (11 : Int32)
    · exact j_tsIn (pc := 40) hX 1054 dL_law_40 11 (by rw [h11]; rfl) (by decide) rfl rfl (lc_order hX hn hc hSn o11 hb next)
    by_cases h12 : q = (12 : Int32)
    · exact j_tsIn (pc := 40) hX 1110 dL_law_40 12 (by rw [h12]; rfl) (by decide) rfl rfl (lc_bonus hX hn hc hSn o12 hb next)
    by_cases h13 : q = (13 : Int32)
    · exact j_tsIn (pc := 40) hX 1202 dL_law_40 13 (by rw [h13]; rfl) (by decide) rfl rfl (lc_contribution hX hn hc hSn o13 hb next)
    by_cases h14 : q = (14 : Int32)
    · exact j_tsIn (pc := 40) hX 1274 dL_law_40 14 (by rw [h14]; rfl) (by decide) rfl rfl (lc_bracket hX hn hc hSn o14 hb next)
    by_cases h15 : q = (15 : Int32)
    · exact j_tsIn (pc := 40) hX 1378 dL_law_40 15 (by rw [h15]; rfl) (by decide) rfl rfl (lc_state hX hn hc hSn o15 hb next)
    by_cases h16 : q = (16 : Int32)
    · exact j_tsIn (pc := 40) hX 1438 dL_law_40 16 (by rw [h16]; rfl) (by decide) rfl rfl (lc_pension hX hn hc hSn o16 hb next)
    by_cases h17 : q = (17 : Int32)
    · exact j_tsIn (pc := 40) hX 1498 dL_law_40 17 (by rw [h17]; rfl) (by decide) rfl rfl (lc_yearTax hX hn hc hSn o17 hb next)
    by_cases h18 : q = (18 : Int32)
    · exact j_tsIn (pc := 40) hX 1621 dL_law_40 18 (by rw [h18]; rfl) (by decide) rfl rfl (lc_slip hX hn hc hSn o18 hb next)
    by_cases h19 : q = (19 : Int32)
    · exact j_tsIn (pc := 40) hX 1700 dL_law_40 19 (by rw [h19]; rfl) (by decide) rfl rfl (lc_slipIn hX hn hc hSn o19 hb next)
    by_cases h20 : q = (20 : Int32)
    · exact j_tsIn (pc := 40) hX 1791 dL_law_40 20 (by rw [h20]; rfl) (by decide) rfl rfl (lc_elementOf hX hn hc hSn o20 hb next)
    by_cases h21 : q = (21 : Int32)
    · exact j_tsIn (pc := 40) hX 1870 dL_law_40 21 (by rw [h21]; rfl) (by decide) rfl rfl (lc_pensionOf hX hn hc hSn o21 hb next)
    by_cases h22 : q = (22 : Int32)
    · exact j_tsIn (pc := 40) hX 1937 dL_law_40 22 (by rw [h22]; rfl) (by decide) rfl rfl (lc_grossFor hX hn hc hSn o22 hb next)
    by_cases h23 : q = (23 : Int32)
    · exact j_tsIn (pc := 40) hX 2029 dL_law_40 23 (by rw [h23]; rfl) (by decide) rfl rfl (lc_garnish hX hn hc hSn o23 hb next)
    by_cases h24 : q = (24 : Int32)
    · exact j_tsIn (pc := 40) hX 2147 dL_law_40 24 (by rw [h24]; rfl) (by decide) rfl rfl (lc_takenBy hX hn hc hSn o24 hb next)
    by_cases h25 : q = (25 : Int32)
    · exact j_tsIn (pc := 40) hX 2214 dL_law_40 25 (by rw [h25]; rfl) (by decide) rfl rfl (lc_advance hX hn hc hSn o25 hb next)
    by_cases h26 : q = (26 : Int32)
    · exact j_tsIn (pc := 40) hX 2281 dL_law_40 26 (by rw [h26]; rfl) (by decide) rfl rfl (lc_open hX hn hc hSn o26 hb next)
    by_cases h27 : q = (27 : Int32)
    · exact j_tsIn (pc := 40) hX 2294 dL_law_40 27 (by rw [h27]; rfl) (by decide) rfl rfl (lc_close hX hn hc hSn o27 hb next)
    by_cases h28 : q = (28 : Int32)
    · exact j_tsIn (pc := 40) hX 2338 dL_law_40 28 (by rw [h28]; rfl) (by decide) rfl rfl (lc_payments hX hn hc hSn o28 hb next)
    by_cases h29 : q = (29 : Int32)
    · exact j_tsIn (pc := 40) hX 2351 dL_law_40 29 (by rw [h29]; rfl) (by decide) rfl rfl (lc_payment hX hn hc hSn o29 hb next)
    by_cases h30 : q = (30 : Int32)
    · exact j_tsIn (pc := 40) hX 2418 dL_law_40 30 (by rw [h30]; rfl) (by decide) rfl rfl (lc_comeBack hX hn hc hSn o30 hb next)
    by_cases h31 : q = (31 : Int32)
    · exact j_tsIn (pc := 40) hX 2473 dL_law_40 31 (by rw [h31]; rfl) (by decide) rfl rfl (lc_owed hX hn hc hSn o31 hb next)
    by_cases h32 : q = (32 : Int32)
    · exact j_tsIn (pc := 40) hX 2528 dL_law_40 32 (by rw [h32]; rfl) (by decide) rfl rfl (lc_filed hX hn hc hSn o32 hb next)
    by_cases h33 : q = (33 : Int32)
    · exact j_tsIn (pc := 40) hX 2623 dL_law_40 33 (by rw [h33]; rfl) (by decide) rfl rfl (lc_corrections hX hn hc hSn o33 hb next)
    refine j_tsOut (pc := 40) hX 2691 dL_law_40 (fun k_ h1_ h2_ => by
      have h3_ : k_ = 0 ∨ k_ = 1 ∨ k_ = 2 ∨ k_ = 3 ∨ k_ = 4 ∨ k_ = 5 ∨ k_ = 6 ∨ k_ = 7 ∨ k_ = 8 ∨ k_ = 9 ∨ k_ = 10 ∨ k_ = 11 ∨ k_ = 12 ∨ k_ = 13 ∨ k_ = 14 ∨ k_ = 15 ∨ k_ = 16 ∨ k_ = 17 ∨ k_ = 18 ∨ k_ = 19 ∨ k_ = 20 ∨ k_ = 21 ∨ k_ = 22 ∨ k_ = 23 ∨ k_ = 24 ∨ k_ = 25 ∨ k_ = 26 ∨ k_ = 27 ∨ k_ = 28 ∨ k_ = 29 ∨ k_ = 30 ∨ k_ = 31 ∨ k_ = 32 ∨ k_ = 33 := by omega
      rcases h3_ with rfl | rfl | rfl | rfl | rfl | rfl | rfl | rfl | rfl | rfl | rfl | rfl | rfl | rfl | rfl | rfl | rfl | rfl | rfl | rfl | rfl | rfl | rfl | rfl | rfl | rfl | rfl | rfl | rfl | rfl | rfl | rfl | rfl | rfl <;> assumption) (by decide) rfl ?_
    exact next w M hc (hS n w M hn hSn)
/-- the start: a component, a model, an out cell -/
def Start (N s L x b out : Nat) (xs : Nat → Int32) (S : Nat → zWd → zM → Prop) (w0 : zWd) : Prop := ∃ (w1 w2 w3 w4 w5 : zWd) (M0 : zM), zNew w0 20 (.inr (0, df_X1)) = some (some x, w1) ∧ f_X1_init N (some x) w1 = some w2 ∧ zNew w2 70 (.inr (3, df_X4)) = some (some b, w3) ∧ f_X4_init N (some b) w3 = some w4 ∧ nL_ w4 1 = some (some out, w5) ∧ zLI s L x b out xs w5 M0 ∧ S 0 w5 M0
theorem law_start {X : zX} (hX : zGd X RX0 cL_law 8 ret 24) {s L x b out N : Nat} {xs : Nat → Int32} {S : Nat → zWd → zM → Prop} (hL : L ≤ 512) (ops : Ops N s L x b out xs S) (hS : ∀ n w M, n < 64 → S n w M → S (n + 1) w M)
    (fin : ∀ (w : zWd) (M : zM) (i : Int32), zLI s L x b out xs w M → zJ X 2697 [some (vA (some s)), some (vA (some x)), some (vA (some b)), some (vA (some out)), some (vI i), none, none, none] [] w) {w0 : zWd} (hw : Start N s L x b out xs S w0) : zJ X 0 [some (vA (some s)), none, none, none, none, none, none, none] [] w0 := by
  obtain ⟨w1, w2, w3, w4, w5, M0, e1, e2, e3, e4, e5, hc, hS0⟩ := hw
  refine j_new (pc := 0) hX kX1 q118 q119 q66 df_X1 df_X1_ok dL_law_0 (f := some) (o := (some x, w1)) (by rw [e1]; rfl) (fun x' w' hf => ?_)
  cases hf
  refine j_dup (pc := 3) hX rfl dL_law_3 ?_
  refine j_callI (pc := 4) hX mt_X1_init q120 q121 rfl rfl [] rfl rfl (Nat.le_of_ble_eq_true rfl) (by decide) dL_law_4 (fun h_ => nomatch h_) (k_X1_init () _ e2) ?_
  refine j_astore_n (pc := 7) hX dL_law_7 (by decide) [some (vA (some s)), some (vA (some x)), none, none, none, none, none, none] rfl ?_
  refine j_new (pc := 8) hX kX4 q2239 q2240 q82 df_X4 df_X4_ok dL_law_8 (f := some) (o := (some b, w3)) (by rw [e3]; rfl) (fun x' w' hf => ?_)
  cases hf
  refine j_dup (pc := 11) hX rfl dL_law_11 ?_
  refine j_callI (pc := 12) hX mt_X4_init q2241 q2242 rfl rfl [] rfl rfl (Nat.le_of_ble_eq_true rfl) (by decide) dL_law_12 (fun h_ => nomatch h_) (k_X4_init () _ e4) ?_
  refine j_astore_n (pc := 15) hX dL_law_15 (by decide) [some (vA (some s)), some (vA (some x)), some (vA (some b)), none, none, none, none, none] rfl ?_
  refine j_iconst (pc := 16) hX (1 : Int32) dL_law_16 rfl ?_
  refine j_newarrL (pc := 17) hX q181 dL_law_17 (f := some) (o := (some out, w5)) (by rw [e5]; rfl) (fun x' w' hf => ?_)
  cases hf
  refine j_astore_n (pc := 19) hX dL_law_19 (by decide) [some (vA (some s)), some (vA (some x)), some (vA (some b)), some (vA (some out)), none, none, none, none] rfl ?_
  refine j_iconst (pc := 20) hX (0 : Int32) dL_law_20 rfl ?_
  refine j_istore (pc := 21) hX dL_law_21 (by decide) [some (vA (some s)), some (vA (some x)), some (vA (some b)), some (vA (some out)), some (vI 0), none, none, none] rfl ?_
  exact law_loop hX hL ops hS fin 64 0 rfl w5 M0 hc hS0
