set_option maxRecDepth 100000
/-! THE LAW'S HELPERS -/
theorem zRet {X : zX} {own : String} {cc : ByteArray} {nL : Nat} {ret : Option FieldType} {h : Nat} (hX : zGd X own cc nL ret h) {w0 : zWd} {Rr : Option zLV → zWd → Prop} (hQ : zFinR X w0 Rr) {v : Option zLV} {w2 : zWd} (hR : Rr v w2) {pc : Nat} {lv : List (Option zLV)} {st : List zLV} {w : zWd} (k : ∀ X' : zX, zGd X' own cc nL ret h → zFin X' w0 (.inr (v, w2)) → zJ X' pc lv st w) : zJ X pc lv st w := by
  intro H ls locs cells slots h1 h2 h3 h4 h5
  have k9 := k (X.1, X.2.1, (X.2.2.1, (fun t => ∃ oc, t.status = .running ∧ Ended t X.2.1.2.2.1 oc ∧ zQc X.2.2.2.2 w0 (.inr (v, w2)) X.2.1.2.1 X.1.2.2.2.2 oc t), X.2.2.2.2)) hX ⟨rfl, hQ.2⟩ H ls locs cells slots h1 h2 h3 h4 h5
  refine zW_mono ?_ k9
  rw [hQ.1]
  rintro t ⟨oc, a, b, c⟩
  exact ⟨oc, a, b, v, w2, hR, c⟩
def fw_contract (a0 : Option Nat) (a1 : Int32) (a2 : Int32) (a3 : Int32) (a4 : Int32) (a5 : Int32) (a6 : Int32) (a7 : Int32) (a8 : Option Nat) (r : Int32) (w1 : zWd) : Option (Int32 × zWd) :=
  (sL w1 a8 (0 : Int32) (Int32.toInt64 r)).bind fun w3 =>
  some ((0 : Int32), w3)
def cd_contract (E : String) : Int32 := if E = "java/lang/IndexOutOfBoundsException" then 1 else if E = "java/lang/IllegalArgumentException" then 2 else if E = "java/lang/IllegalStateException" then 3 else 0
def Rw_contract (a0 : Option Nat) (a1 : Int32) (a2 : Int32) (a3 : Int32) (a4 : Int32) (a5 : Int32) (a6 : Int32) (a7 : Int32) (a8 : Option Nat) (o : String ⊕ Int32) (w1 : zWd) : Option zLV → zWd → Prop := match o with
  | .inr r => fun v w' => ∃ x, fw_contract a0 a1 a2 a3 a4 a5 a6 a7 a8 r w1 = some (x, w') ∧ v = some (vI x)
  | .inl E => fun v w' => v = some (vI (cd_contract E)) ∧ zTh w1 w'
theorem mw_contract : zMtW yX0_contract cX0_contract 10 (some .int) [(0, 20, 23, 13), (0, 20, 27, 15), (0, 20, 31, 17)] 9 := ⟨q423, q65, ⟨by decide, by decide⟩, by decide +kernel, by decide⟩
set_option maxHeartbeats 4000000 in
theorem kw_contract {l : Launch} {n : Nat} {a0 : Option Nat} {a1 : Int32} {a2 : Int32} {a3 : Int32} {a4 : Int32} {a5 : Int32} {a6 : Int32} {a7 : Int32} {a8 : Option Nat} {w w1 : zWd} (o : String ⊕ Int32) (hi_ : isC w 0 a0 = true) (hf : f_X1_contract n a0 a1 a2 a3 a4 a5 a6 a7 w = some (o, w1)) (h1 : ∀ r, o = .inr r → ∃ x w2, fw_contract a0 a1 a2 a3 a4 a5 a6 a7 a8 r w1 = some (x, w2)) (h2 : ∀ E, o = .inl E → E ∈ ["java/lang/IndexOutOfBoundsException", "java/lang/IllegalArgumentException", "java/lang/IllegalStateException"]) : zCtR l yX0_contract cX0_contract 10 (some .int) [(0, 20, 23, 13), (0, 20, 27, 15), (0, 20, 31, 17)] 11 [vA a0, vI a1, vI a2, vI a3, vI a4, vI a5, vI a6, vI a7, vA a8] w (Rw_contract a0 a1 a2 a3 a4 a5 a6 a7 a8 o w1) := by
  refine zCtR_of (lv := [some (vA a0), some (vI a1), some (vI a2), some (vI a3), some (vI a4), some (vI a5), some (vI a6), some (vI a7), some (vA a8), none]) (by decide +kernel) 1 rfl rfl ?_
  intro X hX hnm hT hQ
  have hX : zGd X RX0 cX0_contract 10 (some .int) 11 := hX
  rcases o with E | r
  · have hE := h2 E rfl
    clear h1 h2
    refine j_aload (pc := 0) hX dX0_contract_0 rfl ?_
    refine j_iconst (pc := 2) hX (0 : Int32) dX0_contract_2 rfl ?_
    refine j_aload_n (pc := 3) hX dX0_contract_3 rfl ?_
    refine j_iload_n (pc := 4) hX dX0_contract_4 rfl ?_
    refine j_iload_n (pc := 5) hX dX0_contract_5 rfl ?_
    refine j_iload_n (pc := 6) hX dX0_contract_6 rfl ?_
    refine j_iload (pc := 7) hX dX0_contract_7 rfl ?_
    refine j_iload (pc := 9) hX dX0_contract_9 rfl ?_
    refine j_iload (pc := 11) hX dX0_contract_11 rfl ?_
    refine j_iload (pc := 13) hX dX0_contract_13 rfl ?_
    simp only [List.mem_cons, List.not_mem_nil, or_false] at hE
    rcases hE with rfl | rfl | rfl
    · refine j_callVC (pc := 15) hX (ci := 0) mt_X1_contract q503 q504 q505 hi_ ⟨_, rfl, rfl⟩ [vI a1, vI a2, vI a3, vI a4, vI a5, vI a6, vI a7] rfl rfl (Nat.le_of_ble_eq_true rfl) (by decide) dX0_contract_15 [] ⟨0, 20, 23, 13⟩ [⟨0, 20, 27, 15⟩, ⟨0, 20, 31, 17⟩] (hT.trans rfl) (fun z hz => nomatch hz) (by decide) (by decide) q424 q512 (fun q_ w2 hth => ?_) (k_X1_contract _ _ hf)
      refine zRet hX hQ (v := some (vI 1)) (w2 := w2) ⟨rfl, hth⟩ (fun X hX hQ => ?_)
      refine j_astore (pc := 23) hX dX0_contract_23 (by decide) [some (vA a0), some (vI a1), some (vI a2), some (vI a3), some (vI a4), some (vI a5), some (vI a6), some (vI a7), some (vA a8), some (vA (some q_))] rfl ?_
      refine j_iconst (pc := 25) hX (1 : Int32) dX0_contract_25 rfl ?_
      exact j_ireturn (pc := 26) hX hQ rfl dX0_contract_26
    · refine j_callVC (pc := 15) hX (ci := 0) mt_X1_contract q503 q504 q505 hi_ ⟨_, rfl, rfl⟩ [vI a1, vI a2, vI a3, vI a4, vI a5, vI a6, vI a7] rfl rfl (Nat.le_of_ble_eq_true rfl) (by decide) dX0_contract_15 [⟨0, 20, 23, 13⟩] ⟨0, 20, 27, 15⟩ [⟨0, 20, 31, 17⟩] (hT.trans rfl) (fun z hz => by
        simp only [List.mem_cons, List.not_mem_nil, or_false] at hz
        rcases hz with rfl
        · exact Or.inr ⟨by decide, "java/lang/IndexOutOfBoundsException", q424, by decide +kernel⟩) (by decide) (by decide) q501 q528 (fun q_ w2 hth => ?_) (k_X1_contract _ _ hf)
      refine zRet hX hQ (v := some (vI 2)) (w2 := w2) ⟨rfl, hth⟩ (fun X hX hQ => ?_)
      refine j_astore (pc := 27) hX dX0_contract_27 (by decide) [some (vA a0), some (vI a1), some (vI a2), some (vI a3), some (vI a4), some (vI a5), some (vI a6), some (vI a7), some (vA a8), some (vA (some q_))] rfl ?_
      refine j_iconst (pc := 29) hX (2 : Int32) dX0_contract_29 rfl ?_
      exact j_ireturn (pc := 30) hX hQ rfl dX0_contract_30
    · refine j_callVC (pc := 15) hX (ci := 0) mt_X1_contract q503 q504 q505 hi_ ⟨_, rfl, rfl⟩ [vI a1, vI a2, vI a3, vI a4, vI a5, vI a6, vI a7] rfl rfl (Nat.le_of_ble_eq_true rfl) (by decide) dX0_contract_15 [⟨0, 20, 23, 13⟩, ⟨0, 20, 27, 15⟩] ⟨0, 20, 31, 17⟩ [] (hT.trans rfl) (fun z hz => by
        simp only [List.mem_cons, List.not_mem_nil, or_false] at hz
        rcases hz with rfl | rfl
        · exact Or.inr ⟨by decide, "java/lang/IndexOutOfBoundsException", q424, by decide +kernel⟩
        · exact Or.inr ⟨by decide, "java/lang/IllegalArgumentException", q501, by decide +kernel⟩) (by decide) (by decide) q502 q548 (fun q_ w2 hth => ?_) (k_X1_contract _ _ hf)
      refine zRet hX hQ (v := some (vI 3)) (w2 := w2) ⟨rfl, hth⟩ (fun X hX hQ => ?_)
      refine j_astore (pc := 31) hX dX0_contract_31 (by decide) [some (vA a0), some (vI a1), some (vI a2), some (vI a3), some (vI a4), some (vI a5), some (vI a6), some (vI a7), some (vA a8), some (vA (some q_))] rfl ?_
      refine j_iconst (pc := 33) hX (3 : Int32) dX0_contract_33 rfl ?_
      exact j_ireturn (pc := 34) hX hQ rfl dX0_contract_34
  · obtain ⟨x, w2, hf2⟩ := h1 r rfl
    refine zRet hX hQ (v := some (vI x)) (w2 := w2) ⟨x, hf2, rfl⟩ (fun X hX hQ => ?_)
    refine j_aload (pc := 0) hX dX0_contract_0 rfl ?_
    refine j_iconst (pc := 2) hX (0 : Int32) dX0_contract_2 rfl ?_
    refine j_aload_n (pc := 3) hX dX0_contract_3 rfl ?_
    refine j_iload_n (pc := 4) hX dX0_contract_4 rfl ?_
    refine j_iload_n (pc := 5) hX dX0_contract_5 rfl ?_
    refine j_iload_n (pc := 6) hX dX0_contract_6 rfl ?_
    refine j_iload (pc := 7) hX dX0_contract_7 rfl ?_
    refine j_iload (pc := 9) hX dX0_contract_9 rfl ?_
    refine j_iload (pc := 11) hX dX0_contract_11 rfl ?_
    refine j_iload (pc := 13) hX dX0_contract_13 rfl ?_
    refine j_callV (pc := 15) hX (ci := 0) mt_X1_contract q503 q504 q505 hi_ ⟨_, rfl, rfl⟩ [vI a1, vI a2, vI a3, vI a4, vI a5, vI a6, vI a7] rfl rfl (Nat.le_of_ble_eq_true rfl) (by decide) dX0_contract_15 (k_X1_contract _ _ hf) ?_
    have hf := hf2
    unfold fw_contract at hf
    refine j_i2l (pc := 18) hX dX0_contract_18 ?_
    refine j_lastore (pc := 19) hX dX0_contract_19 hf (fun w3 hf => ?_)
    refine j_goto (pc := 20) hX 35 dX0_contract_20 rfl ?_
    refine j_iconst (pc := 35) hX (0 : Int32) dX0_contract_35 rfl ?_
    exact j_ireturn (pc := 36) hX hQ (by cases hf; rfl) dX0_contract_36
def fw_pay (a0 : Option Nat) (a1 : Int32) (a2 : Int32) (a3 : Int32) (a4 : Option Nat) (r : Int32) (w1 : zWd) : Option (Int32 × zWd) :=
  (sL w1 a4 (0 : Int32) (Int32.toInt64 r)).bind fun w3 =>
  some ((0 : Int32), w3)
def cd_pay (E : String) : Int32 := if E = "java/lang/IndexOutOfBoundsException" then 1 else if E = "java/lang/IllegalArgumentException" then 2 else 0
def Rw_pay (a0 : Option Nat) (a1 : Int32) (a2 : Int32) (a3 : Int32) (a4 : Option Nat) (o : String ⊕ Int32) (w1 : zWd) : Option zLV → zWd → Prop := match o with
  | .inr r => fun v w' => ∃ x, fw_pay a0 a1 a2 a3 a4 r w1 = some (x, w') ∧ v = some (vI x)
  | .inl E => fun v w' => v = some (vI (cd_pay E)) ∧ zTh w1 w'
theorem mw_pay : zMtW yX0_pay cX0_pay 6 (some .int) [(0, 12, 15, 13), (0, 12, 19, 15)] 5 := ⟨q955, q65, ⟨by decide, by decide⟩, by decide +kernel, by decide⟩
set_option maxHeartbeats 4000000 in
theorem kw_pay {l : Launch} {n : Nat} {a0 : Option Nat} {a1 : Int32} {a2 : Int32} {a3 : Int32} {a4 : Option Nat} {w w1 : zWd} (o : String ⊕ Int32) (hi_ : isC w 0 a0 = true) (hf : f_X1_pay n a0 a1 a2 a3 w = some (o, w1)) (h1 : ∀ r, o = .inr r → ∃ x w2, fw_pay a0 a1 a2 a3 a4 r w1 = some (x, w2)) (h2 : ∀ E, o = .inl E → E ∈ ["java/lang/IndexOutOfBoundsException", "java/lang/IllegalArgumentException"]) : zCtR l yX0_pay cX0_pay 6 (some .int) [(0, 12, 15, 13), (0, 12, 19, 15)] 10 [vA a0, vI a1, vI a2, vI a3, vA a4] w (Rw_pay a0 a1 a2 a3 a4 o w1) := by
  refine zCtR_of (lv := [some (vA a0), some (vI a1), some (vI a2), some (vI a3), some (vA a4), none]) (by decide +kernel) 1 rfl rfl ?_
  intro X hX hnm hT hQ
  have hX : zGd X RX0 cX0_pay 6 (some .int) 10 := hX
  rcases o with E | r
  · have hE := h2 E rfl
    clear h1 h2
    refine j_aload (pc := 0) hX dX0_pay_0 rfl ?_
    refine j_iconst (pc := 2) hX (0 : Int32) dX0_pay_2 rfl ?_
    refine j_aload_n (pc := 3) hX dX0_pay_3 rfl ?_
    refine j_iload_n (pc := 4) hX dX0_pay_4 rfl ?_
    refine j_iload_n (pc := 5) hX dX0_pay_5 rfl ?_
    refine j_iload_n (pc := 6) hX dX0_pay_6 rfl ?_
    simp only [List.mem_cons, List.not_mem_nil, or_false] at hE
    rcases hE with rfl | rfl
    · refine j_callVC (pc := 7) hX (ci := 0) mt_X1_pay q956 q957 q958 hi_ ⟨_, rfl, rfl⟩ [vI a1, vI a2, vI a3] rfl rfl (Nat.le_of_ble_eq_true rfl) (by decide) dX0_pay_7 [] ⟨0, 12, 15, 13⟩ [⟨0, 12, 19, 15⟩] (hT.trans rfl) (fun z hz => nomatch hz) (by decide) (by decide) q424 q512 (fun q_ w2 hth => ?_) (k_X1_pay _ _ hf)
      refine zRet hX hQ (v := some (vI 1)) (w2 := w2) ⟨rfl, hth⟩ (fun X hX hQ => ?_)
      refine j_astore (pc := 15) hX dX0_pay_15 (by decide) [some (vA a0), some (vI a1), some (vI a2), some (vI a3), some (vA a4), some (vA (some q_))] rfl ?_
      refine j_iconst (pc := 17) hX (1 : Int32) dX0_pay_17 rfl ?_
      exact j_ireturn (pc := 18) hX hQ rfl dX0_pay_18
    · refine j_callVC (pc := 7) hX (ci := 0) mt_X1_pay q956 q957 q958 hi_ ⟨_, rfl, rfl⟩ [vI a1, vI a2, vI a3] rfl rfl (Nat.le_of_ble_eq_true rfl) (by decide) dX0_pay_7 [⟨0, 12, 15, 13⟩] ⟨0, 12, 19, 15⟩ [] (hT.trans rfl) (fun z hz => by
        simp only [List.mem_cons, List.not_mem_nil, or_false] at hz
        rcases hz with rfl
        · exact Or.inr ⟨by decide, "java/lang/IndexOutOfBoundsException", q424, by decide +kernel⟩) (by decide) (by decide) q501 q528 (fun q_ w2 hth => ?_) (k_X1_pay _ _ hf)
      refine zRet hX hQ (v := some (vI 2)) (w2 := w2) ⟨rfl, hth⟩ (fun X hX hQ => ?_)
      refine j_astore (pc := 19) hX dX0_pay_19 (by decide) [some (vA a0), some (vI a1), some (vI a2), some (vI a3), some (vA a4), some (vA (some q_))] rfl ?_
      refine j_iconst (pc := 21) hX (2 : Int32) dX0_pay_21 rfl ?_
      exact j_ireturn (pc := 22) hX hQ rfl dX0_pay_22
  · obtain ⟨x, w2, hf2⟩ := h1 r rfl
    refine zRet hX hQ (v := some (vI x)) (w2 := w2) ⟨x, hf2, rfl⟩ (fun X hX hQ => ?_)
    refine j_aload (pc := 0) hX dX0_pay_0 rfl ?_
    refine j_iconst (pc := 2) hX (0 : Int32) dX0_pay_2 rfl ?_
    refine j_aload_n (pc := 3) hX dX0_pay_3 rfl ?_
    refine j_iload_n (pc := 4) hX dX0_pay_4 rfl ?_
    refine j_iload_n (pc := 5) hX dX0_pay_5 rfl ?_
    refine j_iload_n (pc := 6) hX dX0_pay_6 rfl ?_
    refine j_callV (pc := 7) hX (ci := 0) mt_X1_pay q956 q957 q958 hi_ ⟨_, rfl, rfl⟩ [vI a1, vI a2, vI a3] rfl rfl (Nat.le_of_ble_eq_true rfl) (by decide) dX0_pay_7 (k_X1_pay _ _ hf) ?_
    have hf := hf2
    unfold fw_pay at hf
    refine j_i2l (pc := 10) hX dX0_pay_10 ?_
    refine j_lastore (pc := 11) hX dX0_pay_11 hf (fun w3 hf => ?_)
    refine j_goto (pc := 12) hX 23 dX0_pay_12 rfl ?_
    refine j_iconst (pc := 23) hX (0 : Int32) dX0_pay_23 rfl ?_
    exact j_ireturn (pc := 24) hX hQ (by cases hf; rfl) dX0_pay_24
def fw_shift (a0 : Option Nat) (a1 : Int32) (a2 : Int32) (a3 : Int32) (a4 : Int32) (a5 : Option Nat) (r : Int32) (w1 : zWd) : Option (Int32 × zWd) :=
  (sL w1 a5 (0 : Int32) (Int32.toInt64 r)).bind fun w3 =>
  some ((0 : Int32), w3)
def cd_shift (E : String) : Int32 := if E = "java/lang/IndexOutOfBoundsException" then 1 else if E = "java/lang/IllegalArgumentException" then 2 else if E = "java/lang/IllegalStateException" then 3 else 0
def Rw_shift (a0 : Option Nat) (a1 : Int32) (a2 : Int32) (a3 : Int32) (a4 : Int32) (a5 : Option Nat) (o : String ⊕ Int32) (w1 : zWd) : Option zLV → zWd → Prop := match o with
  | .inr r => fun v w' => ∃ x, fw_shift a0 a1 a2 a3 a4 a5 r w1 = some (x, w') ∧ v = some (vI x)
  | .inl E => fun v w' => v = some (vI (cd_shift E)) ∧ zTh w1 w'
theorem mw_shift : zMtW yX0_shift cX0_shift 7 (some .int) [(0, 14, 17, 13), (0, 14, 21, 15), (0, 14, 25, 17)] 6 := ⟨q990, q65, ⟨by decide, by decide⟩, by decide +kernel, by decide⟩
set_option maxHeartbeats 4000000 in
theorem kw_shift {l : Launch} {n : Nat} {a0 : Option Nat} {a1 : Int32} {a2 : Int32} {a3 : Int32} {a4 : Int32} {a5 : Option Nat} {w w1 : zWd} (o : String ⊕ Int32) (hi_ : isC w 0 a0 = true) (hf : f_X1_shift n a0 a1 a2 a3 a4 w = some (o, w1)) (h1 : ∀ r, o = .inr r → ∃ x w2, fw_shift a0 a1 a2 a3 a4 a5 r w1 = some (x, w2)) (h2 : ∀ E, o = .inl E → E ∈ ["java/lang/IndexOutOfBoundsException", "java/lang/IllegalArgumentException", "java/lang/IllegalStateException"]) : zCtR l yX0_shift cX0_shift 7 (some .int) [(0, 14, 17, 13), (0, 14, 21, 15), (0, 14, 25, 17)] 10 [vA a0, vI a1, vI a2, vI a3, vI a4, vA a5] w (Rw_shift a0 a1 a2 a3 a4 a5 o w1) := by
  refine zCtR_of (lv := [some (vA a0), some (vI a1), some (vI a2), some (vI a3), some (vI a4), some (vA a5), none]) (by decide +kernel) 1 rfl rfl ?_
  intro X hX hnm hT hQ
  have hX : zGd X RX0 cX0_shift 7 (some .int) 10 := hX
  rcases o with E | r
  · have hE := h2 E rfl
    clear h1 h2
    refine j_aload (pc := 0) hX dX0_shift_0 rfl ?_
    refine j_iconst (pc := 2) hX (0 : Int32) dX0_shift_2 rfl ?_
    refine j_aload_n (pc := 3) hX dX0_shift_3 rfl ?_
    refine j_iload_n (pc := 4) hX dX0_shift_4 rfl ?_
    refine j_iload_n (pc := 5) hX dX0_shift_5 rfl ?_
    refine j_iload_n (pc := 6) hX dX0_shift_6 rfl ?_
    refine j_iload (pc := 7) hX dX0_shift_7 rfl ?_
    simp only [List.mem_cons, List.not_mem_nil, or_false] at hE
    rcases hE with rfl | rfl | rfl
    · refine j_callVC (pc := 9) hX (ci := 0) mt_X1_shift q991 q992 q993 hi_ ⟨_, rfl, rfl⟩ [vI a1, vI a2, vI a3, vI a4] rfl rfl (Nat.le_of_ble_eq_true rfl) (by decide) dX0_shift_9 [] ⟨0, 14, 17, 13⟩ [⟨0, 14, 21, 15⟩, ⟨0, 14, 25, 17⟩] (hT.trans rfl) (fun z hz => nomatch hz) (by decide) (by decide) q424 q512 (fun q_ w2 hth => ?_) (k_X1_shift _ _ hf)
      refine zRet hX hQ (v := some (vI 1)) (w2 := w2) ⟨rfl, hth⟩ (fun X hX hQ => ?_)
      refine j_astore (pc := 17) hX dX0_shift_17 (by decide) [some (vA a0), some (vI a1), some (vI a2), some (vI a3), some (vI a4), some (vA a5), some (vA (some q_))] rfl ?_
      refine j_iconst (pc := 19) hX (1 : Int32) dX0_shift_19 rfl ?_
      exact j_ireturn (pc := 20) hX hQ rfl dX0_shift_20
    · refine j_callVC (pc := 9) hX (ci := 0) mt_X1_shift q991 q992 q993 hi_ ⟨_, rfl, rfl⟩ [vI a1, vI a2, vI a3, vI a4] rfl rfl (Nat.le_of_ble_eq_true rfl) (by decide) dX0_shift_9 [⟨0, 14, 17, 13⟩] ⟨0, 14, 21, 15⟩ [⟨0, 14, 25, 17⟩] (hT.trans rfl) (fun z hz => by
        simp only [List.mem_cons, List.not_mem_nil, or_false] at hz
        rcases hz with rfl
        · exact Or.inr ⟨by decide, "java/lang/IndexOutOfBoundsException", q424, by decide +kernel⟩) (by decide) (by decide) q501 q528 (fun q_ w2 hth => ?_) (k_X1_shift _ _ hf)
      refine zRet hX hQ (v := some (vI 2)) (w2 := w2) ⟨rfl, hth⟩ (fun X hX hQ => ?_)
      refine j_astore (pc := 21) hX dX0_shift_21 (by decide) [some (vA a0), some (vI a1), some (vI a2), some (vI a3), some (vI a4), some (vA a5), some (vA (some q_))] rfl ?_
      refine j_iconst (pc := 23) hX (2 : Int32) dX0_shift_23 rfl ?_
      exact j_ireturn (pc := 24) hX hQ rfl dX0_shift_24
    · refine j_callVC (pc := 9) hX (ci := 0) mt_X1_shift q991 q992 q993 hi_ ⟨_, rfl, rfl⟩ [vI a1, vI a2, vI a3, vI a4] rfl rfl (Nat.le_of_ble_eq_true rfl) (by decide) dX0_shift_9 [⟨0, 14, 17, 13⟩, ⟨0, 14, 21, 15⟩] ⟨0, 14, 25, 17⟩ [] (hT.trans rfl) (fun z hz => by
        simp only [List.mem_cons, List.not_mem_nil, or_false] at hz
        rcases hz with rfl | rfl
        · exact Or.inr ⟨by decide, "java/lang/IndexOutOfBoundsException", q424, by decide +kernel⟩
        · exact Or.inr ⟨by decide, "java/lang/IllegalArgumentException", q501, by decide +kernel⟩) (by decide) (by decide) q502 q548 (fun q_ w2 hth => ?_) (k_X1_shift _ _ hf)
      refine zRet hX hQ (v := some (vI 3)) (w2 := w2) ⟨rfl, hth⟩ (fun X hX hQ => ?_)
      refine j_astore (pc := 25) hX dX0_shift_25 (by decide) [some (vA a0), some (vI a1), some (vI a2), some (vI a3), some (vI a4), some (vA a5), some (vA (some q_))] rfl ?_
      refine j_iconst (pc := 27) hX (3 : Int32) dX0_shift_27 rfl ?_
      exact j_ireturn (pc := 28) hX hQ rfl dX0_shift_28
  · obtain ⟨x, w2, hf2⟩ := h1 r rfl
    refine zRet hX hQ (v := some (vI x)) (w2 := w2) ⟨x, hf2, rfl⟩ (fun X hX hQ => ?_)
    refine j_aload (pc := 0) hX dX0_shift_0 rfl ?_
    refine j_iconst (pc := 2) hX (0 : Int32) dX0_shift_2 rfl ?_
    refine j_aload_n (pc := 3) hX dX0_shift_3 rfl ?_
    refine j_iload_n (pc := 4) hX dX0_shift_4 rfl ?_
    refine j_iload_n (pc := 5) hX dX0_shift_5 rfl ?_
    refine j_iload_n (pc := 6) hX dX0_shift_6 rfl ?_
    refine j_iload (pc := 7) hX dX0_shift_7 rfl ?_
    refine j_callV (pc := 9) hX (ci := 0) mt_X1_shift q991 q992 q993 hi_ ⟨_, rfl, rfl⟩ [vI a1, vI a2, vI a3, vI a4] rfl rfl (Nat.le_of_ble_eq_true rfl) (by decide) dX0_shift_9 (k_X1_shift _ _ hf) ?_
    have hf := hf2
    unfold fw_shift at hf
    refine j_i2l (pc := 12) hX dX0_shift_12 ?_
    refine j_lastore (pc := 13) hX dX0_shift_13 hf (fun w3 hf => ?_)
    refine j_goto (pc := 14) hX 29 dX0_shift_14 rfl ?_
    refine j_iconst (pc := 29) hX (0 : Int32) dX0_shift_29 rfl ?_
    exact j_ireturn (pc := 30) hX hQ (by cases hf; rfl) dX0_shift_30
def fw_minutes (a0 : Option Nat) (a1 : Int32) (a2 : Int32) (a3 : Option Nat) (r : Int32) (w1 : zWd) : Option (Int32 × zWd) :=
  (sL w1 a3 (0 : Int32) (Int32.toInt64 r)).bind fun w3 =>
  some ((0 : Int32), w3)
def cd_minutes (E : String) : Int32 := if E = "java/lang/IndexOutOfBoundsException" then 1 else 0
def Rw_minutes (a0 : Option Nat) (a1 : Int32) (a2 : Int32) (a3 : Option Nat) (o : String ⊕ Int32) (w1 : zWd) : Option zLV → zWd → Prop := match o with
  | .inr r => fun v w' => ∃ x, fw_minutes a0 a1 a2 a3 r w1 = some (x, w') ∧ v = some (vI x)
  | .inl E => fun v w' => v = some (vI (cd_minutes E)) ∧ zTh w1 w'
theorem mw_minutes : zMtW yX0_minutes cX0_minutes 5 (some .int) [(0, 10, 13, 13)] 4 := ⟨q1102, q65, ⟨by decide, by decide⟩, by decide +kernel, by decide⟩
set_option maxHeartbeats 4000000 in
theorem kw_minutes {l : Launch} {n : Nat} {a0 : Option Nat} {a1 : Int32} {a2 : Int32} {a3 : Option Nat} {w w1 : zWd} (o : String ⊕ Int32) (hi_ : isC w 0 a0 = true) (hf : f_X1_minutes n a0 a1 a2 w = some (o, w1)) (h1 : ∀ r, o = .inr r → ∃ x w2, fw_minutes a0 a1 a2 a3 r w1 = some (x, w2)) (h2 : ∀ E, o = .inl E → E ∈ ["java/lang/IndexOutOfBoundsException"]) : zCtR l yX0_minutes cX0_minutes 5 (some .int) [(0, 10, 13, 13)] 9 [vA a0, vI a1, vI a2, vA a3] w (Rw_minutes a0 a1 a2 a3 o w1) := by
  refine zCtR_of (lv := [some (vA a0), some (vI a1), some (vI a2), some (vA a3), none]) (by decide +kernel) 1 rfl rfl ?_
  intro X hX hnm hT hQ
  have hX : zGd X RX0 cX0_minutes 5 (some .int) 9 := hX
  rcases o with E | r
  · have hE := h2 E rfl
    clear h1 h2
    refine j_aload_n (pc := 0) hX dX0_minutes_0 rfl ?_
    refine j_iconst (pc := 1) hX (0 : Int32) dX0_minutes_1 rfl ?_
    refine j_aload_n (pc := 2) hX dX0_minutes_2 rfl ?_
    refine j_iload_n (pc := 3) hX dX0_minutes_3 rfl ?_
    refine j_iload_n (pc := 4) hX dX0_minutes_4 rfl ?_
    simp only [List.mem_cons, List.not_mem_nil, or_false] at hE
    rcases hE with rfl
    · refine j_callVC (pc := 5) hX (ci := 0) mt_X1_minutes q1103 q1104 q1105 hi_ ⟨_, rfl, rfl⟩ [vI a1, vI a2] rfl rfl (Nat.le_of_ble_eq_true rfl) (by decide) dX0_minutes_5 [] ⟨0, 10, 13, 13⟩ [] (hT.trans rfl) (fun z hz => nomatch hz) (by decide) (by decide) q424 q512 (fun q_ w2 hth => ?_) (k_X1_minutes _ _ hf)
      refine zRet hX hQ (v := some (vI 1)) (w2 := w2) ⟨rfl, hth⟩ (fun X hX hQ => ?_)
      refine j_astore (pc := 13) hX dX0_minutes_13 (by decide) [some (vA a0), some (vI a1), some (vI a2), some (vA a3), some (vA (some q_))] rfl ?_
      refine j_iconst (pc := 15) hX (1 : Int32) dX0_minutes_15 rfl ?_
      exact j_ireturn (pc := 16) hX hQ rfl dX0_minutes_16
  · obtain ⟨x, w2, hf2⟩ := h1 r rfl
    refine zRet hX hQ (v := some (vI x)) (w2 := w2) ⟨x, hf2, rfl⟩ (fun X hX hQ => ?_)
    refine j_aload_n (pc := 0) hX dX0_minutes_0 rfl ?_
    refine j_iconst (pc := 1) hX (0 : Int32) dX0_minutes_1 rfl ?_
    refine j_aload_n (pc := 2) hX dX0_minutes_2 rfl ?_
    refine j_iload_n (pc := 3) hX dX0_minutes_3 rfl ?_
    refine j_iload_n (pc := 4) hX dX0_minutes_4 rfl ?_
    refine j_callV (pc := 5) hX (ci := 0) mt_X1_minutes q1103 q1104 q1105 hi_ ⟨_, rfl, rfl⟩ [vI a1, vI a2] rfl rfl (Nat.le_of_ble_eq_true rfl) (by decide) dX0_minutes_5 (k_X1_minutes _ _ hf) ?_
    have hf := hf2
    unfold fw_minutes at hf
    refine j_i2l (pc := 8) hX dX0_minutes_8 ?_
    refine j_lastore (pc := 9) hX dX0_minutes_9 hf (fun w3 hf => ?_)
    refine j_goto (pc := 10) hX 17 dX0_minutes_10 rfl ?_
    refine j_iconst (pc := 17) hX (0 : Int32) dX0_minutes_17 rfl ?_
    exact j_ireturn (pc := 18) hX hQ (by cases hf; rfl) dX0_minutes_18
def fw_overtime (a0 : Option Nat) (a1 : Int32) (a2 : Int32) (a3 : Option Nat) (r : Int32) (w1 : zWd) : Option (Int32 × zWd) :=
  (sL w1 a3 (0 : Int32) (Int32.toInt64 r)).bind fun w3 =>
  some ((0 : Int32), w3)
def cd_overtime (E : String) : Int32 := if E = "java/lang/IndexOutOfBoundsException" then 1 else 0
def Rw_overtime (a0 : Option Nat) (a1 : Int32) (a2 : Int32) (a3 : Option Nat) (o : String ⊕ Int32) (w1 : zWd) : Option zLV → zWd → Prop := match o with
  | .inr r => fun v w' => ∃ x, fw_overtime a0 a1 a2 a3 r w1 = some (x, w') ∧ v = some (vI x)
  | .inl E => fun v w' => v = some (vI (cd_overtime E)) ∧ zTh w1 w'
theorem mw_overtime : zMtW yX0_overtime cX0_overtime 5 (some .int) [(0, 10, 13, 13)] 4 := ⟨q1109, q65, ⟨by decide, by decide⟩, by decide +kernel, by decide⟩
set_option maxHeartbeats 4000000 in
theorem kw_overtime {l : Launch} {n : Nat} {a0 : Option Nat} {a1 : Int32} {a2 : Int32} {a3 : Option Nat} {w w1 : zWd} (o : String ⊕ Int32) (hi_ : isC w 0 a0 = true) (hf : f_X1_overtime n a0 a1 a2 w = some (o, w1)) (h1 : ∀ r, o = .inr r → ∃ x w2, fw_overtime a0 a1 a2 a3 r w1 = some (x, w2)) (h2 : ∀ E, o = .inl E → E ∈ ["java/lang/IndexOutOfBoundsException"]) : zCtR l yX0_overtime cX0_overtime 5 (some .int) [(0, 10, 13, 13)] 9 [vA a0, vI a1, vI a2, vA a3] w (Rw_overtime a0 a1 a2 a3 o w1) := by
  refine zCtR_of (lv := [some (vA a0), some (vI a1), some (vI a2), some (vA a3), none]) (by decide +kernel) 1 rfl rfl ?_
  intro X hX hnm hT hQ
  have hX : zGd X RX0 cX0_overtime 5 (some .int) 9 := hX
  rcases o with E | r
  · have hE := h2 E rfl
    clear h1 h2
    refine j_aload_n (pc := 0) hX dX0_overtime_0 rfl ?_
    refine j_iconst (pc := 1) hX (0 : Int32) dX0_overtime_1 rfl ?_
    refine j_aload_n (pc := 2) hX dX0_overtime_2 rfl ?_
    refine j_iload_n (pc := 3) hX dX0_overtime_3 rfl ?_
    refine j_iload_n (pc := 4) hX dX0_overtime_4 rfl ?_
    simp only [List.mem_cons, List.not_mem_nil, or_false] at hE
    rcases hE with rfl
    · refine j_callVC (pc := 5) hX (ci := 0) mt_X1_overtime q1110 q1111 q1112 hi_ ⟨_, rfl, rfl⟩ [vI a1, vI a2] rfl rfl (Nat.le_of_ble_eq_true rfl) (by decide) dX0_overtime_5 [] ⟨0, 10, 13, 13⟩ [] (hT.trans rfl) (fun z hz => nomatch hz) (by decide) (by decide) q424 q512 (fun q_ w2 hth => ?_) (k_X1_overtime _ _ hf)
      refine zRet hX hQ (v := some (vI 1)) (w2 := w2) ⟨rfl, hth⟩ (fun X hX hQ => ?_)
      refine j_astore (pc := 13) hX dX0_overtime_13 (by decide) [some (vA a0), some (vI a1), some (vI a2), some (vA a3), some (vA (some q_))] rfl ?_
      refine j_iconst (pc := 15) hX (1 : Int32) dX0_overtime_15 rfl ?_
      exact j_ireturn (pc := 16) hX hQ rfl dX0_overtime_16
  · obtain ⟨x, w2, hf2⟩ := h1 r rfl
    refine zRet hX hQ (v := some (vI x)) (w2 := w2) ⟨x, hf2, rfl⟩ (fun X hX hQ => ?_)
    refine j_aload_n (pc := 0) hX dX0_overtime_0 rfl ?_
    refine j_iconst (pc := 1) hX (0 : Int32) dX0_overtime_1 rfl ?_
    refine j_aload_n (pc := 2) hX dX0_overtime_2 rfl ?_
    refine j_iload_n (pc := 3) hX dX0_overtime_3 rfl ?_
    refine j_iload_n (pc := 4) hX dX0_overtime_4 rfl ?_
    refine j_callV (pc := 5) hX (ci := 0) mt_X1_overtime q1110 q1111 q1112 hi_ ⟨_, rfl, rfl⟩ [vI a1, vI a2] rfl rfl (Nat.le_of_ble_eq_true rfl) (by decide) dX0_overtime_5 (k_X1_overtime _ _ hf) ?_
    have hf := hf2
    unfold fw_overtime at hf
    refine j_i2l (pc := 8) hX dX0_overtime_8 ?_
    refine j_lastore (pc := 9) hX dX0_overtime_9 hf (fun w3 hf => ?_)
    refine j_goto (pc := 10) hX 17 dX0_overtime_10 rfl ?_
    refine j_iconst (pc := 17) hX (0 : Int32) dX0_overtime_17 rfl ?_
    exact j_ireturn (pc := 18) hX hQ (by cases hf; rfl) dX0_overtime_18
def fw_base (a0 : Option Nat) (a1 : Int32) (a2 : Int32) (a3 : Option Nat) (r : Int64) (w1 : zWd) : Option (Int32 × zWd) :=
  (sL w1 a3 (0 : Int32) r).bind fun w3 =>
  some ((0 : Int32), w3)
def cd_base (E : String) : Int32 := if E = "java/lang/IndexOutOfBoundsException" then 1 else 0
def Rw_base (a0 : Option Nat) (a1 : Int32) (a2 : Int32) (a3 : Option Nat) (o : String ⊕ Int64) (w1 : zWd) : Option zLV → zWd → Prop := match o with
  | .inr r => fun v w' => ∃ x, fw_base a0 a1 a2 a3 r w1 = some (x, w') ∧ v = some (vI x)
  | .inl E => fun v w' => v = some (vI (cd_base E)) ∧ zTh w1 w'
theorem mw_base : zMtW yX0_base cX0_base 5 (some .int) [(0, 9, 12, 13)] 4 := ⟨q1121, q65, ⟨by decide, by decide⟩, by decide +kernel, by decide⟩
set_option maxHeartbeats 4000000 in
theorem kw_base {l : Launch} {n : Nat} {a0 : Option Nat} {a1 : Int32} {a2 : Int32} {a3 : Option Nat} {w w1 : zWd} (o : String ⊕ Int64) (hi_ : isC w 0 a0 = true) (hf : f_X1_base n a0 a1 a2 w = some (o, w1)) (h1 : ∀ r, o = .inr r → ∃ x w2, fw_base a0 a1 a2 a3 r w1 = some (x, w2)) (h2 : ∀ E, o = .inl E → E ∈ ["java/lang/IndexOutOfBoundsException"]) : zCtR l yX0_base cX0_base 5 (some .int) [(0, 9, 12, 13)] 9 [vA a0, vI a1, vI a2, vA a3] w (Rw_base a0 a1 a2 a3 o w1) := by
  refine zCtR_of (lv := [some (vA a0), some (vI a1), some (vI a2), some (vA a3), none]) (by decide +kernel) 1 rfl rfl ?_
  intro X hX hnm hT hQ
  have hX : zGd X RX0 cX0_base 5 (some .int) 9 := hX
  rcases o with E | r
  · have hE := h2 E rfl
    clear h1 h2
    refine j_aload_n (pc := 0) hX dX0_base_0 rfl ?_
    refine j_iconst (pc := 1) hX (0 : Int32) dX0_base_1 rfl ?_
    refine j_aload_n (pc := 2) hX dX0_base_2 rfl ?_
    refine j_iload_n (pc := 3) hX dX0_base_3 rfl ?_
    refine j_iload_n (pc := 4) hX dX0_base_4 rfl ?_
    simp only [List.mem_cons, List.not_mem_nil, or_false] at hE
    rcases hE with rfl
    · refine j_callVC (pc := 5) hX (ci := 0) mt_X1_base q1122 q1123 q1124 hi_ ⟨_, rfl, rfl⟩ [vI a1, vI a2] rfl rfl (Nat.le_of_ble_eq_true rfl) (by decide) dX0_base_5 [] ⟨0, 9, 12, 13⟩ [] (hT.trans rfl) (fun z hz => nomatch hz) (by decide) (by decide) q424 q512 (fun q_ w2 hth => ?_) (k_X1_base _ _ hf)
      refine zRet hX hQ (v := some (vI 1)) (w2 := w2) ⟨rfl, hth⟩ (fun X hX hQ => ?_)
      refine j_astore (pc := 12) hX dX0_base_12 (by decide) [some (vA a0), some (vI a1), some (vI a2), some (vA a3), some (vA (some q_))] rfl ?_
      refine j_iconst (pc := 14) hX (1 : Int32) dX0_base_14 rfl ?_
      exact j_ireturn (pc := 15) hX hQ rfl dX0_base_15
  · obtain ⟨x, w2, hf2⟩ := h1 r rfl
    refine zRet hX hQ (v := some (vI x)) (w2 := w2) ⟨x, hf2, rfl⟩ (fun X hX hQ => ?_)
    refine j_aload_n (pc := 0) hX dX0_base_0 rfl ?_
    refine j_iconst (pc := 1) hX (0 : Int32) dX0_base_1 rfl ?_
    refine j_aload_n (pc := 2) hX dX0_base_2 rfl ?_
    refine j_iload_n (pc := 3) hX dX0_base_3 rfl ?_
    refine j_iload_n (pc := 4) hX dX0_base_4 rfl ?_
    refine j_callV (pc := 5) hX (ci := 0) mt_X1_base q1122 q1123 q1124 hi_ ⟨_, rfl, rfl⟩ [vI a1, vI a2] rfl rfl (Nat.le_of_ble_eq_true rfl) (by decide) dX0_base_5 (k_X1_base _ _ hf) ?_
    have hf := hf2
    unfold fw_base at hf
    refine j_lastore (pc := 8) hX dX0_base_8 hf (fun w3 hf => ?_)
    refine j_goto (pc := 9) hX 16 dX0_base_9 rfl ?_
    refine j_iconst (pc := 16) hX (0 : Int32) dX0_base_16 rfl ?_
    exact j_ireturn (pc := 17) hX hQ (by cases hf; rfl) dX0_base_17
def fw_leaveRule (a0 : Option Nat) (a1 : Int32) (a2 : Int32) (a3 : Int32) (r : Unit) (w1 : zWd) : Option (Int32 × zWd) :=
  some ((0 : Int32), w1)
def cd_leaveRule (E : String) : Int32 := if E = "java/lang/IllegalArgumentException" then 1 else 0
def Rw_leaveRule (a0 : Option Nat) (a1 : Int32) (a2 : Int32) (a3 : Int32) (o : String ⊕ Unit) (w1 : zWd) : Option zLV → zWd → Prop := match o with
  | .inr r => fun v w' => ∃ x, fw_leaveRule a0 a1 a2 a3 r w1 = some (x, w') ∧ v = some (vI x)
  | .inl E => fun v w' => v = some (vI (cd_leaveRule E)) ∧ zTh w1 w'
theorem mw_leaveRule : zMtW yX0_leaveRule cX0_leaveRule 5 (some .int) [(0, 7, 10, 15)] 4 := ⟨q1205, q65, ⟨by decide, by decide⟩, by decide +kernel, by decide⟩
set_option maxHeartbeats 4000000 in
theorem kw_leaveRule {l : Launch} {n : Nat} {a0 : Option Nat} {a1 : Int32} {a2 : Int32} {a3 : Int32} {w w1 : zWd} (o : String ⊕ Unit) (hi_ : isC w 0 a0 = true) (hf : f_X1_leaveRule n a0 a1 a2 a3 w = some (o, w1)) (h1 : ∀ r, o = .inr r → ∃ x w2, fw_leaveRule a0 a1 a2 a3 r w1 = some (x, w2)) (h2 : ∀ E, o = .inl E → E ∈ ["java/lang/IllegalArgumentException"]) : zCtR l yX0_leaveRule cX0_leaveRule 5 (some .int) [(0, 7, 10, 15)] 8 [vA a0, vI a1, vI a2, vI a3] w (Rw_leaveRule a0 a1 a2 a3 o w1) := by
  refine zCtR_of (lv := [some (vA a0), some (vI a1), some (vI a2), some (vI a3), none]) (by decide +kernel) 1 rfl rfl ?_
  intro X hX hnm hT hQ
  have hX : zGd X RX0 cX0_leaveRule 5 (some .int) 8 := hX
  rcases o with E | r
  · have hE := h2 E rfl
    clear h1 h2
    refine j_aload_n (pc := 0) hX dX0_leaveRule_0 rfl ?_
    refine j_iload_n (pc := 1) hX dX0_leaveRule_1 rfl ?_
    refine j_iload_n (pc := 2) hX dX0_leaveRule_2 rfl ?_
    refine j_iload_n (pc := 3) hX dX0_leaveRule_3 rfl ?_
    simp only [List.mem_cons, List.not_mem_nil, or_false] at hE
    rcases hE with rfl
    · refine j_callVC (pc := 4) hX (ci := 0) mt_X1_leaveRule q1206 q1207 q1208 hi_ ⟨_, rfl, rfl⟩ [vI a1, vI a2, vI a3] rfl rfl (Nat.le_of_ble_eq_true rfl) (by decide) dX0_leaveRule_4 [] ⟨0, 7, 10, 15⟩ [] (hT.trans rfl) (fun z hz => nomatch hz) (by decide) (by decide) q501 q528 (fun q_ w2 hth => ?_) (k_X1_leaveRule _ _ hf)
      refine zRet hX hQ (v := some (vI 1)) (w2 := w2) ⟨rfl, hth⟩ (fun X hX hQ => ?_)
      refine j_astore (pc := 10) hX dX0_leaveRule_10 (by decide) [some (vA a0), some (vI a1), some (vI a2), some (vI a3), some (vA (some q_))] rfl ?_
      refine j_iconst (pc := 12) hX (1 : Int32) dX0_leaveRule_12 rfl ?_
      exact j_ireturn (pc := 13) hX hQ rfl dX0_leaveRule_13
  · obtain ⟨x, w2, hf2⟩ := h1 r rfl
    refine zRet hX hQ (v := some (vI x)) (w2 := w2) ⟨x, hf2, rfl⟩ (fun X hX hQ => ?_)
    refine j_aload_n (pc := 0) hX dX0_leaveRule_0 rfl ?_
    refine j_iload_n (pc := 1) hX dX0_leaveRule_1 rfl ?_
    refine j_iload_n (pc := 2) hX dX0_leaveRule_2 rfl ?_
    refine j_iload_n (pc := 3) hX dX0_leaveRule_3 rfl ?_
    refine j_callV (pc := 4) hX (ci := 0) mt_X1_leaveRule q1206 q1207 q1208 hi_ ⟨_, rfl, rfl⟩ [vI a1, vI a2, vI a3] rfl rfl (Nat.le_of_ble_eq_true rfl) (by decide) dX0_leaveRule_4 (k_X1_leaveRule _ _ hf) ?_
    have hf := hf2
    unfold fw_leaveRule at hf
    refine j_goto (pc := 7) hX 14 dX0_leaveRule_7 rfl ?_
    refine j_iconst (pc := 14) hX (0 : Int32) dX0_leaveRule_14 rfl ?_
    exact j_ireturn (pc := 15) hX hQ (by cases hf; rfl) dX0_leaveRule_15
def fw_leave (a0 : Option Nat) (a1 : Int32) (a2 : Int32) (a3 : Option Nat) (r : Int32) (w1 : zWd) : Option (Int32 × zWd) :=
  (
    if r = (0 : Int32) then
      some (0 : Int64)
    else
      some (1 : Int64)
    ).bind fun x3 =>
  (sL w1 a3 (0 : Int32) x3).bind fun w4 =>
  some ((0 : Int32), w4)
def cd_leave (E : String) : Int32 := if E = "java/lang/IndexOutOfBoundsException" then 1 else if E = "java/lang/IllegalStateException" then 2 else 0
def Rw_leave (a0 : Option Nat) (a1 : Int32) (a2 : Int32) (a3 : Option Nat) (o : String ⊕ Int32) (w1 : zWd) : Option zLV → zWd → Prop := match o with
  | .inr r => fun v w' => ∃ x, fw_leave a0 a1 a2 a3 r w1 = some (x, w') ∧ v = some (vI x)
  | .inl E => fun v w' => v = some (vI (cd_leave E)) ∧ zTh w1 w'
theorem mw_leave : zMtW yX0_leave cX0_leave 5 (some .int) [(0, 17, 20, 13), (0, 17, 24, 17)] 4 := ⟨q1212, q65, ⟨by decide, by decide⟩, by decide +kernel, by decide⟩
set_option maxHeartbeats 4000000 in
theorem kw_leave {l : Launch} {n : Nat} {a0 : Option Nat} {a1 : Int32} {a2 : Int32} {a3 : Option Nat} {w w1 : zWd} (o : String ⊕ Int32) (hi_ : isC w 0 a0 = true) (hf : f_X1_leave n a0 a1 a2 w = some (o, w1)) (h1 : ∀ r, o = .inr r → ∃ x w2, fw_leave a0 a1 a2 a3 r w1 = some (x, w2)) (h2 : ∀ E, o = .inl E → E ∈ ["java/lang/IndexOutOfBoundsException", "java/lang/IllegalStateException"]) : zCtR l yX0_leave cX0_leave 5 (some .int) [(0, 17, 20, 13), (0, 17, 24, 17)] 10 [vA a0, vI a1, vI a2, vA a3] w (Rw_leave a0 a1 a2 a3 o w1) := by
  refine zCtR_of (lv := [some (vA a0), some (vI a1), some (vI a2), some (vA a3), none]) (by decide +kernel) 1 rfl rfl ?_
  intro X hX hnm hT hQ
  have hX : zGd X RX0 cX0_leave 5 (some .int) 10 := hX
  rcases o with E | r
  · have hE := h2 E rfl
    clear h1 h2
    refine j_aload_n (pc := 0) hX dX0_leave_0 rfl ?_
    refine j_iconst (pc := 1) hX (0 : Int32) dX0_leave_1 rfl ?_
    refine j_aload_n (pc := 2) hX dX0_leave_2 rfl ?_
    refine j_iload_n (pc := 3) hX dX0_leave_3 rfl ?_
    refine j_iload_n (pc := 4) hX dX0_leave_4 rfl ?_
    simp only [List.mem_cons, List.not_mem_nil, or_false] at hE
    rcases hE with rfl | rfl
    · refine j_callVC (pc := 5) hX (ci := 0) mt_X1_leave q1213 q1214 q1215 hi_ ⟨_, rfl, rfl⟩ [vI a1, vI a2] rfl rfl (Nat.le_of_ble_eq_true rfl) (by decide) dX0_leave_5 [] ⟨0, 17, 20, 13⟩ [⟨0, 17, 24, 17⟩] (hT.trans rfl) (fun z hz => nomatch hz) (by decide) (by decide) q424 q512 (fun q_ w2 hth => ?_) (k_X1_leave _ _ hf)
      refine zRet hX hQ (v := some (vI 1)) (w2 := w2) ⟨rfl, hth⟩ (fun X hX hQ => ?_)
      refine j_astore (pc := 20) hX dX0_leave_20 (by decide) [some (vA a0), some (vI a1), some (vI a2), some (vA a3), some (vA (some q_))] rfl ?_
      refine j_iconst (pc := 22) hX (1 : Int32) dX0_leave_22 rfl ?_
      exact j_ireturn (pc := 23) hX hQ rfl dX0_leave_23
    · refine j_callVC (pc := 5) hX (ci := 0) mt_X1_leave q1213 q1214 q1215 hi_ ⟨_, rfl, rfl⟩ [vI a1, vI a2] rfl rfl (Nat.le_of_ble_eq_true rfl) (by decide) dX0_leave_5 [⟨0, 17, 20, 13⟩] ⟨0, 17, 24, 17⟩ [] (hT.trans rfl) (fun z hz => by
        simp only [List.mem_cons, List.not_mem_nil, or_false] at hz
        rcases hz with rfl
        · exact Or.inr ⟨by decide, "java/lang/IndexOutOfBoundsException", q424, by decide +kernel⟩) (by decide) (by decide) q502 q548 (fun q_ w2 hth => ?_) (k_X1_leave _ _ hf)
      refine zRet hX hQ (v := some (vI 2)) (w2 := w2) ⟨rfl, hth⟩ (fun X hX hQ => ?_)
      refine j_astore (pc := 24) hX dX0_leave_24 (by decide) [some (vA a0), some (vI a1), some (vI a2), some (vA a3), some (vA (some q_))] rfl ?_
      refine j_iconst (pc := 26) hX (2 : Int32) dX0_leave_26 rfl ?_
      exact j_ireturn (pc := 27) hX hQ rfl dX0_leave_27
  · obtain ⟨x, w2, hf2⟩ := h1 r rfl
    refine zRet hX hQ (v := some (vI x)) (w2 := w2) ⟨x, hf2, rfl⟩ (fun X hX hQ => ?_)
    refine j_aload_n (pc := 0) hX dX0_leave_0 rfl ?_
    refine j_iconst (pc := 1) hX (0 : Int32) dX0_leave_1 rfl ?_
    refine j_aload_n (pc := 2) hX dX0_leave_2 rfl ?_
    refine j_iload_n (pc := 3) hX dX0_leave_3 rfl ?_
    refine j_iload_n (pc := 4) hX dX0_leave_4 rfl ?_
    refine j_callV (pc := 5) hX (ci := 0) mt_X1_leave q1213 q1214 q1215 hi_ ⟨_, rfl, rfl⟩ [vI a1, vI a2] rfl rfl (Nat.le_of_ble_eq_true rfl) (by decide) dX0_leave_5 (k_X1_leave _ _ hf) ?_
    have hf := hf2
    unfold fw_leave at hf
    obtain ⟨x3, hm_, hf⟩ := zob hf
    have kj8 : zJ X 16 [none, none, none, none, none] [vL x3, vI (0 : Int32), vA a3] w1 := by
      clear hm_
      refine j_lastore (pc := 16) hX dX0_leave_16 hf (fun w4 hf => ?_)
      refine j_goto (pc := 17) hX 28 dX0_leave_17 rfl ?_
      refine j_iconst (pc := 28) hX (0 : Int32) dX0_leave_28 rfl ?_
      exact j_ireturn (pc := 29) hX hQ (by cases hf; rfl) dX0_leave_29
    have hf := hm_
    refine j_if_eq (pc := 8) hX 15 dX0_leave_8 rfl hf (fun h_ hf => ?_) (fun h_ hf => ?_)
    · refine j_lconst (pc := 15) hX (0 : Int64) dX0_leave_15 rfl ?_
      refine j_fg [0, 1, 2, 3] [none, none, none, none, none] rfl ?_
      cases hf
      exact kj8
    · refine j_lconst (pc := 11) hX (1 : Int64) dX0_leave_11 rfl ?_
      refine j_goto (pc := 12) hX 16 dX0_leave_12 rfl ?_
      refine j_fg [0, 1, 2, 3] [none, none, none, none, none] rfl ?_
      cases hf
      exact kj8
def fw_leaveLeft (a0 : Option Nat) (a1 : Int32) (a2 : Int32) (a3 : Option Nat) (r : Int32) (w1 : zWd) : Option (Int32 × zWd) :=
  (sL w1 a3 (0 : Int32) (Int32.toInt64 r)).bind fun w3 =>
  some ((0 : Int32), w3)
def cd_leaveLeft (E : String) : Int32 := if E = "java/lang/IndexOutOfBoundsException" then 1 else 0
def Rw_leaveLeft (a0 : Option Nat) (a1 : Int32) (a2 : Int32) (a3 : Option Nat) (o : String ⊕ Int32) (w1 : zWd) : Option zLV → zWd → Prop := match o with
  | .inr r => fun v w' => ∃ x, fw_leaveLeft a0 a1 a2 a3 r w1 = some (x, w') ∧ v = some (vI x)
  | .inl E => fun v w' => v = some (vI (cd_leaveLeft E)) ∧ zTh w1 w'
theorem mw_leaveLeft : zMtW yX0_leaveLeft cX0_leaveLeft 5 (some .int) [(0, 10, 13, 13)] 4 := ⟨q1239, q65, ⟨by decide, by decide⟩, by decide +kernel, by decide⟩
set_option maxHeartbeats 4000000 in
theorem kw_leaveLeft {l : Launch} {n : Nat} {a0 : Option Nat} {a1 : Int32} {a2 : Int32} {a3 : Option Nat} {w w1 : zWd} (o : String ⊕ Int32) (hi_ : isC w 0 a0 = true) (hf : f_X1_leaveLeft n a0 a1 a2 w = some (o, w1)) (h1 : ∀ r, o = .inr r → ∃ x w2, fw_leaveLeft a0 a1 a2 a3 r w1 = some (x, w2)) (h2 : ∀ E, o = .inl E → E ∈ ["java/lang/IndexOutOfBoundsException"]) : zCtR l yX0_leaveLeft cX0_leaveLeft 5 (some .int) [(0, 10, 13, 13)] 8 [vA a0, vI a1, vI a2, vA a3] w (Rw_leaveLeft a0 a1 a2 a3 o w1) := by
  refine zCtR_of (lv := [some (vA a0), some (vI a1), some (vI a2), some (vA a3), none]) (by decide +kernel) 1 rfl rfl ?_
  intro X hX hnm hT hQ
  have hX : zGd X RX0 cX0_leaveLeft 5 (some .int) 8 := hX
  rcases o with E | r
  · have hE := h2 E rfl
    clear h1 h2
    refine j_aload_n (pc := 0) hX dX0_leaveLeft_0 rfl ?_
    refine j_iconst (pc := 1) hX (0 : Int32) dX0_leaveLeft_1 rfl ?_
    refine j_aload_n (pc := 2) hX dX0_leaveLeft_2 rfl ?_
    refine j_iload_n (pc := 3) hX dX0_leaveLeft_3 rfl ?_
    refine j_iload_n (pc := 4) hX dX0_leaveLeft_4 rfl ?_
    simp only [List.mem_cons, List.not_mem_nil, or_false] at hE
    rcases hE with rfl
    · refine j_callVC (pc := 5) hX (ci := 0) mt_X1_leaveLeft q1240 q1241 q1242 hi_ ⟨_, rfl, rfl⟩ [vI a1, vI a2] rfl rfl (Nat.le_of_ble_eq_true rfl) (by decide) dX0_leaveLeft_5 [] ⟨0, 10, 13, 13⟩ [] (hT.trans rfl) (fun z hz => nomatch hz) (by decide) (by decide) q424 q512 (fun q_ w2 hth => ?_) (k_X1_leaveLeft _ _ hf)
      refine zRet hX hQ (v := some (vI 1)) (w2 := w2) ⟨rfl, hth⟩ (fun X hX hQ => ?_)
      refine j_astore (pc := 13) hX dX0_leaveLeft_13 (by decide) [some (vA a0), some (vI a1), some (vI a2), some (vA a3), some (vA (some q_))] rfl ?_
      refine j_iconst (pc := 15) hX (1 : Int32) dX0_leaveLeft_15 rfl ?_
      exact j_ireturn (pc := 16) hX hQ rfl dX0_leaveLeft_16
  · obtain ⟨x, w2, hf2⟩ := h1 r rfl
    refine zRet hX hQ (v := some (vI x)) (w2 := w2) ⟨x, hf2, rfl⟩ (fun X hX hQ => ?_)
    refine j_aload_n (pc := 0) hX dX0_leaveLeft_0 rfl ?_
    refine j_iconst (pc := 1) hX (0 : Int32) dX0_leaveLeft_1 rfl ?_
    refine j_aload_n (pc := 2) hX dX0_leaveLeft_2 rfl ?_
    refine j_iload_n (pc := 3) hX dX0_leaveLeft_3 rfl ?_
    refine j_iload_n (pc := 4) hX dX0_leaveLeft_4 rfl ?_
    refine j_callV (pc := 5) hX (ci := 0) mt_X1_leaveLeft q1240 q1241 q1242 hi_ ⟨_, rfl, rfl⟩ [vI a1, vI a2] rfl rfl (Nat.le_of_ble_eq_true rfl) (by decide) dX0_leaveLeft_5 (k_X1_leaveLeft _ _ hf) ?_
    have hf := hf2
    unfold fw_leaveLeft at hf
    refine j_i2l (pc := 8) hX dX0_leaveLeft_8 ?_
    refine j_lastore (pc := 9) hX dX0_leaveLeft_9 hf (fun w3 hf => ?_)
    refine j_goto (pc := 10) hX 17 dX0_leaveLeft_10 rfl ?_
    refine j_iconst (pc := 17) hX (0 : Int32) dX0_leaveLeft_17 rfl ?_
    exact j_ireturn (pc := 18) hX hQ (by cases hf; rfl) dX0_leaveLeft_18
def fw_word (a0 : Option Nat) (a1 : Int32) (a2 : Int32) (a3 : Option Nat) (r : Int32) (w1 : zWd) : Option (Int32 × zWd) :=
  (sL w1 a3 (0 : Int32) (Int32.toInt64 r)).bind fun w3 =>
  some ((0 : Int32), w3)
def cd_word (E : String) : Int32 := if E = "java/lang/IllegalArgumentException" then 1 else if E = "java/lang/IllegalStateException" then 2 else 0
def Rw_word (a0 : Option Nat) (a1 : Int32) (a2 : Int32) (a3 : Option Nat) (o : String ⊕ Int32) (w1 : zWd) : Option zLV → zWd → Prop := match o with
  | .inr r => fun v w' => ∃ x, fw_word a0 a1 a2 a3 r w1 = some (x, w') ∧ v = some (vI x)
  | .inl E => fun v w' => v = some (vI (cd_word E)) ∧ zTh w1 w'
theorem mw_word : zMtW yX0_word cX0_word 5 (some .int) [(0, 10, 13, 15), (0, 10, 17, 17)] 4 := ⟨q1246, q65, ⟨by decide, by decide⟩, by decide +kernel, by decide⟩
set_option maxHeartbeats 4000000 in
theorem kw_word {l : Launch} {n : Nat} {a0 : Option Nat} {a1 : Int32} {a2 : Int32} {a3 : Option Nat} {w w1 : zWd} (o : String ⊕ Int32) (hi_ : isC w 0 a0 = true) (hf : f_X1_word n a0 a1 a2 w = some (o, w1)) (h1 : ∀ r, o = .inr r → ∃ x w2, fw_word a0 a1 a2 a3 r w1 = some (x, w2)) (h2 : ∀ E, o = .inl E → E ∈ ["java/lang/IllegalArgumentException", "java/lang/IllegalStateException"]) : zCtR l yX0_word cX0_word 5 (some .int) [(0, 10, 13, 15), (0, 10, 17, 17)] 9 [vA a0, vI a1, vI a2, vA a3] w (Rw_word a0 a1 a2 a3 o w1) := by
  refine zCtR_of (lv := [some (vA a0), some (vI a1), some (vI a2), some (vA a3), none]) (by decide +kernel) 1 rfl rfl ?_
  intro X hX hnm hT hQ
  have hX : zGd X RX0 cX0_word 5 (some .int) 9 := hX
  rcases o with E | r
  · have hE := h2 E rfl
    clear h1 h2
    refine j_aload_n (pc := 0) hX dX0_word_0 rfl ?_
    refine j_iconst (pc := 1) hX (0 : Int32) dX0_word_1 rfl ?_
    refine j_aload_n (pc := 2) hX dX0_word_2 rfl ?_
    refine j_iload_n (pc := 3) hX dX0_word_3 rfl ?_
    refine j_iload_n (pc := 4) hX dX0_word_4 rfl ?_
    simp only [List.mem_cons, List.not_mem_nil, or_false] at hE
    rcases hE with rfl | rfl
    · refine j_callVC (pc := 5) hX (ci := 0) mt_X1_word q1247 q1248 q1249 hi_ ⟨_, rfl, rfl⟩ [vI a1, vI a2] rfl rfl (Nat.le_of_ble_eq_true rfl) (by decide) dX0_word_5 [] ⟨0, 10, 13, 15⟩ [⟨0, 10, 17, 17⟩] (hT.trans rfl) (fun z hz => nomatch hz) (by decide) (by decide) q501 q528 (fun q_ w2 hth => ?_) (k_X1_word _ _ hf)
      refine zRet hX hQ (v := some (vI 1)) (w2 := w2) ⟨rfl, hth⟩ (fun X hX hQ => ?_)
      refine j_astore (pc := 13) hX dX0_word_13 (by decide) [some (vA a0), some (vI a1), some (vI a2), some (vA a3), some (vA (some q_))] rfl ?_
      refine j_iconst (pc := 15) hX (1 : Int32) dX0_word_15 rfl ?_
      exact j_ireturn (pc := 16) hX hQ rfl dX0_word_16
    · refine j_callVC (pc := 5) hX (ci := 0) mt_X1_word q1247 q1248 q1249 hi_ ⟨_, rfl, rfl⟩ [vI a1, vI a2] rfl rfl (Nat.le_of_ble_eq_true rfl) (by decide) dX0_word_5 [⟨0, 10, 13, 15⟩] ⟨0, 10, 17, 17⟩ [] (hT.trans rfl) (fun z hz => by
        simp only [List.mem_cons, List.not_mem_nil, or_false] at hz
        rcases hz with rfl
        · exact Or.inr ⟨by decide, "java/lang/IllegalArgumentException", q501, by decide +kernel⟩) (by decide) (by decide) q502 q548 (fun q_ w2 hth => ?_) (k_X1_word _ _ hf)
      refine zRet hX hQ (v := some (vI 2)) (w2 := w2) ⟨rfl, hth⟩ (fun X hX hQ => ?_)
      refine j_astore (pc := 17) hX dX0_word_17 (by decide) [some (vA a0), some (vI a1), some (vI a2), some (vA a3), some (vA (some q_))] rfl ?_
      refine j_iconst (pc := 19) hX (2 : Int32) dX0_word_19 rfl ?_
      exact j_ireturn (pc := 20) hX hQ rfl dX0_word_20
  · obtain ⟨x, w2, hf2⟩ := h1 r rfl
    refine zRet hX hQ (v := some (vI x)) (w2 := w2) ⟨x, hf2, rfl⟩ (fun X hX hQ => ?_)
    refine j_aload_n (pc := 0) hX dX0_word_0 rfl ?_
    refine j_iconst (pc := 1) hX (0 : Int32) dX0_word_1 rfl ?_
    refine j_aload_n (pc := 2) hX dX0_word_2 rfl ?_
    refine j_iload_n (pc := 3) hX dX0_word_3 rfl ?_
    refine j_iload_n (pc := 4) hX dX0_word_4 rfl ?_
    refine j_callV (pc := 5) hX (ci := 0) mt_X1_word q1247 q1248 q1249 hi_ ⟨_, rfl, rfl⟩ [vI a1, vI a2] rfl rfl (Nat.le_of_ble_eq_true rfl) (by decide) dX0_word_5 (k_X1_word _ _ hf) ?_
    have hf := hf2
    unfold fw_word at hf
    refine j_i2l (pc := 8) hX dX0_word_8 ?_
    refine j_lastore (pc := 9) hX dX0_word_9 hf (fun w3 hf => ?_)
    refine j_goto (pc := 10) hX 21 dX0_word_10 rfl ?_
    refine j_iconst (pc := 21) hX (0 : Int32) dX0_word_21 rfl ?_
    exact j_ireturn (pc := 22) hX hQ (by cases hf; rfl) dX0_word_22
def fw_element (a0 : Option Nat) (a1 : Int32) (a2 : Int32) (a3 : Option Nat) (r : Int32) (w1 : zWd) : Option (Int32 × zWd) :=
  (sL w1 a3 (0 : Int32) (Int32.toInt64 r)).bind fun w3 =>
  some ((0 : Int32), w3)
def cd_element (E : String) : Int32 := if E = "java/lang/IndexOutOfBoundsException" then 1 else if E = "java/lang/IllegalArgumentException" then 2 else if E = "java/lang/IllegalStateException" then 3 else 0
def Rw_element (a0 : Option Nat) (a1 : Int32) (a2 : Int32) (a3 : Option Nat) (o : String ⊕ Int32) (w1 : zWd) : Option zLV → zWd → Prop := match o with
  | .inr r => fun v w' => ∃ x, fw_element a0 a1 a2 a3 r w1 = some (x, w') ∧ v = some (vI x)
  | .inl E => fun v w' => v = some (vI (cd_element E)) ∧ zTh w1 w'
theorem mw_element : zMtW yX0_element cX0_element 5 (some .int) [(0, 10, 13, 13), (0, 10, 17, 15), (0, 10, 21, 17)] 4 := ⟨q1302, q65, ⟨by decide, by decide⟩, by decide +kernel, by decide⟩
set_option maxHeartbeats 4000000 in
theorem kw_element {l : Launch} {n : Nat} {a0 : Option Nat} {a1 : Int32} {a2 : Int32} {a3 : Option Nat} {w w1 : zWd} (o : String ⊕ Int32) (hi_ : isC w 0 a0 = true) (hf : f_X1_element n a0 a1 a2 w = some (o, w1)) (h1 : ∀ r, o = .inr r → ∃ x w2, fw_element a0 a1 a2 a3 r w1 = some (x, w2)) (h2 : ∀ E, o = .inl E → E ∈ ["java/lang/IndexOutOfBoundsException", "java/lang/IllegalArgumentException", "java/lang/IllegalStateException"]) : zCtR l yX0_element cX0_element 5 (some .int) [(0, 10, 13, 13), (0, 10, 17, 15), (0, 10, 21, 17)] 10 [vA a0, vI a1, vI a2, vA a3] w (Rw_element a0 a1 a2 a3 o w1) := by
  refine zCtR_of (lv := [some (vA a0), some (vI a1), some (vI a2), some (vA a3), none]) (by decide +kernel) 1 rfl rfl ?_
  intro X hX hnm hT hQ
  have hX : zGd X RX0 cX0_element 5 (some .int) 10 := hX
  rcases o with E | r
  · have hE := h2 E rfl
    clear h1 h2
    refine j_aload_n (pc := 0) hX dX0_element_0 rfl ?_
    refine j_iconst (pc := 1) hX (0 : Int32) dX0_element_1 rfl ?_
    refine j_aload_n (pc := 2) hX dX0_element_2 rfl ?_
    refine j_iload_n (pc := 3) hX dX0_element_3 rfl ?_
    refine j_iload_n (pc := 4) hX dX0_element_4 rfl ?_
    simp only [List.mem_cons, List.not_mem_nil, or_false] at hE
    rcases hE with rfl | rfl | rfl
    · refine j_callVC (pc := 5) hX (ci := 0) mt_X1_element q1303 q1304 q1305 hi_ ⟨_, rfl, rfl⟩ [vI a1, vI a2] rfl rfl (Nat.le_of_ble_eq_true rfl) (by decide) dX0_element_5 [] ⟨0, 10, 13, 13⟩ [⟨0, 10, 17, 15⟩, ⟨0, 10, 21, 17⟩] (hT.trans rfl) (fun z hz => nomatch hz) (by decide) (by decide) q424 q512 (fun q_ w2 hth => ?_) (k_X1_element _ _ hf)
      refine zRet hX hQ (v := some (vI 1)) (w2 := w2) ⟨rfl, hth⟩ (fun X hX hQ => ?_)
      refine j_astore (pc := 13) hX dX0_element_13 (by decide) [some (vA a0), some (vI a1), some (vI a2), some (vA a3), some (vA (some q_))] rfl ?_
      refine j_iconst (pc := 15) hX (1 : Int32) dX0_element_15 rfl ?_
      exact j_ireturn (pc := 16) hX hQ rfl dX0_element_16
    · refine j_callVC (pc := 5) hX (ci := 0) mt_X1_element q1303 q1304 q1305 hi_ ⟨_, rfl, rfl⟩ [vI a1, vI a2] rfl rfl (Nat.le_of_ble_eq_true rfl) (by decide) dX0_element_5 [⟨0, 10, 13, 13⟩] ⟨0, 10, 17, 15⟩ [⟨0, 10, 21, 17⟩] (hT.trans rfl) (fun z hz => by
        simp only [List.mem_cons, List.not_mem_nil, or_false] at hz
        rcases hz with rfl
        · exact Or.inr ⟨by decide, "java/lang/IndexOutOfBoundsException", q424, by decide +kernel⟩) (by decide) (by decide) q501 q528 (fun q_ w2 hth => ?_) (k_X1_element _ _ hf)
      refine zRet hX hQ (v := some (vI 2)) (w2 := w2) ⟨rfl, hth⟩ (fun X hX hQ => ?_)
      refine j_astore (pc := 17) hX dX0_element_17 (by decide) [some (vA a0), some (vI a1), some (vI a2), some (vA a3), some (vA (some q_))] rfl ?_
      refine j_iconst (pc := 19) hX (2 : Int32) dX0_element_19 rfl ?_
      exact j_ireturn (pc := 20) hX hQ rfl dX0_element_20
    · refine j_callVC (pc := 5) hX (ci := 0) mt_X1_element q1303 q1304 q1305 hi_ ⟨_, rfl, rfl⟩ [vI a1, vI a2] rfl rfl (Nat.le_of_ble_eq_true rfl) (by decide) dX0_element_5 [⟨0, 10, 13, 13⟩, ⟨0, 10, 17, 15⟩] ⟨0, 10, 21, 17⟩ [] (hT.trans rfl) (fun z hz => by
        simp only [List.mem_cons, List.not_mem_nil, or_false] at hz
        rcases hz with rfl | rfl
        · exact Or.inr ⟨by decide, "java/lang/IndexOutOfBoundsException", q424, by decide +kernel⟩
        · exact Or.inr ⟨by decide, "java/lang/IllegalArgumentException", q501, by decide +kernel⟩) (by decide) (by decide) q502 q548 (fun q_ w2 hth => ?_) (k_X1_element _ _ hf)
      refine zRet hX hQ (v := some (vI 3)) (w2 := w2) ⟨rfl, hth⟩ (fun X hX hQ => ?_)
      refine j_astore (pc := 21) hX dX0_element_21 (by decide) [some (vA a0), some (vI a1), some (vI a2), some (vA a3), some (vA (some q_))] rfl ?_
      refine j_iconst (pc := 23) hX (3 : Int32) dX0_element_23 rfl ?_
      exact j_ireturn (pc := 24) hX hQ rfl dX0_element_24
  · obtain ⟨x, w2, hf2⟩ := h1 r rfl
    refine zRet hX hQ (v := some (vI x)) (w2 := w2) ⟨x, hf2, rfl⟩ (fun X hX hQ => ?_)
    refine j_aload_n (pc := 0) hX dX0_element_0 rfl ?_
    refine j_iconst (pc := 1) hX (0 : Int32) dX0_element_1 rfl ?_
    refine j_aload_n (pc := 2) hX dX0_element_2 rfl ?_
    refine j_iload_n (pc := 3) hX dX0_element_3 rfl ?_
    refine j_iload_n (pc := 4) hX dX0_element_4 rfl ?_
    refine j_callV (pc := 5) hX (ci := 0) mt_X1_element q1303 q1304 q1305 hi_ ⟨_, rfl, rfl⟩ [vI a1, vI a2] rfl rfl (Nat.le_of_ble_eq_true rfl) (by decide) dX0_element_5 (k_X1_element _ _ hf) ?_
    have hf := hf2
    unfold fw_element at hf
    refine j_i2l (pc := 8) hX dX0_element_8 ?_
    refine j_lastore (pc := 9) hX dX0_element_9 hf (fun w3 hf => ?_)
    refine j_goto (pc := 10) hX 25 dX0_element_10 rfl ?_
    refine j_iconst (pc := 25) hX (0 : Int32) dX0_element_25 rfl ?_
    exact j_ireturn (pc := 26) hX hQ (by cases hf; rfl) dX0_element_26
def fw_order (a0 : Option Nat) (a1 : Int32) (a2 : Option Nat) (r : Int32) (w1 : zWd) : Option (Int32 × zWd) :=
  (sL w1 a2 (0 : Int32) (Int32.toInt64 r)).bind fun w3 =>
  some ((0 : Int32), w3)
def cd_order (E : String) : Int32 := if E = "java/lang/IndexOutOfBoundsException" then 1 else 0
def Rw_order (a0 : Option Nat) (a1 : Int32) (a2 : Option Nat) (o : String ⊕ Int32) (w1 : zWd) : Option zLV → zWd → Prop := match o with
  | .inr r => fun v w' => ∃ x, fw_order a0 a1 a2 r w1 = some (x, w') ∧ v = some (vI x)
  | .inl E => fun v w' => v = some (vI (cd_order E)) ∧ zTh w1 w'
theorem mw_order : zMtW yX0_order cX0_order 4 (some .int) [(0, 9, 12, 13)] 3 := ⟨q1465, q65, ⟨by decide, by decide⟩, by decide +kernel, by decide⟩
set_option maxHeartbeats 4000000 in
theorem kw_order {l : Launch} {n : Nat} {a0 : Option Nat} {a1 : Int32} {a2 : Option Nat} {w w1 : zWd} (o : String ⊕ Int32) (hi_ : isC w 0 a0 = true) (hf : f_X1_order n a0 a1 w = some (o, w1)) (h1 : ∀ r, o = .inr r → ∃ x w2, fw_order a0 a1 a2 r w1 = some (x, w2)) (h2 : ∀ E, o = .inl E → E ∈ ["java/lang/IndexOutOfBoundsException"]) : zCtR l yX0_order cX0_order 4 (some .int) [(0, 9, 12, 13)] 10 [vA a0, vI a1, vA a2] w (Rw_order a0 a1 a2 o w1) := by
  refine zCtR_of (lv := [some (vA a0), some (vI a1), some (vA a2), none]) (by decide +kernel) 1 rfl rfl ?_
  intro X hX hnm hT hQ
  have hX : zGd X RX0 cX0_order 4 (some .int) 10 := hX
  rcases o with E | r
  · have hE := h2 E rfl
    clear h1 h2
    refine j_aload_n (pc := 0) hX dX0_order_0 rfl ?_
    refine j_iconst (pc := 1) hX (0 : Int32) dX0_order_1 rfl ?_
    refine j_aload_n (pc := 2) hX dX0_order_2 rfl ?_
    refine j_iload_n (pc := 3) hX dX0_order_3 rfl ?_
    simp only [List.mem_cons, List.not_mem_nil, or_false] at hE
    rcases hE with rfl
    · refine j_callVC (pc := 4) hX (ci := 0) mt_X1_order q1466 q1467 q1468 hi_ ⟨_, rfl, rfl⟩ [vI a1] rfl rfl (Nat.le_of_ble_eq_true rfl) (by decide) dX0_order_4 [] ⟨0, 9, 12, 13⟩ [] (hT.trans rfl) (fun z hz => nomatch hz) (by decide) (by decide) q424 q512 (fun q_ w2 hth => ?_) (k_X1_order _ _ hf)
      refine zRet hX hQ (v := some (vI 1)) (w2 := w2) ⟨rfl, hth⟩ (fun X hX hQ => ?_)
      refine j_astore_n (pc := 12) hX dX0_order_12 (by decide) [some (vA a0), some (vI a1), some (vA a2), some (vA (some q_))] rfl ?_
      refine j_iconst (pc := 13) hX (1 : Int32) dX0_order_13 rfl ?_
      exact j_ireturn (pc := 14) hX hQ rfl dX0_order_14
  · obtain ⟨x, w2, hf2⟩ := h1 r rfl
    refine zRet hX hQ (v := some (vI x)) (w2 := w2) ⟨x, hf2, rfl⟩ (fun X hX hQ => ?_)
    refine j_aload_n (pc := 0) hX dX0_order_0 rfl ?_
    refine j_iconst (pc := 1) hX (0 : Int32) dX0_order_1 rfl ?_
    refine j_aload_n (pc := 2) hX dX0_order_2 rfl ?_
    refine j_iload_n (pc := 3) hX dX0_order_3 rfl ?_
    refine j_callV (pc := 4) hX (ci := 0) mt_X1_order q1466 q1467 q1468 hi_ ⟨_, rfl, rfl⟩ [vI a1] rfl rfl (Nat.le_of_ble_eq_true rfl) (by decide) dX0_order_4 (k_X1_order _ _ hf) ?_
    have hf := hf2
    unfold fw_order at hf
    refine j_i2l (pc := 7) hX dX0_order_7 ?_
    refine j_lastore (pc := 8) hX dX0_order_8 hf (fun w3 hf => ?_)
    refine j_goto (pc := 9) hX 15 dX0_order_9 rfl ?_
    refine j_iconst (pc := 15) hX (0 : Int32) dX0_order_15 rfl ?_
    exact j_ireturn (pc := 16) hX hQ (by cases hf; rfl) dX0_order_16
def fw_bonus (a0 : Option Nat) (a1 : Int32) (a2 : Int32) (a3 : Int32) (a4 : Int32) (a5 : Option Nat) (r : Int32) (w1 : zWd) : Option (Int32 × zWd) :=
  (sL w1 a5 (0 : Int32) (Int32.toInt64 r)).bind fun w3 =>
  some ((0 : Int32), w3)
def cd_bonus (E : String) : Int32 := if E = "java/lang/IndexOutOfBoundsException" then 1 else if E = "java/lang/IllegalArgumentException" then 2 else 0
def Rw_bonus (a0 : Option Nat) (a1 : Int32) (a2 : Int32) (a3 : Int32) (a4 : Int32) (a5 : Option Nat) (o : String ⊕ Int32) (w1 : zWd) : Option zLV → zWd → Prop := match o with
  | .inr r => fun v w' => ∃ x, fw_bonus a0 a1 a2 a3 a4 a5 r w1 = some (x, w') ∧ v = some (vI x)
  | .inl E => fun v w' => v = some (vI (cd_bonus E)) ∧ zTh w1 w'
theorem mw_bonus : zMtW yX0_bonus cX0_bonus 7 (some .int) [(0, 14, 17, 13), (0, 14, 21, 15)] 6 := ⟨q1472, q65, ⟨by decide, by decide⟩, by decide +kernel, by decide⟩
set_option maxHeartbeats 4000000 in
theorem kw_bonus {l : Launch} {n : Nat} {a0 : Option Nat} {a1 : Int32} {a2 : Int32} {a3 : Int32} {a4 : Int32} {a5 : Option Nat} {w w1 : zWd} (o : String ⊕ Int32) (hi_ : isC w 0 a0 = true) (hf : f_X1_bonus n a0 a1 a2 a3 a4 w = some (o, w1)) (h1 : ∀ r, o = .inr r → ∃ x w2, fw_bonus a0 a1 a2 a3 a4 a5 r w1 = some (x, w2)) (h2 : ∀ E, o = .inl E → E ∈ ["java/lang/IndexOutOfBoundsException", "java/lang/IllegalArgumentException"]) : zCtR l yX0_bonus cX0_bonus 7 (some .int) [(0, 14, 17, 13), (0, 14, 21, 15)] 8 [vA a0, vI a1, vI a2, vI a3, vI a4, vA a5] w (Rw_bonus a0 a1 a2 a3 a4 a5 o w1) := by
  refine zCtR_of (lv := [some (vA a0), some (vI a1), some (vI a2), some (vI a3), some (vI a4), some (vA a5), none]) (by decide +kernel) 1 rfl rfl ?_
  intro X hX hnm hT hQ
  have hX : zGd X RX0 cX0_bonus 7 (some .int) 8 := hX
  rcases o with E | r
  · have hE := h2 E rfl
    clear h1 h2
    refine j_aload (pc := 0) hX dX0_bonus_0 rfl ?_
    refine j_iconst (pc := 2) hX (0 : Int32) dX0_bonus_2 rfl ?_
    refine j_aload_n (pc := 3) hX dX0_bonus_3 rfl ?_
    refine j_iload_n (pc := 4) hX dX0_bonus_4 rfl ?_
    refine j_iload_n (pc := 5) hX dX0_bonus_5 rfl ?_
    refine j_iload_n (pc := 6) hX dX0_bonus_6 rfl ?_
    refine j_iload (pc := 7) hX dX0_bonus_7 rfl ?_
    simp only [List.mem_cons, List.not_mem_nil, or_false] at hE
    rcases hE with rfl | rfl
    · refine j_callVC (pc := 9) hX (ci := 0) mt_X1_bonus q1473 q1474 q1475 hi_ ⟨_, rfl, rfl⟩ [vI a1, vI a2, vI a3, vI a4] rfl rfl (Nat.le_of_ble_eq_true rfl) (by decide) dX0_bonus_9 [] ⟨0, 14, 17, 13⟩ [⟨0, 14, 21, 15⟩] (hT.trans rfl) (fun z hz => nomatch hz) (by decide) (by decide) q424 q512 (fun q_ w2 hth => ?_) (k_X1_bonus _ _ hf)
      refine zRet hX hQ (v := some (vI 1)) (w2 := w2) ⟨rfl, hth⟩ (fun X hX hQ => ?_)
      refine j_astore (pc := 17) hX dX0_bonus_17 (by decide) [some (vA a0), some (vI a1), some (vI a2), some (vI a3), some (vI a4), some (vA a5), some (vA (some q_))] rfl ?_
      refine j_iconst (pc := 19) hX (1 : Int32) dX0_bonus_19 rfl ?_
      exact j_ireturn (pc := 20) hX hQ rfl dX0_bonus_20
    · refine j_callVC (pc := 9) hX (ci := 0) mt_X1_bonus q1473 q1474 q1475 hi_ ⟨_, rfl, rfl⟩ [vI a1, vI a2, vI a3, vI a4] rfl rfl (Nat.le_of_ble_eq_true rfl) (by decide) dX0_bonus_9 [⟨0, 14, 17, 13⟩] ⟨0, 14, 21, 15⟩ [] (hT.trans rfl) (fun z hz => by
        simp only [List.mem_cons, List.not_mem_nil, or_false] at hz
        rcases hz with rfl
        · exact Or.inr ⟨by decide, "java/lang/IndexOutOfBoundsException", q424, by decide +kernel⟩) (by decide) (by decide) q501 q528 (fun q_ w2 hth => ?_) (k_X1_bonus _ _ hf)
      refine zRet hX hQ (v := some (vI 2)) (w2 := w2) ⟨rfl, hth⟩ (fun X hX hQ => ?_)
      refine j_astore (pc := 21) hX dX0_bonus_21 (by decide) [some (vA a0), some (vI a1), some (vI a2), some (vI a3), some (vI a4), some (vA a5), some (vA (some q_))] rfl ?_
      refine j_iconst (pc := 23) hX (2 : Int32) dX0_bonus_23 rfl ?_
      exact j_ireturn (pc := 24) hX hQ rfl dX0_bonus_24
  · obtain ⟨x, w2, hf2⟩ := h1 r rfl
    refine zRet hX hQ (v := some (vI x)) (w2 := w2) ⟨x, hf2, rfl⟩ (fun X hX hQ => ?_)
    refine j_aload (pc := 0) hX dX0_bonus_0 rfl ?_
    refine j_iconst (pc := 2) hX (0 : Int32) dX0_bonus_2 rfl ?_
    refine j_aload_n (pc := 3) hX dX0_bonus_3 rfl ?_
    refine j_iload_n (pc := 4) hX dX0_bonus_4 rfl ?_
    refine j_iload_n (pc := 5) hX dX0_bonus_5 rfl ?_
    refine j_iload_n (pc := 6) hX dX0_bonus_6 rfl ?_
    refine j_iload (pc := 7) hX dX0_bonus_7 rfl ?_
    refine j_callV (pc := 9) hX (ci := 0) mt_X1_bonus q1473 q1474 q1475 hi_ ⟨_, rfl, rfl⟩ [vI a1, vI a2, vI a3, vI a4] rfl rfl (Nat.le_of_ble_eq_true rfl) (by decide) dX0_bonus_9 (k_X1_bonus _ _ hf) ?_
    have hf := hf2
    unfold fw_bonus at hf
    refine j_i2l (pc := 12) hX dX0_bonus_12 ?_
    refine j_lastore (pc := 13) hX dX0_bonus_13 hf (fun w3 hf => ?_)
    refine j_goto (pc := 14) hX 25 dX0_bonus_14 rfl ?_
    refine j_iconst (pc := 25) hX (0 : Int32) dX0_bonus_25 rfl ?_
    exact j_ireturn (pc := 26) hX hQ (by cases hf; rfl) dX0_bonus_26
def fw_contribution (a0 : Option Nat) (a1 : Int32) (a2 : Int32) (a3 : Int32) (a4 : Int32) (r : Unit) (w1 : zWd) : Option (Int32 × zWd) :=
  some ((0 : Int32), w1)
def cd_contribution (E : String) : Int32 := if E = "java/lang/IndexOutOfBoundsException" then 1 else if E = "java/lang/IllegalArgumentException" then 2 else 0
def Rw_contribution (a0 : Option Nat) (a1 : Int32) (a2 : Int32) (a3 : Int32) (a4 : Int32) (o : String ⊕ Unit) (w1 : zWd) : Option zLV → zWd → Prop := match o with
  | .inr r => fun v w' => ∃ x, fw_contribution a0 a1 a2 a3 a4 r w1 = some (x, w') ∧ v = some (vI x)
  | .inl E => fun v w' => v = some (vI (cd_contribution E)) ∧ zTh w1 w'
theorem mw_contribution : zMtW yX0_contribution cX0_contribution 6 (some .int) [(0, 9, 12, 13), (0, 9, 16, 15)] 5 := ⟨q1481, q65, ⟨by decide, by decide⟩, by decide +kernel, by decide⟩
set_option maxHeartbeats 4000000 in
theorem kw_contribution {l : Launch} {n : Nat} {a0 : Option Nat} {a1 : Int32} {a2 : Int32} {a3 : Int32} {a4 : Int32} {w w1 : zWd} (o : String ⊕ Unit) (hi_ : isC w 0 a0 = true) (hf : f_X1_contribution n a0 a1 a2 a3 a4 w = some (o, w1)) (h1 : ∀ r, o = .inr r → ∃ x w2, fw_contribution a0 a1 a2 a3 a4 r w1 = some (x, w2)) (h2 : ∀ E, o = .inl E → E ∈ ["java/lang/IndexOutOfBoundsException", "java/lang/IllegalArgumentException"]) : zCtR l yX0_contribution cX0_contribution 6 (some .int) [(0, 9, 12, 13), (0, 9, 16, 15)] 10 [vA a0, vI a1, vI a2, vI a3, vI a4] w (Rw_contribution a0 a1 a2 a3 a4 o w1) := by
  refine zCtR_of (lv := [some (vA a0), some (vI a1), some (vI a2), some (vI a3), some (vI a4), none]) (by decide +kernel) 1 rfl rfl ?_
  intro X hX hnm hT hQ
  have hX : zGd X RX0 cX0_contribution 6 (some .int) 10 := hX
  rcases o with E | r
  · have hE := h2 E rfl
    clear h1 h2
    refine j_aload_n (pc := 0) hX dX0_contribution_0 rfl ?_
    refine j_iload_n (pc := 1) hX dX0_contribution_1 rfl ?_
    refine j_iload_n (pc := 2) hX dX0_contribution_2 rfl ?_
    refine j_iload_n (pc := 3) hX dX0_contribution_3 rfl ?_
    refine j_iload (pc := 4) hX dX0_contribution_4 rfl ?_
    simp only [List.mem_cons, List.not_mem_nil, or_false] at hE
    rcases hE with rfl | rfl
    · refine j_callVC (pc := 6) hX (ci := 0) mt_X1_contribution q1482 q1483 q1484 hi_ ⟨_, rfl, rfl⟩ [vI a1, vI a2, vI a3, vI a4] rfl rfl (Nat.le_of_ble_eq_true rfl) (by decide) dX0_contribution_6 [] ⟨0, 9, 12, 13⟩ [⟨0, 9, 16, 15⟩] (hT.trans rfl) (fun z hz => nomatch hz) (by decide) (by decide) q424 q512 (fun q_ w2 hth => ?_) (k_X1_contribution _ _ hf)
      refine zRet hX hQ (v := some (vI 1)) (w2 := w2) ⟨rfl, hth⟩ (fun X hX hQ => ?_)
      refine j_astore (pc := 12) hX dX0_contribution_12 (by decide) [some (vA a0), some (vI a1), some (vI a2), some (vI a3), some (vI a4), some (vA (some q_))] rfl ?_
      refine j_iconst (pc := 14) hX (1 : Int32) dX0_contribution_14 rfl ?_
      exact j_ireturn (pc := 15) hX hQ rfl dX0_contribution_15
    · refine j_callVC (pc := 6) hX (ci := 0) mt_X1_contribution q1482 q1483 q1484 hi_ ⟨_, rfl, rfl⟩ [vI a1, vI a2, vI a3, vI a4] rfl rfl (Nat.le_of_ble_eq_true rfl) (by decide) dX0_contribution_6 [⟨0, 9, 12, 13⟩] ⟨0, 9, 16, 15⟩ [] (hT.trans rfl) (fun z hz => by
        simp only [List.mem_cons, List.not_mem_nil, or_false] at hz
        rcases hz with rfl
        · exact Or.inr ⟨by decide, "java/lang/IndexOutOfBoundsException", q424, by decide +kernel⟩) (by decide) (by decide) q501 q528 (fun q_ w2 hth => ?_) (k_X1_contribution _ _ hf)
      refine zRet hX hQ (v := some (vI 2)) (w2 := w2) ⟨rfl, hth⟩ (fun X hX hQ => ?_)
      refine j_astore (pc := 16) hX dX0_contribution_16 (by decide) [some (vA a0), some (vI a1), some (vI a2), some (vI a3), some (vI a4), some (vA (some q_))] rfl ?_
      refine j_iconst (pc := 18) hX (2 : Int32) dX0_contribution_18 rfl ?_
      exact j_ireturn (pc := 19) hX hQ rfl dX0_contribution_19
  · obtain ⟨x, w2, hf2⟩ := h1 r rfl
    refine zRet hX hQ (v := some (vI x)) (w2 := w2) ⟨x, hf2, rfl⟩ (fun X hX hQ => ?_)
    refine j_aload_n (pc := 0) hX dX0_contribution_0 rfl ?_
    refine j_iload_n (pc := 1) hX dX0_contribution_1 rfl ?_
    refine j_iload_n (pc := 2) hX dX0_contribution_2 rfl ?_
    refine j_iload_n (pc := 3) hX dX0_contribution_3 rfl ?_
    refine j_iload (pc := 4) hX dX0_contribution_4 rfl ?_
    refine j_callV (pc := 6) hX (ci := 0) mt_X1_contribution q1482 q1483 q1484 hi_ ⟨_, rfl, rfl⟩ [vI a1, vI a2, vI a3, vI a4] rfl rfl (Nat.le_of_ble_eq_true rfl) (by decide) dX0_contribution_6 (k_X1_contribution _ _ hf) ?_
    have hf := hf2
    unfold fw_contribution at hf
    refine j_goto (pc := 9) hX 20 dX0_contribution_9 rfl ?_
    refine j_iconst (pc := 20) hX (0 : Int32) dX0_contribution_20 rfl ?_
    exact j_ireturn (pc := 21) hX hQ (by cases hf; rfl) dX0_contribution_21
def fw_bracket (a0 : Option Nat) (a1 : Int32) (a2 : Int32) (a3 : Int32) (a4 : Int32) (a5 : Int32) (a6 : Option Nat) (r : Int32) (w1 : zWd) : Option (Int32 × zWd) :=
  (sL w1 a6 (0 : Int32) (Int32.toInt64 r)).bind fun w3 =>
  some ((0 : Int32), w3)
def cd_bracket (E : String) : Int32 := if E = "java/lang/IndexOutOfBoundsException" then 1 else if E = "java/lang/IllegalArgumentException" then 2 else if E = "java/lang/IllegalStateException" then 3 else 0
def Rw_bracket (a0 : Option Nat) (a1 : Int32) (a2 : Int32) (a3 : Int32) (a4 : Int32) (a5 : Int32) (a6 : Option Nat) (o : String ⊕ Int32) (w1 : zWd) : Option zLV → zWd → Prop := match o with
  | .inr r => fun v w' => ∃ x, fw_bracket a0 a1 a2 a3 a4 a5 a6 r w1 = some (x, w') ∧ v = some (vI x)
  | .inl E => fun v w' => v = some (vI (cd_bracket E)) ∧ zTh w1 w'
theorem mw_bracket : zMtW yX0_bracket cX0_bracket 8 (some .int) [(0, 16, 19, 13), (0, 16, 23, 15), (0, 16, 27, 17)] 7 := ⟨q1495, q65, ⟨by decide, by decide⟩, by decide +kernel, by decide⟩
set_option maxHeartbeats 4000000 in
theorem kw_bracket {l : Launch} {n : Nat} {a0 : Option Nat} {a1 : Int32} {a2 : Int32} {a3 : Int32} {a4 : Int32} {a5 : Int32} {a6 : Option Nat} {w w1 : zWd} (o : String ⊕ Int32) (hi_ : isC w 0 a0 = true) (hf : f_X1_bracket n a0 a1 a2 a3 a4 a5 w = some (o, w1)) (h1 : ∀ r, o = .inr r → ∃ x w2, fw_bracket a0 a1 a2 a3 a4 a5 a6 r w1 = some (x, w2)) (h2 : ∀ E, o = .inl E → E ∈ ["java/lang/IndexOutOfBoundsException", "java/lang/IllegalArgumentException", "java/lang/IllegalStateException"]) : zCtR l yX0_bracket cX0_bracket 8 (some .int) [(0, 16, 19, 13), (0, 16, 23, 15), (0, 16, 27, 17)] 10 [vA a0, vI a1, vI a2, vI a3, vI a4, vI a5, vA a6] w (Rw_bracket a0 a1 a2 a3 a4 a5 a6 o w1) := by
  refine zCtR_of (lv := [some (vA a0), some (vI a1), some (vI a2), some (vI a3), some (vI a4), some (vI a5), some (vA a6), none]) (by decide +kernel) 1 rfl rfl ?_
  intro X hX hnm hT hQ
  have hX : zGd X RX0 cX0_bracket 8 (some .int) 10 := hX
  rcases o with E | r
  · have hE := h2 E rfl
    clear h1 h2
    refine j_aload (pc := 0) hX dX0_bracket_0 rfl ?_
    refine j_iconst (pc := 2) hX (0 : Int32) dX0_bracket_2 rfl ?_
    refine j_aload_n (pc := 3) hX dX0_bracket_3 rfl ?_
    refine j_iload_n (pc := 4) hX dX0_bracket_4 rfl ?_
    refine j_iload_n (pc := 5) hX dX0_bracket_5 rfl ?_
    refine j_iload_n (pc := 6) hX dX0_bracket_6 rfl ?_
    refine j_iload (pc := 7) hX dX0_bracket_7 rfl ?_
    refine j_iload (pc := 9) hX dX0_bracket_9 rfl ?_
    simp only [List.mem_cons, List.not_mem_nil, or_false] at hE
    rcases hE with rfl | rfl | rfl
    · refine j_callVC (pc := 11) hX (ci := 0) mt_X1_bracket q1496 q1497 q1498 hi_ ⟨_, rfl, rfl⟩ [vI a1, vI a2, vI a3, vI a4, vI a5] rfl rfl (Nat.le_of_ble_eq_true rfl) (by decide) dX0_bracket_11 [] ⟨0, 16, 19, 13⟩ [⟨0, 16, 23, 15⟩, ⟨0, 16, 27, 17⟩] (hT.trans rfl) (fun z hz => nomatch hz) (by decide) (by decide) q424 q512 (fun q_ w2 hth => ?_) (k_X1_bracket _ _ hf)
      refine zRet hX hQ (v := some (vI 1)) (w2 := w2) ⟨rfl, hth⟩ (fun X hX hQ => ?_)
      refine j_astore (pc := 19) hX dX0_bracket_19 (by decide) [some (vA a0), some (vI a1), some (vI a2), some (vI a3), some (vI a4), some (vI a5), some (vA a6), some (vA (some q_))] rfl ?_
      refine j_iconst (pc := 21) hX (1 : Int32) dX0_bracket_21 rfl ?_
      exact j_ireturn (pc := 22) hX hQ rfl dX0_bracket_22
    · refine j_callVC (pc := 11) hX (ci := 0) mt_X1_bracket q1496 q1497 q1498 hi_ ⟨_, rfl, rfl⟩ [vI a1, vI a2, vI a3, vI a4, vI a5] rfl rfl (Nat.le_of_ble_eq_true rfl) (by decide) dX0_bracket_11 [⟨0, 16, 19, 13⟩] ⟨0, 16, 23, 15⟩ [⟨0, 16, 27, 17⟩] (hT.trans rfl) (fun z hz => by
        simp only [List.mem_cons, List.not_mem_nil, or_false] at hz
        rcases hz with rfl
        · exact Or.inr ⟨by decide, "java/lang/IndexOutOfBoundsException", q424, by decide +kernel⟩) (by decide) (by decide) q501 q528 (fun q_ w2 hth => ?_) (k_X1_bracket _ _ hf)
      refine zRet hX hQ (v := some (vI 2)) (w2 := w2) ⟨rfl, hth⟩ (fun X hX hQ => ?_)
      refine j_astore (pc := 23) hX dX0_bracket_23 (by decide) [some (vA a0), some (vI a1), some (vI a2), some (vI a3), some (vI a4), some (vI a5), some (vA a6), some (vA (some q_))] rfl ?_
      refine j_iconst (pc := 25) hX (2 : Int32) dX0_bracket_25 rfl ?_
      exact j_ireturn (pc := 26) hX hQ rfl dX0_bracket_26
    · refine j_callVC (pc := 11) hX (ci := 0) mt_X1_bracket q1496 q1497 q1498 hi_ ⟨_, rfl, rfl⟩ [vI a1, vI a2, vI a3, vI a4, vI a5] rfl rfl (Nat.le_of_ble_eq_true rfl) (by decide) dX0_bracket_11 [⟨0, 16, 19, 13⟩, ⟨0, 16, 23, 15⟩] ⟨0, 16, 27, 17⟩ [] (hT.trans rfl) (fun z hz => by
        simp only [List.mem_cons, List.not_mem_nil, or_false] at hz
        rcases hz with rfl | rfl
        · exact Or.inr ⟨by decide, "java/lang/IndexOutOfBoundsException", q424, by decide +kernel⟩
        · exact Or.inr ⟨by decide, "java/lang/IllegalArgumentException", q501, by decide +kernel⟩) (by decide) (by decide) q502 q548 (fun q_ w2 hth => ?_) (k_X1_bracket _ _ hf)
      refine zRet hX hQ (v := some (vI 3)) (w2 := w2) ⟨rfl, hth⟩ (fun X hX hQ => ?_)
      refine j_astore (pc := 27) hX dX0_bracket_27 (by decide) [some (vA a0), some (vI a1), some (vI a2), some (vI a3), some (vI a4), some (vI a5), some (vA a6), some (vA (some q_))] rfl ?_
      refine j_iconst (pc := 29) hX (3 : Int32) dX0_bracket_29 rfl ?_
      exact j_ireturn (pc := 30) hX hQ rfl dX0_bracket_30
  · obtain ⟨x, w2, hf2⟩ := h1 r rfl
    refine zRet hX hQ (v := some (vI x)) (w2 := w2) ⟨x, hf2, rfl⟩ (fun X hX hQ => ?_)
    refine j_aload (pc := 0) hX dX0_bracket_0 rfl ?_
    refine j_iconst (pc := 2) hX (0 : Int32) dX0_bracket_2 rfl ?_
    refine j_aload_n (pc := 3) hX dX0_bracket_3 rfl ?_
    refine j_iload_n (pc := 4) hX dX0_bracket_4 rfl ?_
    refine j_iload_n (pc := 5) hX dX0_bracket_5 rfl ?_
    refine j_iload_n (pc := 6) hX dX0_bracket_6 rfl ?_
    refine j_iload (pc := 7) hX dX0_bracket_7 rfl ?_
    refine j_iload (pc := 9) hX dX0_bracket_9 rfl ?_
    refine j_callV (pc := 11) hX (ci := 0) mt_X1_bracket q1496 q1497 q1498 hi_ ⟨_, rfl, rfl⟩ [vI a1, vI a2, vI a3, vI a4, vI a5] rfl rfl (Nat.le_of_ble_eq_true rfl) (by decide) dX0_bracket_11 (k_X1_bracket _ _ hf) ?_
    have hf := hf2
    unfold fw_bracket at hf
    refine j_i2l (pc := 14) hX dX0_bracket_14 ?_
    refine j_lastore (pc := 15) hX dX0_bracket_15 hf (fun w3 hf => ?_)
    refine j_goto (pc := 16) hX 31 dX0_bracket_16 rfl ?_
    refine j_iconst (pc := 31) hX (0 : Int32) dX0_bracket_31 rfl ?_
    exact j_ireturn (pc := 32) hX hQ (by cases hf; rfl) dX0_bracket_32
def fw_state (a0 : Option Nat) (a1 : Int32) (a2 : Int32) (a3 : Int32) (r : Unit) (w1 : zWd) : Option (Int32 × zWd) :=
  some ((0 : Int32), w1)
def cd_state (E : String) : Int32 := if E = "java/lang/IndexOutOfBoundsException" then 1 else if E = "java/lang/IllegalArgumentException" then 2 else 0
def Rw_state (a0 : Option Nat) (a1 : Int32) (a2 : Int32) (a3 : Int32) (o : String ⊕ Unit) (w1 : zWd) : Option zLV → zWd → Prop := match o with
  | .inr r => fun v w' => ∃ x, fw_state a0 a1 a2 a3 r w1 = some (x, w') ∧ v = some (vI x)
  | .inl E => fun v w' => v = some (vI (cd_state E)) ∧ zTh w1 w'
theorem mw_state : zMtW yX0_state cX0_state 5 (some .int) [(0, 7, 10, 13), (0, 7, 14, 15)] 4 := ⟨q1526, q65, ⟨by decide, by decide⟩, by decide +kernel, by decide⟩
set_option maxHeartbeats 4000000 in
theorem kw_state {l : Launch} {n : Nat} {a0 : Option Nat} {a1 : Int32} {a2 : Int32} {a3 : Int32} {w w1 : zWd} (o : String ⊕ Unit) (hi_ : isC w 0 a0 = true) (hf : f_X1_state n a0 a1 a2 a3 w = some (o, w1)) (h1 : ∀ r, o = .inr r → ∃ x w2, fw_state a0 a1 a2 a3 r w1 = some (x, w2)) (h2 : ∀ E, o = .inl E → E ∈ ["java/lang/IndexOutOfBoundsException", "java/lang/IllegalArgumentException"]) : zCtR l yX0_state cX0_state 5 (some .int) [(0, 7, 10, 13), (0, 7, 14, 15)] 10 [vA a0, vI a1, vI a2, vI a3] w (Rw_state a0 a1 a2 a3 o w1) := by
  refine zCtR_of (lv := [some (vA a0), some (vI a1), some (vI a2), some (vI a3), none]) (by decide +kernel) 1 rfl rfl ?_
  intro X hX hnm hT hQ
  have hX : zGd X RX0 cX0_state 5 (some .int) 10 := hX
  rcases o with E | r
  · have hE := h2 E rfl
    clear h1 h2
    refine j_aload_n (pc := 0) hX dX0_state_0 rfl ?_
    refine j_iload_n (pc := 1) hX dX0_state_1 rfl ?_
    refine j_iload_n (pc := 2) hX dX0_state_2 rfl ?_
    refine j_iload_n (pc := 3) hX dX0_state_3 rfl ?_
    simp only [List.mem_cons, List.not_mem_nil, or_false] at hE
    rcases hE with rfl | rfl
    · refine j_callVC (pc := 4) hX (ci := 0) mt_X1_state q1527 q1528 q1529 hi_ ⟨_, rfl, rfl⟩ [vI a1, vI a2, vI a3] rfl rfl (Nat.le_of_ble_eq_true rfl) (by decide) dX0_state_4 [] ⟨0, 7, 10, 13⟩ [⟨0, 7, 14, 15⟩] (hT.trans rfl) (fun z hz => nomatch hz) (by decide) (by decide) q424 q512 (fun q_ w2 hth => ?_) (k_X1_state _ _ hf)
      refine zRet hX hQ (v := some (vI 1)) (w2 := w2) ⟨rfl, hth⟩ (fun X hX hQ => ?_)
      refine j_astore (pc := 10) hX dX0_state_10 (by decide) [some (vA a0), some (vI a1), some (vI a2), some (vI a3), some (vA (some q_))] rfl ?_
      refine j_iconst (pc := 12) hX (1 : Int32) dX0_state_12 rfl ?_
      exact j_ireturn (pc := 13) hX hQ rfl dX0_state_13
    · refine j_callVC (pc := 4) hX (ci := 0) mt_X1_state q1527 q1528 q1529 hi_ ⟨_, rfl, rfl⟩ [vI a1, vI a2, vI a3] rfl rfl (Nat.le_of_ble_eq_true rfl) (by decide) dX0_state_4 [⟨0, 7, 10, 13⟩] ⟨0, 7, 14, 15⟩ [] (hT.trans rfl) (fun z hz => by
        simp only [List.mem_cons, List.not_mem_nil, or_false] at hz
        rcases hz with rfl
        · exact Or.inr ⟨by decide, "java/lang/IndexOutOfBoundsException", q424, by decide +kernel⟩) (by decide) (by decide) q501 q528 (fun q_ w2 hth => ?_) (k_X1_state _ _ hf)
      refine zRet hX hQ (v := some (vI 2)) (w2 := w2) ⟨rfl, hth⟩ (fun X hX hQ => ?_)
      refine j_astore (pc := 14) hX dX0_state_14 (by decide) [some (vA a0), some (vI a1), some (vI a2), some (vI a3), some (vA (some q_))] rfl ?_
      refine j_iconst (pc := 16) hX (2 : Int32) dX0_state_16 rfl ?_
      exact j_ireturn (pc := 17) hX hQ rfl dX0_state_17
  · obtain ⟨x, w2, hf2⟩ := h1 r rfl
    refine zRet hX hQ (v := some (vI x)) (w2 := w2) ⟨x, hf2, rfl⟩ (fun X hX hQ => ?_)
    refine j_aload_n (pc := 0) hX dX0_state_0 rfl ?_
    refine j_iload_n (pc := 1) hX dX0_state_1 rfl ?_
    refine j_iload_n (pc := 2) hX dX0_state_2 rfl ?_
    refine j_iload_n (pc := 3) hX dX0_state_3 rfl ?_
    refine j_callV (pc := 4) hX (ci := 0) mt_X1_state q1527 q1528 q1529 hi_ ⟨_, rfl, rfl⟩ [vI a1, vI a2, vI a3] rfl rfl (Nat.le_of_ble_eq_true rfl) (by decide) dX0_state_4 (k_X1_state _ _ hf) ?_
    have hf := hf2
    unfold fw_state at hf
    refine j_goto (pc := 7) hX 18 dX0_state_7 rfl ?_
    refine j_iconst (pc := 18) hX (0 : Int32) dX0_state_18 rfl ?_
    exact j_ireturn (pc := 19) hX hQ (by cases hf; rfl) dX0_state_19
def fw_pension (a0 : Option Nat) (a1 : Int32) (a2 : Int32) (a3 : Int32) (r : Unit) (w1 : zWd) : Option (Int32 × zWd) :=
  some ((0 : Int32), w1)
def cd_pension (E : String) : Int32 := if E = "java/lang/IndexOutOfBoundsException" then 1 else if E = "java/lang/IllegalArgumentException" then 2 else 0
def Rw_pension (a0 : Option Nat) (a1 : Int32) (a2 : Int32) (a3 : Int32) (o : String ⊕ Unit) (w1 : zWd) : Option zLV → zWd → Prop := match o with
  | .inr r => fun v w' => ∃ x, fw_pension a0 a1 a2 a3 r w1 = some (x, w') ∧ v = some (vI x)
  | .inl E => fun v w' => v = some (vI (cd_pension E)) ∧ zTh w1 w'
theorem mw_pension : zMtW yX0_pension cX0_pension 5 (some .int) [(0, 7, 10, 13), (0, 7, 14, 15)] 4 := ⟨q1533, q65, ⟨by decide, by decide⟩, by decide +kernel, by decide⟩
set_option maxHeartbeats 4000000 in
theorem kw_pension {l : Launch} {n : Nat} {a0 : Option Nat} {a1 : Int32} {a2 : Int32} {a3 : Int32} {w w1 : zWd} (o : String ⊕ Unit) (hi_ : isC w 0 a0 = true) (hf : f_X1_pension n a0 a1 a2 a3 w = some (o, w1)) (h1 : ∀ r, o = .inr r → ∃ x w2, fw_pension a0 a1 a2 a3 r w1 = some (x, w2)) (h2 : ∀ E, o = .inl E → E ∈ ["java/lang/IndexOutOfBoundsException", "java/lang/IllegalArgumentException"]) : zCtR l yX0_pension cX0_pension 5 (some .int) [(0, 7, 10, 13), (0, 7, 14, 15)] 10 [vA a0, vI a1, vI a2, vI a3] w (Rw_pension a0 a1 a2 a3 o w1) := by
  refine zCtR_of (lv := [some (vA a0), some (vI a1), some (vI a2), some (vI a3), none]) (by decide +kernel) 1 rfl rfl ?_
  intro X hX hnm hT hQ
  have hX : zGd X RX0 cX0_pension 5 (some .int) 10 := hX
  rcases o with E | r
  · have hE := h2 E rfl
    clear h1 h2
    refine j_aload_n (pc := 0) hX dX0_pension_0 rfl ?_
    refine j_iload_n (pc := 1) hX dX0_pension_1 rfl ?_
    refine j_iload_n (pc := 2) hX dX0_pension_2 rfl ?_
    refine j_iload_n (pc := 3) hX dX0_pension_3 rfl ?_
    simp only [List.mem_cons, List.not_mem_nil, or_false] at hE
    rcases hE with rfl | rfl
    · refine j_callVC (pc := 4) hX (ci := 0) mt_X1_pension q1534 q1535 q1536 hi_ ⟨_, rfl, rfl⟩ [vI a1, vI a2, vI a3] rfl rfl (Nat.le_of_ble_eq_true rfl) (by decide) dX0_pension_4 [] ⟨0, 7, 10, 13⟩ [⟨0, 7, 14, 15⟩] (hT.trans rfl) (fun z hz => nomatch hz) (by decide) (by decide) q424 q512 (fun q_ w2 hth => ?_) (k_X1_pension _ _ hf)
      refine zRet hX hQ (v := some (vI 1)) (w2 := w2) ⟨rfl, hth⟩ (fun X hX hQ => ?_)
      refine j_astore (pc := 10) hX dX0_pension_10 (by decide) [some (vA a0), some (vI a1), some (vI a2), some (vI a3), some (vA (some q_))] rfl ?_
      refine j_iconst (pc := 12) hX (1 : Int32) dX0_pension_12 rfl ?_
      exact j_ireturn (pc := 13) hX hQ rfl dX0_pension_13
    · refine j_callVC (pc := 4) hX (ci := 0) mt_X1_pension q1534 q1535 q1536 hi_ ⟨_, rfl, rfl⟩ [vI a1, vI a2, vI a3] rfl rfl (Nat.le_of_ble_eq_true rfl) (by decide) dX0_pension_4 [⟨0, 7, 10, 13⟩] ⟨0, 7, 14, 15⟩ [] (hT.trans rfl) (fun z hz => by
        simp only [List.mem_cons, List.not_mem_nil, or_false] at hz
        rcases hz with rfl
        · exact Or.inr ⟨by decide, "java/lang/IndexOutOfBoundsException", q424, by decide +kernel⟩) (by decide) (by decide) q501 q528 (fun q_ w2 hth => ?_) (k_X1_pension _ _ hf)
      refine zRet hX hQ (v := some (vI 2)) (w2 := w2) ⟨rfl, hth⟩ (fun X hX hQ => ?_)
      refine j_astore (pc := 14) hX dX0_pension_14 (by decide) [some (vA a0), some (vI a1), some (vI a2), some (vI a3), some (vA (some q_))] rfl ?_
      refine j_iconst (pc := 16) hX (2 : Int32) dX0_pension_16 rfl ?_
      exact j_ireturn (pc := 17) hX hQ rfl dX0_pension_17
  · obtain ⟨x, w2, hf2⟩ := h1 r rfl
    refine zRet hX hQ (v := some (vI x)) (w2 := w2) ⟨x, hf2, rfl⟩ (fun X hX hQ => ?_)
    refine j_aload_n (pc := 0) hX dX0_pension_0 rfl ?_
    refine j_iload_n (pc := 1) hX dX0_pension_1 rfl ?_
    refine j_iload_n (pc := 2) hX dX0_pension_2 rfl ?_
    refine j_iload_n (pc := 3) hX dX0_pension_3 rfl ?_
    refine j_callV (pc := 4) hX (ci := 0) mt_X1_pension q1534 q1535 q1536 hi_ ⟨_, rfl, rfl⟩ [vI a1, vI a2, vI a3] rfl rfl (Nat.le_of_ble_eq_true rfl) (by decide) dX0_pension_4 (k_X1_pension _ _ hf) ?_
    have hf := hf2
    unfold fw_pension at hf
    refine j_goto (pc := 7) hX 18 dX0_pension_7 rfl ?_
    refine j_iconst (pc := 18) hX (0 : Int32) dX0_pension_18 rfl ?_
    exact j_ireturn (pc := 19) hX hQ (by cases hf; rfl) dX0_pension_19
def fw_yearTax (a0 : Option Nat) (a1 : Int32) (a2 : Int32) (a3 : Int32) (a4 : Int64) (a5 : Option Nat) (r : Int64) (w1 : zWd) : Option (Int32 × zWd) :=
  (sL w1 a5 (0 : Int32) r).bind fun w3 =>
  some ((0 : Int32), w3)
def cd_yearTax (E : String) : Int32 := if E = "java/lang/IndexOutOfBoundsException" then 1 else if E = "java/lang/IllegalArgumentException" then 2 else 0
def Rw_yearTax (a0 : Option Nat) (a1 : Int32) (a2 : Int32) (a3 : Int32) (a4 : Int64) (a5 : Option Nat) (o : String ⊕ Int64) (w1 : zWd) : Option zLV → zWd → Prop := match o with
  | .inr r => fun v w' => ∃ x, fw_yearTax a0 a1 a2 a3 a4 a5 r w1 = some (x, w') ∧ v = some (vI x)
  | .inl E => fun v w' => v = some (vI (cd_yearTax E)) ∧ zTh w1 w'
theorem mw_yearTax : zMtW yX0_yearTax cX0_yearTax 8 (some .int) [(0, 13, 16, 13), (0, 13, 20, 15)] 6 := ⟨q1540, q65, ⟨by decide, by decide⟩, by decide +kernel, by decide⟩
set_option maxHeartbeats 4000000 in
theorem kw_yearTax {l : Launch} {n : Nat} {a0 : Option Nat} {a1 : Int32} {a2 : Int32} {a3 : Int32} {a4 : Int64} {a5 : Option Nat} {w w1 : zWd} (o : String ⊕ Int64) (hi_ : isC w 0 a0 = true) (hf : f_X1_yearTax n a0 a1 a2 a3 a4 w = some (o, w1)) (h1 : ∀ r, o = .inr r → ∃ x w2, fw_yearTax a0 a1 a2 a3 a4 a5 r w1 = some (x, w2)) (h2 : ∀ E, o = .inl E → E ∈ ["java/lang/IndexOutOfBoundsException", "java/lang/IllegalArgumentException"]) : zCtR l yX0_yearTax cX0_yearTax 8 (some .int) [(0, 13, 16, 13), (0, 13, 20, 15)] 10 [vA a0, vI a1, vI a2, vI a3, vL a4, vA a5] w (Rw_yearTax a0 a1 a2 a3 a4 a5 o w1) := by
  refine zCtR_of (lv := [some (vA a0), some (vI a1), some (vI a2), some (vI a3), some (vL a4), none, some (vA a5), none]) (by decide +kernel) 1 rfl rfl ?_
  intro X hX hnm hT hQ
  have hX : zGd X RX0 cX0_yearTax 8 (some .int) 10 := hX
  rcases o with E | r
  · have hE := h2 E rfl
    clear h1 h2
    refine j_aload (pc := 0) hX dX0_yearTax_0 rfl ?_
    refine j_iconst (pc := 2) hX (0 : Int32) dX0_yearTax_2 rfl ?_
    refine j_aload_n (pc := 3) hX dX0_yearTax_3 rfl ?_
    refine j_iload_n (pc := 4) hX dX0_yearTax_4 rfl ?_
    refine j_iload_n (pc := 5) hX dX0_yearTax_5 rfl ?_
    refine j_iload_n (pc := 6) hX dX0_yearTax_6 rfl ?_
    refine j_lload (pc := 7) hX dX0_yearTax_7 rfl ?_
    simp only [List.mem_cons, List.not_mem_nil, or_false] at hE
    rcases hE with rfl | rfl
    · refine j_callVC (pc := 9) hX (ci := 0) mt_X1_yearTax q1541 q1542 q1543 hi_ ⟨_, rfl, rfl⟩ [vI a1, vI a2, vI a3, vL a4] rfl rfl (Nat.le_of_ble_eq_true rfl) (by decide) dX0_yearTax_9 [] ⟨0, 13, 16, 13⟩ [⟨0, 13, 20, 15⟩] (hT.trans rfl) (fun z hz => nomatch hz) (by decide) (by decide) q424 q512 (fun q_ w2 hth => ?_) (k_X1_yearTax _ _ hf)
      refine zRet hX hQ (v := some (vI 1)) (w2 := w2) ⟨rfl, hth⟩ (fun X hX hQ => ?_)
      refine j_astore (pc := 16) hX dX0_yearTax_16 (by decide) [some (vA a0), some (vI a1), some (vI a2), some (vI a3), some (vL a4), none, some (vA a5), some (vA (some q_))] rfl ?_
      refine j_iconst (pc := 18) hX (1 : Int32) dX0_yearTax_18 rfl ?_
      exact j_ireturn (pc := 19) hX hQ rfl dX0_yearTax_19
    · refine j_callVC (pc := 9) hX (ci := 0) mt_X1_yearTax q1541 q1542 q1543 hi_ ⟨_, rfl, rfl⟩ [vI a1, vI a2, vI a3, vL a4] rfl rfl (Nat.le_of_ble_eq_true rfl) (by decide) dX0_yearTax_9 [⟨0, 13, 16, 13⟩] ⟨0, 13, 20, 15⟩ [] (hT.trans rfl) (fun z hz => by
        simp only [List.mem_cons, List.not_mem_nil, or_false] at hz
        rcases hz with rfl
        · exact Or.inr ⟨by decide, "java/lang/IndexOutOfBoundsException", q424, by decide +kernel⟩) (by decide) (by decide) q501 q528 (fun q_ w2 hth => ?_) (k_X1_yearTax _ _ hf)
      refine zRet hX hQ (v := some (vI 2)) (w2 := w2) ⟨rfl, hth⟩ (fun X hX hQ => ?_)
      refine j_astore (pc := 20) hX dX0_yearTax_20 (by decide) [some (vA a0), some (vI a1), some (vI a2), some (vI a3), some (vL a4), none, some (vA a5), some (vA (some q_))] rfl ?_
      refine j_iconst (pc := 22) hX (2 : Int32) dX0_yearTax_22 rfl ?_
      exact j_ireturn (pc := 23) hX hQ rfl dX0_yearTax_23
  · obtain ⟨x, w2, hf2⟩ := h1 r rfl
    refine zRet hX hQ (v := some (vI x)) (w2 := w2) ⟨x, hf2, rfl⟩ (fun X hX hQ => ?_)
    refine j_aload (pc := 0) hX dX0_yearTax_0 rfl ?_
    refine j_iconst (pc := 2) hX (0 : Int32) dX0_yearTax_2 rfl ?_
    refine j_aload_n (pc := 3) hX dX0_yearTax_3 rfl ?_
    refine j_iload_n (pc := 4) hX dX0_yearTax_4 rfl ?_
    refine j_iload_n (pc := 5) hX dX0_yearTax_5 rfl ?_
    refine j_iload_n (pc := 6) hX dX0_yearTax_6 rfl ?_
    refine j_lload (pc := 7) hX dX0_yearTax_7 rfl ?_
    refine j_callV (pc := 9) hX (ci := 0) mt_X1_yearTax q1541 q1542 q1543 hi_ ⟨_, rfl, rfl⟩ [vI a1, vI a2, vI a3, vL a4] rfl rfl (Nat.le_of_ble_eq_true rfl) (by decide) dX0_yearTax_9 (k_X1_yearTax _ _ hf) ?_
    have hf := hf2
    unfold fw_yearTax at hf
    refine j_lastore (pc := 12) hX dX0_yearTax_12 hf (fun w3 hf => ?_)
    refine j_goto (pc := 13) hX 24 dX0_yearTax_13 rfl ?_
    refine j_iconst (pc := 24) hX (0 : Int32) dX0_yearTax_24 rfl ?_
    exact j_ireturn (pc := 25) hX hQ (by cases hf; rfl) dX0_yearTax_25
def fw_slip (a0 : Option Nat) (a1 : Int32) (a2 : Int32) (a3 : Int32) (a4 : Option Nat) (r : Int64) (w1 : zWd) : Option (Int32 × zWd) :=
  (sL w1 a4 (0 : Int32) r).bind fun w3 =>
  some ((0 : Int32), w3)
def cd_slip (E : String) : Int32 := if E = "java/lang/IndexOutOfBoundsException" then 1 else if E = "java/lang/IllegalArgumentException" then 2 else 0
def Rw_slip (a0 : Option Nat) (a1 : Int32) (a2 : Int32) (a3 : Int32) (a4 : Option Nat) (o : String ⊕ Int64) (w1 : zWd) : Option zLV → zWd → Prop := match o with
  | .inr r => fun v w' => ∃ x, fw_slip a0 a1 a2 a3 a4 r w1 = some (x, w') ∧ v = some (vI x)
  | .inl E => fun v w' => v = some (vI (cd_slip E)) ∧ zTh w1 w'
theorem mw_slip : zMtW yX0_slip cX0_slip 6 (some .int) [(0, 11, 14, 13), (0, 11, 18, 15)] 5 := ⟨q1575, q65, ⟨by decide, by decide⟩, by decide +kernel, by decide⟩
set_option maxHeartbeats 4000000 in
theorem kw_slip {l : Launch} {n : Nat} {a0 : Option Nat} {a1 : Int32} {a2 : Int32} {a3 : Int32} {a4 : Option Nat} {w w1 : zWd} (o : String ⊕ Int64) (hi_ : isC w 0 a0 = true) (hf : f_X1_slip n a0 a1 a2 a3 w = some (o, w1)) (h1 : ∀ r, o = .inr r → ∃ x w2, fw_slip a0 a1 a2 a3 a4 r w1 = some (x, w2)) (h2 : ∀ E, o = .inl E → E ∈ ["java/lang/IndexOutOfBoundsException", "java/lang/IllegalArgumentException"]) : zCtR l yX0_slip cX0_slip 6 (some .int) [(0, 11, 14, 13), (0, 11, 18, 15)] 13 [vA a0, vI a1, vI a2, vI a3, vA a4] w (Rw_slip a0 a1 a2 a3 a4 o w1) := by
  refine zCtR_of (lv := [some (vA a0), some (vI a1), some (vI a2), some (vI a3), some (vA a4), none]) (by decide +kernel) 1 rfl rfl ?_
  intro X hX hnm hT hQ
  have hX : zGd X RX0 cX0_slip 6 (some .int) 13 := hX
  rcases o with E | r
  · have hE := h2 E rfl
    clear h1 h2
    refine j_aload (pc := 0) hX dX0_slip_0 rfl ?_
    refine j_iconst (pc := 2) hX (0 : Int32) dX0_slip_2 rfl ?_
    refine j_aload_n (pc := 3) hX dX0_slip_3 rfl ?_
    refine j_iload_n (pc := 4) hX dX0_slip_4 rfl ?_
    refine j_iload_n (pc := 5) hX dX0_slip_5 rfl ?_
    refine j_iload_n (pc := 6) hX dX0_slip_6 rfl ?_
    simp only [List.mem_cons, List.not_mem_nil, or_false] at hE
    rcases hE with rfl | rfl
    · refine j_callVC (pc := 7) hX (ci := 0) mt_X1_slip q1576 q1577 q1578 hi_ ⟨_, rfl, rfl⟩ [vI a1, vI a2, vI a3] rfl rfl (Nat.le_of_ble_eq_true rfl) (by decide) dX0_slip_7 [] ⟨0, 11, 14, 13⟩ [⟨0, 11, 18, 15⟩] (hT.trans rfl) (fun z hz => nomatch hz) (by decide) (by decide) q424 q512 (fun q_ w2 hth => ?_) (k_X1_slip _ _ hf)
      refine zRet hX hQ (v := some (vI 1)) (w2 := w2) ⟨rfl, hth⟩ (fun X hX hQ => ?_)
      refine j_astore (pc := 14) hX dX0_slip_14 (by decide) [some (vA a0), some (vI a1), some (vI a2), some (vI a3), some (vA a4), some (vA (some q_))] rfl ?_
      refine j_iconst (pc := 16) hX (1 : Int32) dX0_slip_16 rfl ?_
      exact j_ireturn (pc := 17) hX hQ rfl dX0_slip_17
    · refine j_callVC (pc := 7) hX (ci := 0) mt_X1_slip q1576 q1577 q1578 hi_ ⟨_, rfl, rfl⟩ [vI a1, vI a2, vI a3] rfl rfl (Nat.le_of_ble_eq_true rfl) (by decide) dX0_slip_7 [⟨0, 11, 14, 13⟩] ⟨0, 11, 18, 15⟩ [] (hT.trans rfl) (fun z hz => by
        simp only [List.mem_cons, List.not_mem_nil, or_false] at hz
        rcases hz with rfl
        · exact Or.inr ⟨by decide, "java/lang/IndexOutOfBoundsException", q424, by decide +kernel⟩) (by decide) (by decide) q501 q528 (fun q_ w2 hth => ?_) (k_X1_slip _ _ hf)
      refine zRet hX hQ (v := some (vI 2)) (w2 := w2) ⟨rfl, hth⟩ (fun X hX hQ => ?_)
      refine j_astore (pc := 18) hX dX0_slip_18 (by decide) [some (vA a0), some (vI a1), some (vI a2), some (vI a3), some (vA a4), some (vA (some q_))] rfl ?_
      refine j_iconst (pc := 20) hX (2 : Int32) dX0_slip_20 rfl ?_
      exact j_ireturn (pc := 21) hX hQ rfl dX0_slip_21
  · obtain ⟨x, w2, hf2⟩ := h1 r rfl
    refine zRet hX hQ (v := some (vI x)) (w2 := w2) ⟨x, hf2, rfl⟩ (fun X hX hQ => ?_)
    refine j_aload (pc := 0) hX dX0_slip_0 rfl ?_
    refine j_iconst (pc := 2) hX (0 : Int32) dX0_slip_2 rfl ?_
    refine j_aload_n (pc := 3) hX dX0_slip_3 rfl ?_
    refine j_iload_n (pc := 4) hX dX0_slip_4 rfl ?_
    refine j_iload_n (pc := 5) hX dX0_slip_5 rfl ?_
    refine j_iload_n (pc := 6) hX dX0_slip_6 rfl ?_
    refine j_callV (pc := 7) hX (ci := 0) mt_X1_slip q1576 q1577 q1578 hi_ ⟨_, rfl, rfl⟩ [vI a1, vI a2, vI a3] rfl rfl (Nat.le_of_ble_eq_true rfl) (by decide) dX0_slip_7 (k_X1_slip _ _ hf) ?_
    have hf := hf2
    unfold fw_slip at hf
    refine j_lastore (pc := 10) hX dX0_slip_10 hf (fun w3 hf => ?_)
    refine j_goto (pc := 11) hX 22 dX0_slip_11 rfl ?_
    refine j_iconst (pc := 22) hX (0 : Int32) dX0_slip_22 rfl ?_
    exact j_ireturn (pc := 23) hX hQ (by cases hf; rfl) dX0_slip_23
def fw_slipIn (a0 : Option Nat) (a1 : Int32) (a2 : Int32) (a3 : Int32) (a4 : Int32) (a5 : Option Nat) (r : Int64) (w1 : zWd) : Option (Int32 × zWd) :=
  (sL w1 a5 (0 : Int32) r).bind fun w3 =>
  some ((0 : Int32), w3)
def cd_slipIn (E : String) : Int32 := if E = "java/lang/IndexOutOfBoundsException" then 1 else if E = "java/lang/IllegalArgumentException" then 2 else 0
def Rw_slipIn (a0 : Option Nat) (a1 : Int32) (a2 : Int32) (a3 : Int32) (a4 : Int32) (a5 : Option Nat) (o : String ⊕ Int64) (w1 : zWd) : Option zLV → zWd → Prop := match o with
  | .inr r => fun v w' => ∃ x, fw_slipIn a0 a1 a2 a3 a4 a5 r w1 = some (x, w') ∧ v = some (vI x)
  | .inl E => fun v w' => v = some (vI (cd_slipIn E)) ∧ zTh w1 w'
theorem mw_slipIn : zMtW yX0_slipIn cX0_slipIn 7 (some .int) [(0, 13, 16, 13), (0, 13, 20, 15)] 6 := ⟨q2026, q65, ⟨by decide, by decide⟩, by decide +kernel, by decide⟩
set_option maxHeartbeats 4000000 in
theorem kw_slipIn {l : Launch} {n : Nat} {a0 : Option Nat} {a1 : Int32} {a2 : Int32} {a3 : Int32} {a4 : Int32} {a5 : Option Nat} {w w1 : zWd} (o : String ⊕ Int64) (hi_ : isC w 0 a0 = true) (hf : f_X1_slipIn n a0 a1 a2 a3 a4 w = some (o, w1)) (h1 : ∀ r, o = .inr r → ∃ x w2, fw_slipIn a0 a1 a2 a3 a4 a5 r w1 = some (x, w2)) (h2 : ∀ E, o = .inl E → E ∈ ["java/lang/IndexOutOfBoundsException", "java/lang/IllegalArgumentException"]) : zCtR l yX0_slipIn cX0_slipIn 7 (some .int) [(0, 13, 16, 13), (0, 13, 20, 15)] 13 [vA a0, vI a1, vI a2, vI a3, vI a4, vA a5] w (Rw_slipIn a0 a1 a2 a3 a4 a5 o w1) := by
  refine zCtR_of (lv := [some (vA a0), some (vI a1), some (vI a2), some (vI a3), some (vI a4), some (vA a5), none]) (by decide +kernel) 1 rfl rfl ?_
  intro X hX hnm hT hQ
  have hX : zGd X RX0 cX0_slipIn 7 (some .int) 13 := hX
  rcases o with E | r
  · have hE := h2 E rfl
    clear h1 h2
    refine j_aload (pc := 0) hX dX0_slipIn_0 rfl ?_
    refine j_iconst (pc := 2) hX (0 : Int32) dX0_slipIn_2 rfl ?_
    refine j_aload_n (pc := 3) hX dX0_slipIn_3 rfl ?_
    refine j_iload_n (pc := 4) hX dX0_slipIn_4 rfl ?_
    refine j_iload_n (pc := 5) hX dX0_slipIn_5 rfl ?_
    refine j_iload_n (pc := 6) hX dX0_slipIn_6 rfl ?_
    refine j_iload (pc := 7) hX dX0_slipIn_7 rfl ?_
    simp only [List.mem_cons, List.not_mem_nil, or_false] at hE
    rcases hE with rfl | rfl
    · refine j_callVC (pc := 9) hX (ci := 0) mt_X1_slipIn q2027 q2028 q2029 hi_ ⟨_, rfl, rfl⟩ [vI a1, vI a2, vI a3, vI a4] rfl rfl (Nat.le_of_ble_eq_true rfl) (by decide) dX0_slipIn_9 [] ⟨0, 13, 16, 13⟩ [⟨0, 13, 20, 15⟩] (hT.trans rfl) (fun z hz => nomatch hz) (by decide) (by decide) q424 q512 (fun q_ w2 hth => ?_) (k_X1_slipIn _ _ hf)
      refine zRet hX hQ (v := some (vI 1)) (w2 := w2) ⟨rfl, hth⟩ (fun X hX hQ => ?_)
      refine j_astore (pc := 16) hX dX0_slipIn_16 (by decide) [some (vA a0), some (vI a1), some (vI a2), some (vI a3), some (vI a4), some (vA a5), some (vA (some q_))] rfl ?_
      refine j_iconst (pc := 18) hX (1 : Int32) dX0_slipIn_18 rfl ?_
      exact j_ireturn (pc := 19) hX hQ rfl dX0_slipIn_19
    · refine j_callVC (pc := 9) hX (ci := 0) mt_X1_slipIn q2027 q2028 q2029 hi_ ⟨_, rfl, rfl⟩ [vI a1, vI a2, vI a3, vI a4] rfl rfl (Nat.le_of_ble_eq_true rfl) (by decide) dX0_slipIn_9 [⟨0, 13, 16, 13⟩] ⟨0, 13, 20, 15⟩ [] (hT.trans rfl) (fun z hz => by
        simp only [List.mem_cons, List.not_mem_nil, or_false] at hz
        rcases hz with rfl
        · exact Or.inr ⟨by decide, "java/lang/IndexOutOfBoundsException", q424, by decide +kernel⟩) (by decide) (by decide) q501 q528 (fun q_ w2 hth => ?_) (k_X1_slipIn _ _ hf)
      refine zRet hX hQ (v := some (vI 2)) (w2 := w2) ⟨rfl, hth⟩ (fun X hX hQ => ?_)
      refine j_astore (pc := 20) hX dX0_slipIn_20 (by decide) [some (vA a0), some (vI a1), some (vI a2), some (vI a3), some (vI a4), some (vA a5), some (vA (some q_))] rfl ?_
      refine j_iconst (pc := 22) hX (2 : Int32) dX0_slipIn_22 rfl ?_
      exact j_ireturn (pc := 23) hX hQ rfl dX0_slipIn_23
  · obtain ⟨x, w2, hf2⟩ := h1 r rfl
    refine zRet hX hQ (v := some (vI x)) (w2 := w2) ⟨x, hf2, rfl⟩ (fun X hX hQ => ?_)
    refine j_aload (pc := 0) hX dX0_slipIn_0 rfl ?_
    refine j_iconst (pc := 2) hX (0 : Int32) dX0_slipIn_2 rfl ?_
    refine j_aload_n (pc := 3) hX dX0_slipIn_3 rfl ?_
    refine j_iload_n (pc := 4) hX dX0_slipIn_4 rfl ?_
    refine j_iload_n (pc := 5) hX dX0_slipIn_5 rfl ?_
    refine j_iload_n (pc := 6) hX dX0_slipIn_6 rfl ?_
    refine j_iload (pc := 7) hX dX0_slipIn_7 rfl ?_
    refine j_callV (pc := 9) hX (ci := 0) mt_X1_slipIn q2027 q2028 q2029 hi_ ⟨_, rfl, rfl⟩ [vI a1, vI a2, vI a3, vI a4] rfl rfl (Nat.le_of_ble_eq_true rfl) (by decide) dX0_slipIn_9 (k_X1_slipIn _ _ hf) ?_
    have hf := hf2
    unfold fw_slipIn at hf
    refine j_lastore (pc := 12) hX dX0_slipIn_12 hf (fun w3 hf => ?_)
    refine j_goto (pc := 13) hX 24 dX0_slipIn_13 rfl ?_
    refine j_iconst (pc := 24) hX (0 : Int32) dX0_slipIn_24 rfl ?_
    exact j_ireturn (pc := 25) hX hQ (by cases hf; rfl) dX0_slipIn_25
def fw_elementOf (a0 : Option Nat) (a1 : Int32) (a2 : Int32) (a3 : Int32) (a4 : Option Nat) (r : Int64) (w1 : zWd) : Option (Int32 × zWd) :=
  (sL w1 a4 (0 : Int32) r).bind fun w3 =>
  some ((0 : Int32), w3)
def cd_elementOf (E : String) : Int32 := if E = "java/lang/IndexOutOfBoundsException" then 1 else 0
def Rw_elementOf (a0 : Option Nat) (a1 : Int32) (a2 : Int32) (a3 : Int32) (a4 : Option Nat) (o : String ⊕ Int64) (w1 : zWd) : Option zLV → zWd → Prop := match o with
  | .inr r => fun v w' => ∃ x, fw_elementOf a0 a1 a2 a3 a4 r w1 = some (x, w') ∧ v = some (vI x)
  | .inl E => fun v w' => v = some (vI (cd_elementOf E)) ∧ zTh w1 w'
theorem mw_elementOf : zMtW yX0_elementOf cX0_elementOf 6 (some .int) [(0, 11, 14, 13)] 5 := ⟨q2034, q65, ⟨by decide, by decide⟩, by decide +kernel, by decide⟩
set_option maxHeartbeats 4000000 in
theorem kw_elementOf {l : Launch} {n : Nat} {a0 : Option Nat} {a1 : Int32} {a2 : Int32} {a3 : Int32} {a4 : Option Nat} {w w1 : zWd} (o : String ⊕ Int64) (hi_ : isC w 0 a0 = true) (hf : f_X1_elementOf n a0 a1 a2 a3 w = some (o, w1)) (h1 : ∀ r, o = .inr r → ∃ x w2, fw_elementOf a0 a1 a2 a3 a4 r w1 = some (x, w2)) (h2 : ∀ E, o = .inl E → E ∈ ["java/lang/IndexOutOfBoundsException"]) : zCtR l yX0_elementOf cX0_elementOf 6 (some .int) [(0, 11, 14, 13)] 13 [vA a0, vI a1, vI a2, vI a3, vA a4] w (Rw_elementOf a0 a1 a2 a3 a4 o w1) := by
  refine zCtR_of (lv := [some (vA a0), some (vI a1), some (vI a2), some (vI a3), some (vA a4), none]) (by decide +kernel) 1 rfl rfl ?_
  intro X hX hnm hT hQ
  have hX : zGd X RX0 cX0_elementOf 6 (some .int) 13 := hX
  rcases o with E | r
  · have hE := h2 E rfl
    clear h1 h2
    refine j_aload (pc := 0) hX dX0_elementOf_0 rfl ?_
    refine j_iconst (pc := 2) hX (0 : Int32) dX0_elementOf_2 rfl ?_
    refine j_aload_n (pc := 3) hX dX0_elementOf_3 rfl ?_
    refine j_iload_n (pc := 4) hX dX0_elementOf_4 rfl ?_
    refine j_iload_n (pc := 5) hX dX0_elementOf_5 rfl ?_
    refine j_iload_n (pc := 6) hX dX0_elementOf_6 rfl ?_
    simp only [List.mem_cons, List.not_mem_nil, or_false] at hE
    rcases hE with rfl
    · refine j_callVC (pc := 7) hX (ci := 0) mt_X1_elementOf q2035 q2036 q2037 hi_ ⟨_, rfl, rfl⟩ [vI a1, vI a2, vI a3] rfl rfl (Nat.le_of_ble_eq_true rfl) (by decide) dX0_elementOf_7 [] ⟨0, 11, 14, 13⟩ [] (hT.trans rfl) (fun z hz => nomatch hz) (by decide) (by decide) q424 q512 (fun q_ w2 hth => ?_) (k_X1_elementOf _ _ hf)
      refine zRet hX hQ (v := some (vI 1)) (w2 := w2) ⟨rfl, hth⟩ (fun X hX hQ => ?_)
      refine j_astore (pc := 14) hX dX0_elementOf_14 (by decide) [some (vA a0), some (vI a1), some (vI a2), some (vI a3), some (vA a4), some (vA (some q_))] rfl ?_
      refine j_iconst (pc := 16) hX (1 : Int32) dX0_elementOf_16 rfl ?_
      exact j_ireturn (pc := 17) hX hQ rfl dX0_elementOf_17
  · obtain ⟨x, w2, hf2⟩ := h1 r rfl
    refine zRet hX hQ (v := some (vI x)) (w2 := w2) ⟨x, hf2, rfl⟩ (fun X hX hQ => ?_)
    refine j_aload (pc := 0) hX dX0_elementOf_0 rfl ?_
    refine j_iconst (pc := 2) hX (0 : Int32) dX0_elementOf_2 rfl ?_
    refine j_aload_n (pc := 3) hX dX0_elementOf_3 rfl ?_
    refine j_iload_n (pc := 4) hX dX0_elementOf_4 rfl ?_
    refine j_iload_n (pc := 5) hX dX0_elementOf_5 rfl ?_
    refine j_iload_n (pc := 6) hX dX0_elementOf_6 rfl ?_
    refine j_callV (pc := 7) hX (ci := 0) mt_X1_elementOf q2035 q2036 q2037 hi_ ⟨_, rfl, rfl⟩ [vI a1, vI a2, vI a3] rfl rfl (Nat.le_of_ble_eq_true rfl) (by decide) dX0_elementOf_7 (k_X1_elementOf _ _ hf) ?_
    have hf := hf2
    unfold fw_elementOf at hf
    refine j_lastore (pc := 10) hX dX0_elementOf_10 hf (fun w3 hf => ?_)
    refine j_goto (pc := 11) hX 18 dX0_elementOf_11 rfl ?_
    refine j_iconst (pc := 18) hX (0 : Int32) dX0_elementOf_18 rfl ?_
    exact j_ireturn (pc := 19) hX hQ (by cases hf; rfl) dX0_elementOf_19
def fw_pensionOf (a0 : Option Nat) (a1 : Int32) (a2 : Int32) (a3 : Option Nat) (r : Int64) (w1 : zWd) : Option (Int32 × zWd) :=
  (sL w1 a3 (0 : Int32) r).bind fun w3 =>
  some ((0 : Int32), w3)
def cd_pensionOf (E : String) : Int32 := if E = "java/lang/IndexOutOfBoundsException" then 1 else 0
def Rw_pensionOf (a0 : Option Nat) (a1 : Int32) (a2 : Int32) (a3 : Option Nat) (o : String ⊕ Int64) (w1 : zWd) : Option zLV → zWd → Prop := match o with
  | .inr r => fun v w' => ∃ x, fw_pensionOf a0 a1 a2 a3 r w1 = some (x, w') ∧ v = some (vI x)
  | .inl E => fun v w' => v = some (vI (cd_pensionOf E)) ∧ zTh w1 w'
theorem mw_pensionOf : zMtW yX0_pensionOf cX0_pensionOf 5 (some .int) [(0, 9, 12, 13)] 4 := ⟨q2041, q65, ⟨by decide, by decide⟩, by decide +kernel, by decide⟩
set_option maxHeartbeats 4000000 in
theorem kw_pensionOf {l : Launch} {n : Nat} {a0 : Option Nat} {a1 : Int32} {a2 : Int32} {a3 : Option Nat} {w w1 : zWd} (o : String ⊕ Int64) (hi_ : isC w 0 a0 = true) (hf : f_X1_pensionOf n a0 a1 a2 w = some (o, w1)) (h1 : ∀ r, o = .inr r → ∃ x w2, fw_pensionOf a0 a1 a2 a3 r w1 = some (x, w2)) (h2 : ∀ E, o = .inl E → E ∈ ["java/lang/IndexOutOfBoundsException"]) : zCtR l yX0_pensionOf cX0_pensionOf 5 (some .int) [(0, 9, 12, 13)] 13 [vA a0, vI a1, vI a2, vA a3] w (Rw_pensionOf a0 a1 a2 a3 o w1) := by
  refine zCtR_of (lv := [some (vA a0), some (vI a1), some (vI a2), some (vA a3), none]) (by decide +kernel) 1 rfl rfl ?_
  intro X hX hnm hT hQ
  have hX : zGd X RX0 cX0_pensionOf 5 (some .int) 13 := hX
  rcases o with E | r
  · have hE := h2 E rfl
    clear h1 h2
    refine j_aload_n (pc := 0) hX dX0_pensionOf_0 rfl ?_
    refine j_iconst (pc := 1) hX (0 : Int32) dX0_pensionOf_1 rfl ?_
    refine j_aload_n (pc := 2) hX dX0_pensionOf_2 rfl ?_
    refine j_iload_n (pc := 3) hX dX0_pensionOf_3 rfl ?_
    refine j_iload_n (pc := 4) hX dX0_pensionOf_4 rfl ?_
    simp only [List.mem_cons, List.not_mem_nil, or_false] at hE
    rcases hE with rfl
    · refine j_callVC (pc := 5) hX (ci := 0) mt_X1_pensionOf q2042 q2043 q2044 hi_ ⟨_, rfl, rfl⟩ [vI a1, vI a2] rfl rfl (Nat.le_of_ble_eq_true rfl) (by decide) dX0_pensionOf_5 [] ⟨0, 9, 12, 13⟩ [] (hT.trans rfl) (fun z hz => nomatch hz) (by decide) (by decide) q424 q512 (fun q_ w2 hth => ?_) (k_X1_pensionOf _ _ hf)
      refine zRet hX hQ (v := some (vI 1)) (w2 := w2) ⟨rfl, hth⟩ (fun X hX hQ => ?_)
      refine j_astore (pc := 12) hX dX0_pensionOf_12 (by decide) [some (vA a0), some (vI a1), some (vI a2), some (vA a3), some (vA (some q_))] rfl ?_
      refine j_iconst (pc := 14) hX (1 : Int32) dX0_pensionOf_14 rfl ?_
      exact j_ireturn (pc := 15) hX hQ rfl dX0_pensionOf_15
  · obtain ⟨x, w2, hf2⟩ := h1 r rfl
    refine zRet hX hQ (v := some (vI x)) (w2 := w2) ⟨x, hf2, rfl⟩ (fun X hX hQ => ?_)
    refine j_aload_n (pc := 0) hX dX0_pensionOf_0 rfl ?_
    refine j_iconst (pc := 1) hX (0 : Int32) dX0_pensionOf_1 rfl ?_
    refine j_aload_n (pc := 2) hX dX0_pensionOf_2 rfl ?_
    refine j_iload_n (pc := 3) hX dX0_pensionOf_3 rfl ?_
    refine j_iload_n (pc := 4) hX dX0_pensionOf_4 rfl ?_
    refine j_callV (pc := 5) hX (ci := 0) mt_X1_pensionOf q2042 q2043 q2044 hi_ ⟨_, rfl, rfl⟩ [vI a1, vI a2] rfl rfl (Nat.le_of_ble_eq_true rfl) (by decide) dX0_pensionOf_5 (k_X1_pensionOf _ _ hf) ?_
    have hf := hf2
    unfold fw_pensionOf at hf
    refine j_lastore (pc := 8) hX dX0_pensionOf_8 hf (fun w3 hf => ?_)
    refine j_goto (pc := 9) hX 16 dX0_pensionOf_9 rfl ?_
    refine j_iconst (pc := 16) hX (0 : Int32) dX0_pensionOf_16 rfl ?_
    exact j_ireturn (pc := 17) hX hQ (by cases hf; rfl) dX0_pensionOf_17
def fw_grossFor (a0 : Option Nat) (a1 : Int32) (a2 : Int32) (a3 : Int32) (a4 : Int32) (a5 : Option Nat) (r : Int32) (w1 : zWd) : Option (Int32 × zWd) :=
  (sL w1 a5 (0 : Int32) (Int32.toInt64 r)).bind fun w3 =>
  some ((0 : Int32), w3)
def cd_grossFor (E : String) : Int32 := if E = "java/lang/IndexOutOfBoundsException" then 1 else if E = "java/lang/IllegalArgumentException" then 2 else 0
def Rw_grossFor (a0 : Option Nat) (a1 : Int32) (a2 : Int32) (a3 : Int32) (a4 : Int32) (a5 : Option Nat) (o : String ⊕ Int32) (w1 : zWd) : Option zLV → zWd → Prop := match o with
  | .inr r => fun v w' => ∃ x, fw_grossFor a0 a1 a2 a3 a4 a5 r w1 = some (x, w') ∧ v = some (vI x)
  | .inl E => fun v w' => v = some (vI (cd_grossFor E)) ∧ zTh w1 w'
theorem mw_grossFor : zMtW yX0_grossFor cX0_grossFor 7 (some .int) [(0, 14, 17, 13), (0, 14, 21, 15)] 6 := ⟨q2048, q65, ⟨by decide, by decide⟩, by decide +kernel, by decide⟩
set_option maxHeartbeats 4000000 in
theorem kw_grossFor {l : Launch} {n : Nat} {a0 : Option Nat} {a1 : Int32} {a2 : Int32} {a3 : Int32} {a4 : Int32} {a5 : Option Nat} {w w1 : zWd} (o : String ⊕ Int32) (hi_ : isC w 0 a0 = true) (hf : f_X1_grossFor n a0 a1 a2 a3 a4 w = some (o, w1)) (h1 : ∀ r, o = .inr r → ∃ x w2, fw_grossFor a0 a1 a2 a3 a4 a5 r w1 = some (x, w2)) (h2 : ∀ E, o = .inl E → E ∈ ["java/lang/IndexOutOfBoundsException", "java/lang/IllegalArgumentException"]) : zCtR l yX0_grossFor cX0_grossFor 7 (some .int) [(0, 14, 17, 13), (0, 14, 21, 15)] 13 [vA a0, vI a1, vI a2, vI a3, vI a4, vA a5] w (Rw_grossFor a0 a1 a2 a3 a4 a5 o w1) := by
  refine zCtR_of (lv := [some (vA a0), some (vI a1), some (vI a2), some (vI a3), some (vI a4), some (vA a5), none]) (by decide +kernel) 1 rfl rfl ?_
  intro X hX hnm hT hQ
  have hX : zGd X RX0 cX0_grossFor 7 (some .int) 13 := hX
  rcases o with E | r
  · have hE := h2 E rfl
    clear h1 h2
    refine j_aload (pc := 0) hX dX0_grossFor_0 rfl ?_
    refine j_iconst (pc := 2) hX (0 : Int32) dX0_grossFor_2 rfl ?_
    refine j_aload_n (pc := 3) hX dX0_grossFor_3 rfl ?_
    refine j_iload_n (pc := 4) hX dX0_grossFor_4 rfl ?_
    refine j_iload_n (pc := 5) hX dX0_grossFor_5 rfl ?_
    refine j_iload_n (pc := 6) hX dX0_grossFor_6 rfl ?_
    refine j_iload (pc := 7) hX dX0_grossFor_7 rfl ?_
    simp only [List.mem_cons, List.not_mem_nil, or_false] at hE
    rcases hE with rfl | rfl
    · refine j_callVC (pc := 9) hX (ci := 0) mt_X1_grossFor q2049 q2050 q2051 hi_ ⟨_, rfl, rfl⟩ [vI a1, vI a2, vI a3, vI a4] rfl rfl (Nat.le_of_ble_eq_true rfl) (by decide) dX0_grossFor_9 [] ⟨0, 14, 17, 13⟩ [⟨0, 14, 21, 15⟩] (hT.trans rfl) (fun z hz => nomatch hz) (by decide) (by decide) q424 q512 (fun q_ w2 hth => ?_) (k_X1_grossFor _ _ hf)
      refine zRet hX hQ (v := some (vI 1)) (w2 := w2) ⟨rfl, hth⟩ (fun X hX hQ => ?_)
      refine j_astore (pc := 17) hX dX0_grossFor_17 (by decide) [some (vA a0), some (vI a1), some (vI a2), some (vI a3), some (vI a4), some (vA a5), some (vA (some q_))] rfl ?_
      refine j_iconst (pc := 19) hX (1 : Int32) dX0_grossFor_19 rfl ?_
      exact j_ireturn (pc := 20) hX hQ rfl dX0_grossFor_20
    · refine j_callVC (pc := 9) hX (ci := 0) mt_X1_grossFor q2049 q2050 q2051 hi_ ⟨_, rfl, rfl⟩ [vI a1, vI a2, vI a3, vI a4] rfl rfl (Nat.le_of_ble_eq_true rfl) (by decide) dX0_grossFor_9 [⟨0, 14, 17, 13⟩] ⟨0, 14, 21, 15⟩ [] (hT.trans rfl) (fun z hz => by
        simp only [List.mem_cons, List.not_mem_nil, or_false] at hz
        rcases hz with rfl
        · exact Or.inr ⟨by decide, "java/lang/IndexOutOfBoundsException", q424, by decide +kernel⟩) (by decide) (by decide) q501 q528 (fun q_ w2 hth => ?_) (k_X1_grossFor _ _ hf)
      refine zRet hX hQ (v := some (vI 2)) (w2 := w2) ⟨rfl, hth⟩ (fun X hX hQ => ?_)
      refine j_astore (pc := 21) hX dX0_grossFor_21 (by decide) [some (vA a0), some (vI a1), some (vI a2), some (vI a3), some (vI a4), some (vA a5), some (vA (some q_))] rfl ?_
      refine j_iconst (pc := 23) hX (2 : Int32) dX0_grossFor_23 rfl ?_
      exact j_ireturn (pc := 24) hX hQ rfl dX0_grossFor_24
  · obtain ⟨x, w2, hf2⟩ := h1 r rfl
    refine zRet hX hQ (v := some (vI x)) (w2 := w2) ⟨x, hf2, rfl⟩ (fun X hX hQ => ?_)
    refine j_aload (pc := 0) hX dX0_grossFor_0 rfl ?_
    refine j_iconst (pc := 2) hX (0 : Int32) dX0_grossFor_2 rfl ?_
    refine j_aload_n (pc := 3) hX dX0_grossFor_3 rfl ?_
    refine j_iload_n (pc := 4) hX dX0_grossFor_4 rfl ?_
    refine j_iload_n (pc := 5) hX dX0_grossFor_5 rfl ?_
    refine j_iload_n (pc := 6) hX dX0_grossFor_6 rfl ?_
    refine j_iload (pc := 7) hX dX0_grossFor_7 rfl ?_
    refine j_callV (pc := 9) hX (ci := 0) mt_X1_grossFor q2049 q2050 q2051 hi_ ⟨_, rfl, rfl⟩ [vI a1, vI a2, vI a3, vI a4] rfl rfl (Nat.le_of_ble_eq_true rfl) (by decide) dX0_grossFor_9 (k_X1_grossFor _ _ hf) ?_
    have hf := hf2
    unfold fw_grossFor at hf
    refine j_i2l (pc := 12) hX dX0_grossFor_12 ?_
    refine j_lastore (pc := 13) hX dX0_grossFor_13 hf (fun w3 hf => ?_)
    refine j_goto (pc := 14) hX 25 dX0_grossFor_14 rfl ?_
    refine j_iconst (pc := 25) hX (0 : Int32) dX0_grossFor_25 rfl ?_
    exact j_ireturn (pc := 26) hX hQ (by cases hf; rfl) dX0_grossFor_26
def fw_garnish (a0 : Option Nat) (a1 : Int32) (a2 : Int32) (a3 : Int32) (a4 : Int32) (a5 : Int32) (a6 : Int32) (a7 : Option Nat) (r : Int32) (w1 : zWd) : Option (Int32 × zWd) :=
  (sL w1 a7 (0 : Int32) (Int32.toInt64 r)).bind fun w3 =>
  some ((0 : Int32), w3)
def cd_garnish (E : String) : Int32 := if E = "java/lang/IndexOutOfBoundsException" then 1 else if E = "java/lang/IllegalArgumentException" then 2 else if E = "java/lang/IllegalStateException" then 3 else 0
def Rw_garnish (a0 : Option Nat) (a1 : Int32) (a2 : Int32) (a3 : Int32) (a4 : Int32) (a5 : Int32) (a6 : Int32) (a7 : Option Nat) (o : String ⊕ Int32) (w1 : zWd) : Option zLV → zWd → Prop := match o with
  | .inr r => fun v w' => ∃ x, fw_garnish a0 a1 a2 a3 a4 a5 a6 a7 r w1 = some (x, w') ∧ v = some (vI x)
  | .inl E => fun v w' => v = some (vI (cd_garnish E)) ∧ zTh w1 w'
theorem mw_garnish : zMtW yX0_garnish cX0_garnish 9 (some .int) [(0, 18, 21, 13), (0, 18, 25, 15), (0, 18, 29, 17)] 8 := ⟨q2056, q65, ⟨by decide, by decide⟩, by decide +kernel, by decide⟩
set_option maxHeartbeats 4000000 in
theorem kw_garnish {l : Launch} {n : Nat} {a0 : Option Nat} {a1 : Int32} {a2 : Int32} {a3 : Int32} {a4 : Int32} {a5 : Int32} {a6 : Int32} {a7 : Option Nat} {w w1 : zWd} (o : String ⊕ Int32) (hi_ : isC w 0 a0 = true) (hf : f_X1_garnish n a0 a1 a2 a3 a4 a5 a6 w = some (o, w1)) (h1 : ∀ r, o = .inr r → ∃ x w2, fw_garnish a0 a1 a2 a3 a4 a5 a6 a7 r w1 = some (x, w2)) (h2 : ∀ E, o = .inl E → E ∈ ["java/lang/IndexOutOfBoundsException", "java/lang/IllegalArgumentException", "java/lang/IllegalStateException"]) : zCtR l yX0_garnish cX0_garnish 9 (some .int) [(0, 18, 21, 13), (0, 18, 25, 15), (0, 18, 29, 17)] 9 [vA a0, vI a1, vI a2, vI a3, vI a4, vI a5, vI a6, vA a7] w (Rw_garnish a0 a1 a2 a3 a4 a5 a6 a7 o w1) := by
  refine zCtR_of (lv := [some (vA a0), some (vI a1), some (vI a2), some (vI a3), some (vI a4), some (vI a5), some (vI a6), some (vA a7), none]) (by decide +kernel) 1 rfl rfl ?_
  intro X hX hnm hT hQ
  have hX : zGd X RX0 cX0_garnish 9 (some .int) 9 := hX
  rcases o with E | r
  · have hE := h2 E rfl
    clear h1 h2
    refine j_aload (pc := 0) hX dX0_garnish_0 rfl ?_
    refine j_iconst (pc := 2) hX (0 : Int32) dX0_garnish_2 rfl ?_
    refine j_aload_n (pc := 3) hX dX0_garnish_3 rfl ?_
    refine j_iload_n (pc := 4) hX dX0_garnish_4 rfl ?_
    refine j_iload_n (pc := 5) hX dX0_garnish_5 rfl ?_
    refine j_iload_n (pc := 6) hX dX0_garnish_6 rfl ?_
    refine j_iload (pc := 7) hX dX0_garnish_7 rfl ?_
    refine j_iload (pc := 9) hX dX0_garnish_9 rfl ?_
    refine j_iload (pc := 11) hX dX0_garnish_11 rfl ?_
    simp only [List.mem_cons, List.not_mem_nil, or_false] at hE
    rcases hE with rfl | rfl | rfl
    · refine j_callVC (pc := 13) hX (ci := 0) mt_X1_garnish q2057 q2058 q2059 hi_ ⟨_, rfl, rfl⟩ [vI a1, vI a2, vI a3, vI a4, vI a5, vI a6] rfl rfl (Nat.le_of_ble_eq_true rfl) (by decide) dX0_garnish_13 [] ⟨0, 18, 21, 13⟩ [⟨0, 18, 25, 15⟩, ⟨0, 18, 29, 17⟩] (hT.trans rfl) (fun z hz => nomatch hz) (by decide) (by decide) q424 q512 (fun q_ w2 hth => ?_) (k_X1_garnish _ _ hf)
      refine zRet hX hQ (v := some (vI 1)) (w2 := w2) ⟨rfl, hth⟩ (fun X hX hQ => ?_)
      refine j_astore (pc := 21) hX dX0_garnish_21 (by decide) [some (vA a0), some (vI a1), some (vI a2), some (vI a3), some (vI a4), some (vI a5), some (vI a6), some (vA a7), some (vA (some q_))] rfl ?_
      refine j_iconst (pc := 23) hX (1 : Int32) dX0_garnish_23 rfl ?_
      exact j_ireturn (pc := 24) hX hQ rfl dX0_garnish_24
    · refine j_callVC (pc := 13) hX (ci := 0) mt_X1_garnish q2057 q2058 q2059 hi_ ⟨_, rfl, rfl⟩ [vI a1, vI a2, vI a3, vI a4, vI a5, vI a6] rfl rfl (Nat.le_of_ble_eq_true rfl) (by decide) dX0_garnish_13 [⟨0, 18, 21, 13⟩] ⟨0, 18, 25, 15⟩ [⟨0, 18, 29, 17⟩] (hT.trans rfl) (fun z hz => by
        simp only [List.mem_cons, List.not_mem_nil, or_false] at hz
        rcases hz with rfl
        · exact Or.inr ⟨by decide, "java/lang/IndexOutOfBoundsException", q424, by decide +kernel⟩) (by decide) (by decide) q501 q528 (fun q_ w2 hth => ?_) (k_X1_garnish _ _ hf)
      refine zRet hX hQ (v := some (vI 2)) (w2 := w2) ⟨rfl, hth⟩ (fun X hX hQ => ?_)
      refine j_astore (pc := 25) hX dX0_garnish_25 (by decide) [some (vA a0), some (vI a1), some (vI a2), some (vI a3), some (vI a4), some (vI a5), some (vI a6), some (vA a7), some (vA (some q_))] rfl ?_
      refine j_iconst (pc := 27) hX (2 : Int32) dX0_garnish_27 rfl ?_
      exact j_ireturn (pc := 28) hX hQ rfl dX0_garnish_28
    · refine j_callVC (pc := 13) hX (ci := 0) mt_X1_garnish q2057 q2058 q2059 hi_ ⟨_, rfl, rfl⟩ [vI a1, vI a2, vI a3, vI a4, vI a5, vI a6] rfl rfl (Nat.le_of_ble_eq_true rfl) (by decide) dX0_garnish_13 [⟨0, 18, 21, 13⟩, ⟨0, 18, 25, 15⟩] ⟨0, 18, 29, 17⟩ [] (hT.trans rfl) (fun z hz => by
        simp only [List.mem_cons, List.not_mem_nil, or_false] at hz
        rcases hz with rfl | rfl
        · exact Or.inr ⟨by decide, "java/lang/IndexOutOfBoundsException", q424, by decide +kernel⟩
        · exact Or.inr ⟨by decide, "java/lang/IllegalArgumentException", q501, by decide +kernel⟩) (by decide) (by decide) q502 q548 (fun q_ w2 hth => ?_) (k_X1_garnish _ _ hf)
      refine zRet hX hQ (v := some (vI 3)) (w2 := w2) ⟨rfl, hth⟩ (fun X hX hQ => ?_)
      refine j_astore (pc := 29) hX dX0_garnish_29 (by decide) [some (vA a0), some (vI a1), some (vI a2), some (vI a3), some (vI a4), some (vI a5), some (vI a6), some (vA a7), some (vA (some q_))] rfl ?_
      refine j_iconst (pc := 31) hX (3 : Int32) dX0_garnish_31 rfl ?_
      exact j_ireturn (pc := 32) hX hQ rfl dX0_garnish_32
  · obtain ⟨x, w2, hf2⟩ := h1 r rfl
    refine zRet hX hQ (v := some (vI x)) (w2 := w2) ⟨x, hf2, rfl⟩ (fun X hX hQ => ?_)
    refine j_aload (pc := 0) hX dX0_garnish_0 rfl ?_
    refine j_iconst (pc := 2) hX (0 : Int32) dX0_garnish_2 rfl ?_
    refine j_aload_n (pc := 3) hX dX0_garnish_3 rfl ?_
    refine j_iload_n (pc := 4) hX dX0_garnish_4 rfl ?_
    refine j_iload_n (pc := 5) hX dX0_garnish_5 rfl ?_
    refine j_iload_n (pc := 6) hX dX0_garnish_6 rfl ?_
    refine j_iload (pc := 7) hX dX0_garnish_7 rfl ?_
    refine j_iload (pc := 9) hX dX0_garnish_9 rfl ?_
    refine j_iload (pc := 11) hX dX0_garnish_11 rfl ?_
    refine j_callV (pc := 13) hX (ci := 0) mt_X1_garnish q2057 q2058 q2059 hi_ ⟨_, rfl, rfl⟩ [vI a1, vI a2, vI a3, vI a4, vI a5, vI a6] rfl rfl (Nat.le_of_ble_eq_true rfl) (by decide) dX0_garnish_13 (k_X1_garnish _ _ hf) ?_
    have hf := hf2
    unfold fw_garnish at hf
    refine j_i2l (pc := 16) hX dX0_garnish_16 ?_
    refine j_lastore (pc := 17) hX dX0_garnish_17 hf (fun w3 hf => ?_)
    refine j_goto (pc := 18) hX 33 dX0_garnish_18 rfl ?_
    refine j_iconst (pc := 33) hX (0 : Int32) dX0_garnish_33 rfl ?_
    exact j_ireturn (pc := 34) hX hQ (by cases hf; rfl) dX0_garnish_34
def fw_takenBy (a0 : Option Nat) (a1 : Int32) (a2 : Int32) (a3 : Option Nat) (r : Int64) (w1 : zWd) : Option (Int32 × zWd) :=
  (sL w1 a3 (0 : Int32) r).bind fun w3 =>
  some ((0 : Int32), w3)
def cd_takenBy (E : String) : Int32 := if E = "java/lang/IndexOutOfBoundsException" then 1 else 0
def Rw_takenBy (a0 : Option Nat) (a1 : Int32) (a2 : Int32) (a3 : Option Nat) (o : String ⊕ Int64) (w1 : zWd) : Option zLV → zWd → Prop := match o with
  | .inr r => fun v w' => ∃ x, fw_takenBy a0 a1 a2 a3 r w1 = some (x, w') ∧ v = some (vI x)
  | .inl E => fun v w' => v = some (vI (cd_takenBy E)) ∧ zTh w1 w'
theorem mw_takenBy : zMtW yX0_takenBy cX0_takenBy 5 (some .int) [(0, 9, 12, 13)] 4 := ⟨q2136, q65, ⟨by decide, by decide⟩, by decide +kernel, by decide⟩
set_option maxHeartbeats 4000000 in
theorem kw_takenBy {l : Launch} {n : Nat} {a0 : Option Nat} {a1 : Int32} {a2 : Int32} {a3 : Option Nat} {w w1 : zWd} (o : String ⊕ Int64) (hi_ : isC w 0 a0 = true) (hf : f_X1_takenBy n a0 a1 a2 w = some (o, w1)) (h1 : ∀ r, o = .inr r → ∃ x w2, fw_takenBy a0 a1 a2 a3 r w1 = some (x, w2)) (h2 : ∀ E, o = .inl E → E ∈ ["java/lang/IndexOutOfBoundsException"]) : zCtR l yX0_takenBy cX0_takenBy 5 (some .int) [(0, 9, 12, 13)] 13 [vA a0, vI a1, vI a2, vA a3] w (Rw_takenBy a0 a1 a2 a3 o w1) := by
  refine zCtR_of (lv := [some (vA a0), some (vI a1), some (vI a2), some (vA a3), none]) (by decide +kernel) 1 rfl rfl ?_
  intro X hX hnm hT hQ
  have hX : zGd X RX0 cX0_takenBy 5 (some .int) 13 := hX
  rcases o with E | r
  · have hE := h2 E rfl
    clear h1 h2
    refine j_aload_n (pc := 0) hX dX0_takenBy_0 rfl ?_
    refine j_iconst (pc := 1) hX (0 : Int32) dX0_takenBy_1 rfl ?_
    refine j_aload_n (pc := 2) hX dX0_takenBy_2 rfl ?_
    refine j_iload_n (pc := 3) hX dX0_takenBy_3 rfl ?_
    refine j_iload_n (pc := 4) hX dX0_takenBy_4 rfl ?_
    simp only [List.mem_cons, List.not_mem_nil, or_false] at hE
    rcases hE with rfl
    · refine j_callVC (pc := 5) hX (ci := 0) mt_X1_takenBy q2137 q2138 q2139 hi_ ⟨_, rfl, rfl⟩ [vI a1, vI a2] rfl rfl (Nat.le_of_ble_eq_true rfl) (by decide) dX0_takenBy_5 [] ⟨0, 9, 12, 13⟩ [] (hT.trans rfl) (fun z hz => nomatch hz) (by decide) (by decide) q424 q512 (fun q_ w2 hth => ?_) (k_X1_takenBy _ _ hf)
      refine zRet hX hQ (v := some (vI 1)) (w2 := w2) ⟨rfl, hth⟩ (fun X hX hQ => ?_)
      refine j_astore (pc := 12) hX dX0_takenBy_12 (by decide) [some (vA a0), some (vI a1), some (vI a2), some (vA a3), some (vA (some q_))] rfl ?_
      refine j_iconst (pc := 14) hX (1 : Int32) dX0_takenBy_14 rfl ?_
      exact j_ireturn (pc := 15) hX hQ rfl dX0_takenBy_15
  · obtain ⟨x, w2, hf2⟩ := h1 r rfl
    refine zRet hX hQ (v := some (vI x)) (w2 := w2) ⟨x, hf2, rfl⟩ (fun X hX hQ => ?_)
    refine j_aload_n (pc := 0) hX dX0_takenBy_0 rfl ?_
    refine j_iconst (pc := 1) hX (0 : Int32) dX0_takenBy_1 rfl ?_
    refine j_aload_n (pc := 2) hX dX0_takenBy_2 rfl ?_
    refine j_iload_n (pc := 3) hX dX0_takenBy_3 rfl ?_
    refine j_iload_n (pc := 4) hX dX0_takenBy_4 rfl ?_
    refine j_callV (pc := 5) hX (ci := 0) mt_X1_takenBy q2137 q2138 q2139 hi_ ⟨_, rfl, rfl⟩ [vI a1, vI a2] rfl rfl (Nat.le_of_ble_eq_true rfl) (by decide) dX0_takenBy_5 (k_X1_takenBy _ _ hf) ?_
    have hf := hf2
    unfold fw_takenBy at hf
    refine j_lastore (pc := 8) hX dX0_takenBy_8 hf (fun w3 hf => ?_)
    refine j_goto (pc := 9) hX 16 dX0_takenBy_9 rfl ?_
    refine j_iconst (pc := 16) hX (0 : Int32) dX0_takenBy_16 rfl ?_
    exact j_ireturn (pc := 17) hX hQ (by cases hf; rfl) dX0_takenBy_17
def fw_advance (a0 : Option Nat) (a1 : Int32) (a2 : Int32) (a3 : Option Nat) (r : Int64) (w1 : zWd) : Option (Int32 × zWd) :=
  (sL w1 a3 (0 : Int32) r).bind fun w3 =>
  some ((0 : Int32), w3)
def cd_advance (E : String) : Int32 := if E = "java/lang/IndexOutOfBoundsException" then 1 else if E = "java/lang/IllegalArgumentException" then 2 else if E = "java/lang/IllegalStateException" then 3 else 0
def Rw_advance (a0 : Option Nat) (a1 : Int32) (a2 : Int32) (a3 : Option Nat) (o : String ⊕ Int64) (w1 : zWd) : Option zLV → zWd → Prop := match o with
  | .inr r => fun v w' => ∃ x, fw_advance a0 a1 a2 a3 r w1 = some (x, w') ∧ v = some (vI x)
  | .inl E => fun v w' => v = some (vI (cd_advance E)) ∧ zTh w1 w'
theorem mw_advance : zMtW yX0_advance cX0_advance 5 (some .int) [(0, 9, 12, 13), (0, 9, 16, 15), (0, 9, 20, 17)] 4 := ⟨q2144, q65, ⟨by decide, by decide⟩, by decide +kernel, by decide⟩
set_option maxHeartbeats 4000000 in
theorem kw_advance {l : Launch} {n : Nat} {a0 : Option Nat} {a1 : Int32} {a2 : Int32} {a3 : Option Nat} {w w1 : zWd} (o : String ⊕ Int64) (hi_ : isC w 0 a0 = true) (hf : f_X1_advance n a0 a1 a2 w = some (o, w1)) (h1 : ∀ r, o = .inr r → ∃ x w2, fw_advance a0 a1 a2 a3 r w1 = some (x, w2)) (h2 : ∀ E, o = .inl E → E ∈ ["java/lang/IndexOutOfBoundsException", "java/lang/IllegalArgumentException", "java/lang/IllegalStateException"]) : zCtR l yX0_advance cX0_advance 5 (some .int) [(0, 9, 12, 13), (0, 9, 16, 15), (0, 9, 20, 17)] 9 [vA a0, vI a1, vI a2, vA a3] w (Rw_advance a0 a1 a2 a3 o w1) := by
  refine zCtR_of (lv := [some (vA a0), some (vI a1), some (vI a2), some (vA a3), none]) (by decide +kernel) 1 rfl rfl ?_
  intro X hX hnm hT hQ
  have hX : zGd X RX0 cX0_advance 5 (some .int) 9 := hX
  rcases o with E | r
  · have hE := h2 E rfl
    clear h1 h2
    refine j_aload_n (pc := 0) hX dX0_advance_0 rfl ?_
    refine j_iconst (pc := 1) hX (0 : Int32) dX0_advance_1 rfl ?_
    refine j_aload_n (pc := 2) hX dX0_advance_2 rfl ?_
    refine j_iload_n (pc := 3) hX dX0_advance_3 rfl ?_
    refine j_iload_n (pc := 4) hX dX0_advance_4 rfl ?_
    simp only [List.mem_cons, List.not_mem_nil, or_false] at hE
    rcases hE with rfl | rfl | rfl
    · refine j_callVC (pc := 5) hX (ci := 0) mt_X1_advance q2145 q2146 q2147 hi_ ⟨_, rfl, rfl⟩ [vI a1, vI a2] rfl rfl (Nat.le_of_ble_eq_true rfl) (by decide) dX0_advance_5 [] ⟨0, 9, 12, 13⟩ [⟨0, 9, 16, 15⟩, ⟨0, 9, 20, 17⟩] (hT.trans rfl) (fun z hz => nomatch hz) (by decide) (by decide) q424 q512 (fun q_ w2 hth => ?_) (k_X1_advance _ _ hf)
      refine zRet hX hQ (v := some (vI 1)) (w2 := w2) ⟨rfl, hth⟩ (fun X hX hQ => ?_)
      refine j_astore (pc := 12) hX dX0_advance_12 (by decide) [some (vA a0), some (vI a1), some (vI a2), some (vA a3), some (vA (some q_))] rfl ?_
      refine j_iconst (pc := 14) hX (1 : Int32) dX0_advance_14 rfl ?_
      exact j_ireturn (pc := 15) hX hQ rfl dX0_advance_15
    · refine j_callVC (pc := 5) hX (ci := 0) mt_X1_advance q2145 q2146 q2147 hi_ ⟨_, rfl, rfl⟩ [vI a1, vI a2] rfl rfl (Nat.le_of_ble_eq_true rfl) (by decide) dX0_advance_5 [⟨0, 9, 12, 13⟩] ⟨0, 9, 16, 15⟩ [⟨0, 9, 20, 17⟩] (hT.trans rfl) (fun z hz => by
        simp only [List.mem_cons, List.not_mem_nil, or_false] at hz
        rcases hz with rfl
        · exact Or.inr ⟨by decide, "java/lang/IndexOutOfBoundsException", q424, by decide +kernel⟩) (by decide) (by decide) q501 q528 (fun q_ w2 hth => ?_) (k_X1_advance _ _ hf)
      refine zRet hX hQ (v := some (vI 2)) (w2 := w2) ⟨rfl, hth⟩ (fun X hX hQ => ?_)
      refine j_astore (pc := 16) hX dX0_advance_16 (by decide) [some (vA a0), some (vI a1), some (vI a2), some (vA a3), some (vA (some q_))] rfl ?_
      refine j_iconst (pc := 18) hX (2 : Int32) dX0_advance_18 rfl ?_
      exact j_ireturn (pc := 19) hX hQ rfl dX0_advance_19
    · refine j_callVC (pc := 5) hX (ci := 0) mt_X1_advance q2145 q2146 q2147 hi_ ⟨_, rfl, rfl⟩ [vI a1, vI a2] rfl rfl (Nat.le_of_ble_eq_true rfl) (by decide) dX0_advance_5 [⟨0, 9, 12, 13⟩, ⟨0, 9, 16, 15⟩] ⟨0, 9, 20, 17⟩ [] (hT.trans rfl) (fun z hz => by
        simp only [List.mem_cons, List.not_mem_nil, or_false] at hz
        rcases hz with rfl | rfl
        · exact Or.inr ⟨by decide, "java/lang/IndexOutOfBoundsException", q424, by decide +kernel⟩
        · exact Or.inr ⟨by decide, "java/lang/IllegalArgumentException", q501, by decide +kernel⟩) (by decide) (by decide) q502 q548 (fun q_ w2 hth => ?_) (k_X1_advance _ _ hf)
      refine zRet hX hQ (v := some (vI 3)) (w2 := w2) ⟨rfl, hth⟩ (fun X hX hQ => ?_)
      refine j_astore (pc := 20) hX dX0_advance_20 (by decide) [some (vA a0), some (vI a1), some (vI a2), some (vA a3), some (vA (some q_))] rfl ?_
      refine j_iconst (pc := 22) hX (3 : Int32) dX0_advance_22 rfl ?_
      exact j_ireturn (pc := 23) hX hQ rfl dX0_advance_23
  · obtain ⟨x, w2, hf2⟩ := h1 r rfl
    refine zRet hX hQ (v := some (vI x)) (w2 := w2) ⟨x, hf2, rfl⟩ (fun X hX hQ => ?_)
    refine j_aload_n (pc := 0) hX dX0_advance_0 rfl ?_
    refine j_iconst (pc := 1) hX (0 : Int32) dX0_advance_1 rfl ?_
    refine j_aload_n (pc := 2) hX dX0_advance_2 rfl ?_
    refine j_iload_n (pc := 3) hX dX0_advance_3 rfl ?_
    refine j_iload_n (pc := 4) hX dX0_advance_4 rfl ?_
    refine j_callV (pc := 5) hX (ci := 0) mt_X1_advance q2145 q2146 q2147 hi_ ⟨_, rfl, rfl⟩ [vI a1, vI a2] rfl rfl (Nat.le_of_ble_eq_true rfl) (by decide) dX0_advance_5 (k_X1_advance _ _ hf) ?_
    have hf := hf2
    unfold fw_advance at hf
    refine j_lastore (pc := 8) hX dX0_advance_8 hf (fun w3 hf => ?_)
    refine j_goto (pc := 9) hX 24 dX0_advance_9 rfl ?_
    refine j_iconst (pc := 24) hX (0 : Int32) dX0_advance_24 rfl ?_
    exact j_ireturn (pc := 25) hX hQ (by cases hf; rfl) dX0_advance_25
def fw_close (a0 : Option Nat) (a1 : Option Nat) (r : Int32) (w1 : zWd) : Option (Int32 × zWd) :=
  (sL w1 a1 (0 : Int32) (Int32.toInt64 r)).bind fun w3 =>
  some ((0 : Int32), w3)
def cd_close (E : String) : Int32 := if E = "java/lang/IllegalStateException" then 1 else 0
def Rw_close (a0 : Option Nat) (a1 : Option Nat) (o : String ⊕ Int32) (w1 : zWd) : Option zLV → zWd → Prop := match o with
  | .inr r => fun v w' => ∃ x, fw_close a0 a1 r w1 = some (x, w') ∧ v = some (vI x)
  | .inl E => fun v w' => v = some (vI (cd_close E)) ∧ zTh w1 w'
theorem mw_close : zMtW yX0_close cX0_close 3 (some .int) [(0, 8, 11, 17)] 2 := ⟨q2169, q65, ⟨by decide, by decide⟩, by decide +kernel, by decide⟩
set_option maxHeartbeats 4000000 in
theorem kw_close {l : Launch} {n : Nat} {a0 : Option Nat} {a1 : Option Nat} {w w1 : zWd} (o : String ⊕ Int32) (hi_ : isC w 0 a0 = true) (hf : f_X1_close n a0 w = some (o, w1)) (h1 : ∀ r, o = .inr r → ∃ x w2, fw_close a0 a1 r w1 = some (x, w2)) (h2 : ∀ E, o = .inl E → E ∈ ["java/lang/IllegalStateException"]) : zCtR l yX0_close cX0_close 3 (some .int) [(0, 8, 11, 17)] 13 [vA a0, vA a1] w (Rw_close a0 a1 o w1) := by
  refine zCtR_of (lv := [some (vA a0), some (vA a1), none]) (by decide +kernel) 1 rfl rfl ?_
  intro X hX hnm hT hQ
  have hX : zGd X RX0 cX0_close 3 (some .int) 13 := hX
  rcases o with E | r
  · have hE := h2 E rfl
    clear h1 h2
    refine j_aload_n (pc := 0) hX dX0_close_0 rfl ?_
    refine j_iconst (pc := 1) hX (0 : Int32) dX0_close_1 rfl ?_
    refine j_aload_n (pc := 2) hX dX0_close_2 rfl ?_
    simp only [List.mem_cons, List.not_mem_nil, or_false] at hE
    rcases hE with rfl
    · refine j_callVC (pc := 3) hX (ci := 0) mt_X1_close q2170 q2171 q2172 hi_ ⟨_, rfl, rfl⟩ [] rfl rfl (Nat.le_of_ble_eq_true rfl) (by decide) dX0_close_3 [] ⟨0, 8, 11, 17⟩ [] (hT.trans rfl) (fun z hz => nomatch hz) (by decide) (by decide) q502 q548 (fun q_ w2 hth => ?_) (k_X1_close _ _ hf)
      refine zRet hX hQ (v := some (vI 1)) (w2 := w2) ⟨rfl, hth⟩ (fun X hX hQ => ?_)
      refine j_astore_n (pc := 11) hX dX0_close_11 (by decide) [some (vA a0), some (vA a1), some (vA (some q_))] rfl ?_
      refine j_iconst (pc := 12) hX (1 : Int32) dX0_close_12 rfl ?_
      exact j_ireturn (pc := 13) hX hQ rfl dX0_close_13
  · obtain ⟨x, w2, hf2⟩ := h1 r rfl
    refine zRet hX hQ (v := some (vI x)) (w2 := w2) ⟨x, hf2, rfl⟩ (fun X hX hQ => ?_)
    refine j_aload_n (pc := 0) hX dX0_close_0 rfl ?_
    refine j_iconst (pc := 1) hX (0 : Int32) dX0_close_1 rfl ?_
    refine j_aload_n (pc := 2) hX dX0_close_2 rfl ?_
    refine j_callV (pc := 3) hX (ci := 0) mt_X1_close q2170 q2171 q2172 hi_ ⟨_, rfl, rfl⟩ [] rfl rfl (Nat.le_of_ble_eq_true rfl) (by decide) dX0_close_3 (k_X1_close _ _ hf) ?_
    have hf := hf2
    unfold fw_close at hf
    refine j_i2l (pc := 6) hX dX0_close_6 ?_
    refine j_lastore (pc := 7) hX dX0_close_7 hf (fun w3 hf => ?_)
    refine j_goto (pc := 8) hX 14 dX0_close_8 rfl ?_
    refine j_iconst (pc := 14) hX (0 : Int32) dX0_close_14 rfl ?_
    exact j_ireturn (pc := 15) hX hQ (by cases hf; rfl) dX0_close_15
def fw_payment (a0 : Option Nat) (a1 : Int32) (a2 : Int32) (a3 : Option Nat) (r : Int64) (w1 : zWd) : Option (Int32 × zWd) :=
  (sL w1 a3 (0 : Int32) r).bind fun w3 =>
  some ((0 : Int32), w3)
def cd_payment (E : String) : Int32 := if E = "java/lang/IndexOutOfBoundsException" then 1 else if E = "java/lang/IllegalArgumentException" then 2 else 0
def Rw_payment (a0 : Option Nat) (a1 : Int32) (a2 : Int32) (a3 : Option Nat) (o : String ⊕ Int64) (w1 : zWd) : Option zLV → zWd → Prop := match o with
  | .inr r => fun v w' => ∃ x, fw_payment a0 a1 a2 a3 r w1 = some (x, w') ∧ v = some (vI x)
  | .inl E => fun v w' => v = some (vI (cd_payment E)) ∧ zTh w1 w'
theorem mw_payment : zMtW yX0_payment cX0_payment 5 (some .int) [(0, 9, 12, 13), (0, 9, 16, 15)] 4 := ⟨q2206, q65, ⟨by decide, by decide⟩, by decide +kernel, by decide⟩
set_option maxHeartbeats 4000000 in
theorem kw_payment {l : Launch} {n : Nat} {a0 : Option Nat} {a1 : Int32} {a2 : Int32} {a3 : Option Nat} {w w1 : zWd} (o : String ⊕ Int64) (hi_ : isC w 0 a0 = true) (hf : f_X1_payment n a0 a1 a2 w = some (o, w1)) (h1 : ∀ r, o = .inr r → ∃ x w2, fw_payment a0 a1 a2 a3 r w1 = some (x, w2)) (h2 : ∀ E, o = .inl E → E ∈ ["java/lang/IndexOutOfBoundsException", "java/lang/IllegalArgumentException"]) : zCtR l yX0_payment cX0_payment 5 (some .int) [(0, 9, 12, 13), (0, 9, 16, 15)] 8 [vA a0, vI a1, vI a2, vA a3] w (Rw_payment a0 a1 a2 a3 o w1) := by
  refine zCtR_of (lv := [some (vA a0), some (vI a1), some (vI a2), some (vA a3), none]) (by decide +kernel) 1 rfl rfl ?_
  intro X hX hnm hT hQ
  have hX : zGd X RX0 cX0_payment 5 (some .int) 8 := hX
  rcases o with E | r
  · have hE := h2 E rfl
    clear h1 h2
    refine j_aload_n (pc := 0) hX dX0_payment_0 rfl ?_
    refine j_iconst (pc := 1) hX (0 : Int32) dX0_payment_1 rfl ?_
    refine j_aload_n (pc := 2) hX dX0_payment_2 rfl ?_
    refine j_iload_n (pc := 3) hX dX0_payment_3 rfl ?_
    refine j_iload_n (pc := 4) hX dX0_payment_4 rfl ?_
    simp only [List.mem_cons, List.not_mem_nil, or_false] at hE
    rcases hE with rfl | rfl
    · refine j_callVC (pc := 5) hX (ci := 0) mt_X1_payment q2207 q2208 q2209 hi_ ⟨_, rfl, rfl⟩ [vI a1, vI a2] rfl rfl (Nat.le_of_ble_eq_true rfl) (by decide) dX0_payment_5 [] ⟨0, 9, 12, 13⟩ [⟨0, 9, 16, 15⟩] (hT.trans rfl) (fun z hz => nomatch hz) (by decide) (by decide) q424 q512 (fun q_ w2 hth => ?_) (k_X1_payment _ _ hf)
      refine zRet hX hQ (v := some (vI 1)) (w2 := w2) ⟨rfl, hth⟩ (fun X hX hQ => ?_)
      refine j_astore (pc := 12) hX dX0_payment_12 (by decide) [some (vA a0), some (vI a1), some (vI a2), some (vA a3), some (vA (some q_))] rfl ?_
      refine j_iconst (pc := 14) hX (1 : Int32) dX0_payment_14 rfl ?_
      exact j_ireturn (pc := 15) hX hQ rfl dX0_payment_15
    · refine j_callVC (pc := 5) hX (ci := 0) mt_X1_payment q2207 q2208 q2209 hi_ ⟨_, rfl, rfl⟩ [vI a1, vI a2] rfl rfl (Nat.le_of_ble_eq_true rfl) (by decide) dX0_payment_5 [⟨0, 9, 12, 13⟩] ⟨0, 9, 16, 15⟩ [] (hT.trans rfl) (fun z hz => by
        simp only [List.mem_cons, List.not_mem_nil, or_false] at hz
        rcases hz with rfl
        · exact Or.inr ⟨by decide, "java/lang/IndexOutOfBoundsException", q424, by decide +kernel⟩) (by decide) (by decide) q501 q528 (fun q_ w2 hth => ?_) (k_X1_payment _ _ hf)
      refine zRet hX hQ (v := some (vI 2)) (w2 := w2) ⟨rfl, hth⟩ (fun X hX hQ => ?_)
      refine j_astore (pc := 16) hX dX0_payment_16 (by decide) [some (vA a0), some (vI a1), some (vI a2), some (vA a3), some (vA (some q_))] rfl ?_
      refine j_iconst (pc := 18) hX (2 : Int32) dX0_payment_18 rfl ?_
      exact j_ireturn (pc := 19) hX hQ rfl dX0_payment_19
  · obtain ⟨x, w2, hf2⟩ := h1 r rfl
    refine zRet hX hQ (v := some (vI x)) (w2 := w2) ⟨x, hf2, rfl⟩ (fun X hX hQ => ?_)
    refine j_aload_n (pc := 0) hX dX0_payment_0 rfl ?_
    refine j_iconst (pc := 1) hX (0 : Int32) dX0_payment_1 rfl ?_
    refine j_aload_n (pc := 2) hX dX0_payment_2 rfl ?_
    refine j_iload_n (pc := 3) hX dX0_payment_3 rfl ?_
    refine j_iload_n (pc := 4) hX dX0_payment_4 rfl ?_
    refine j_callV (pc := 5) hX (ci := 0) mt_X1_payment q2207 q2208 q2209 hi_ ⟨_, rfl, rfl⟩ [vI a1, vI a2] rfl rfl (Nat.le_of_ble_eq_true rfl) (by decide) dX0_payment_5 (k_X1_payment _ _ hf) ?_
    have hf := hf2
    unfold fw_payment at hf
    refine j_lastore (pc := 8) hX dX0_payment_8 hf (fun w3 hf => ?_)
    refine j_goto (pc := 9) hX 20 dX0_payment_9 rfl ?_
    refine j_iconst (pc := 20) hX (0 : Int32) dX0_payment_20 rfl ?_
    exact j_ireturn (pc := 21) hX hQ (by cases hf; rfl) dX0_payment_21
def fw_comeBack (a0 : Option Nat) (a1 : Int32) (a2 : Option Nat) (r : Int64) (w1 : zWd) : Option (Int32 × zWd) :=
  (sL w1 a2 (0 : Int32) r).bind fun w3 =>
  some ((0 : Int32), w3)
def cd_comeBack (E : String) : Int32 := if E = "java/lang/IndexOutOfBoundsException" then 1 else if E = "java/lang/IllegalStateException" then 2 else 0
def Rw_comeBack (a0 : Option Nat) (a1 : Int32) (a2 : Option Nat) (o : String ⊕ Int64) (w1 : zWd) : Option zLV → zWd → Prop := match o with
  | .inr r => fun v w' => ∃ x, fw_comeBack a0 a1 a2 r w1 = some (x, w') ∧ v = some (vI x)
  | .inl E => fun v w' => v = some (vI (cd_comeBack E)) ∧ zTh w1 w'
theorem mw_comeBack : zMtW yX0_comeBack cX0_comeBack 4 (some .int) [(0, 8, 11, 13), (0, 8, 14, 17)] 3 := ⟨q2213, q65, ⟨by decide, by decide⟩, by decide +kernel, by decide⟩
set_option maxHeartbeats 4000000 in
theorem kw_comeBack {l : Launch} {n : Nat} {a0 : Option Nat} {a1 : Int32} {a2 : Option Nat} {w w1 : zWd} (o : String ⊕ Int64) (hi_ : isC w 0 a0 = true) (hf : f_X1_comeBack n a0 a1 w = some (o, w1)) (h1 : ∀ r, o = .inr r → ∃ x w2, fw_comeBack a0 a1 a2 r w1 = some (x, w2)) (h2 : ∀ E, o = .inl E → E ∈ ["java/lang/IndexOutOfBoundsException", "java/lang/IllegalStateException"]) : zCtR l yX0_comeBack cX0_comeBack 4 (some .int) [(0, 8, 11, 13), (0, 8, 14, 17)] 8 [vA a0, vI a1, vA a2] w (Rw_comeBack a0 a1 a2 o w1) := by
  refine zCtR_of (lv := [some (vA a0), some (vI a1), some (vA a2), none]) (by decide +kernel) 1 rfl rfl ?_
  intro X hX hnm hT hQ
  have hX : zGd X RX0 cX0_comeBack 4 (some .int) 8 := hX
  rcases o with E | r
  · have hE := h2 E rfl
    clear h1 h2
    refine j_aload_n (pc := 0) hX dX0_comeBack_0 rfl ?_
    refine j_iconst (pc := 1) hX (0 : Int32) dX0_comeBack_1 rfl ?_
    refine j_aload_n (pc := 2) hX dX0_comeBack_2 rfl ?_
    refine j_iload_n (pc := 3) hX dX0_comeBack_3 rfl ?_
    simp only [List.mem_cons, List.not_mem_nil, or_false] at hE
    rcases hE with rfl | rfl
    · refine j_callVC (pc := 4) hX (ci := 0) mt_X1_comeBack q2214 q2215 q2216 hi_ ⟨_, rfl, rfl⟩ [vI a1] rfl rfl (Nat.le_of_ble_eq_true rfl) (by decide) dX0_comeBack_4 [] ⟨0, 8, 11, 13⟩ [⟨0, 8, 14, 17⟩] (hT.trans rfl) (fun z hz => nomatch hz) (by decide) (by decide) q424 q512 (fun q_ w2 hth => ?_) (k_X1_comeBack _ _ hf)
      refine zRet hX hQ (v := some (vI 1)) (w2 := w2) ⟨rfl, hth⟩ (fun X hX hQ => ?_)
      refine j_astore_n (pc := 11) hX dX0_comeBack_11 (by decide) [some (vA a0), some (vI a1), some (vA a2), some (vA (some q_))] rfl ?_
      refine j_iconst (pc := 12) hX (1 : Int32) dX0_comeBack_12 rfl ?_
      exact j_ireturn (pc := 13) hX hQ rfl dX0_comeBack_13
    · refine j_callVC (pc := 4) hX (ci := 0) mt_X1_comeBack q2214 q2215 q2216 hi_ ⟨_, rfl, rfl⟩ [vI a1] rfl rfl (Nat.le_of_ble_eq_true rfl) (by decide) dX0_comeBack_4 [⟨0, 8, 11, 13⟩] ⟨0, 8, 14, 17⟩ [] (hT.trans rfl) (fun z hz => by
        simp only [List.mem_cons, List.not_mem_nil, or_false] at hz
        rcases hz with rfl
        · exact Or.inr ⟨by decide, "java/lang/IndexOutOfBoundsException", q424, by decide +kernel⟩) (by decide) (by decide) q502 q548 (fun q_ w2 hth => ?_) (k_X1_comeBack _ _ hf)
      refine zRet hX hQ (v := some (vI 2)) (w2 := w2) ⟨rfl, hth⟩ (fun X hX hQ => ?_)
      refine j_astore_n (pc := 14) hX dX0_comeBack_14 (by decide) [some (vA a0), some (vI a1), some (vA a2), some (vA (some q_))] rfl ?_
      refine j_iconst (pc := 15) hX (2 : Int32) dX0_comeBack_15 rfl ?_
      exact j_ireturn (pc := 16) hX hQ rfl dX0_comeBack_16
  · obtain ⟨x, w2, hf2⟩ := h1 r rfl
    refine zRet hX hQ (v := some (vI x)) (w2 := w2) ⟨x, hf2, rfl⟩ (fun X hX hQ => ?_)
    refine j_aload_n (pc := 0) hX dX0_comeBack_0 rfl ?_
    refine j_iconst (pc := 1) hX (0 : Int32) dX0_comeBack_1 rfl ?_
    refine j_aload_n (pc := 2) hX dX0_comeBack_2 rfl ?_
    refine j_iload_n (pc := 3) hX dX0_comeBack_3 rfl ?_
    refine j_callV (pc := 4) hX (ci := 0) mt_X1_comeBack q2214 q2215 q2216 hi_ ⟨_, rfl, rfl⟩ [vI a1] rfl rfl (Nat.le_of_ble_eq_true rfl) (by decide) dX0_comeBack_4 (k_X1_comeBack _ _ hf) ?_
    have hf := hf2
    unfold fw_comeBack at hf
    refine j_lastore (pc := 7) hX dX0_comeBack_7 hf (fun w3 hf => ?_)
    refine j_goto (pc := 8) hX 17 dX0_comeBack_8 rfl ?_
    refine j_iconst (pc := 17) hX (0 : Int32) dX0_comeBack_17 rfl ?_
    exact j_ireturn (pc := 18) hX hQ (by cases hf; rfl) dX0_comeBack_18
def fw_owed (a0 : Option Nat) (a1 : Int32) (a2 : Option Nat) (r : Int64) (w1 : zWd) : Option (Int32 × zWd) :=
  (sL w1 a2 (0 : Int32) r).bind fun w3 =>
  some ((0 : Int32), w3)
def cd_owed (E : String) : Int32 := if E = "java/lang/IndexOutOfBoundsException" then 1 else 0
def Rw_owed (a0 : Option Nat) (a1 : Int32) (a2 : Option Nat) (o : String ⊕ Int64) (w1 : zWd) : Option zLV → zWd → Prop := match o with
  | .inr r => fun v w' => ∃ x, fw_owed a0 a1 a2 r w1 = some (x, w') ∧ v = some (vI x)
  | .inl E => fun v w' => v = some (vI (cd_owed E)) ∧ zTh w1 w'
theorem mw_owed : zMtW yX0_owed cX0_owed 4 (some .int) [(0, 8, 11, 13)] 3 := ⟨q2220, q65, ⟨by decide, by decide⟩, by decide +kernel, by decide⟩
set_option maxHeartbeats 4000000 in
theorem kw_owed {l : Launch} {n : Nat} {a0 : Option Nat} {a1 : Int32} {a2 : Option Nat} {w w1 : zWd} (o : String ⊕ Int64) (hi_ : isC w 0 a0 = true) (hf : f_X1_owed n a0 a1 w = some (o, w1)) (h1 : ∀ r, o = .inr r → ∃ x w2, fw_owed a0 a1 a2 r w1 = some (x, w2)) (h2 : ∀ E, o = .inl E → E ∈ ["java/lang/IndexOutOfBoundsException"]) : zCtR l yX0_owed cX0_owed 4 (some .int) [(0, 8, 11, 13)] 13 [vA a0, vI a1, vA a2] w (Rw_owed a0 a1 a2 o w1) := by
  refine zCtR_of (lv := [some (vA a0), some (vI a1), some (vA a2), none]) (by decide +kernel) 1 rfl rfl ?_
  intro X hX hnm hT hQ
  have hX : zGd X RX0 cX0_owed 4 (some .int) 13 := hX
  rcases o with E | r
  · have hE := h2 E rfl
    clear h1 h2
    refine j_aload_n (pc := 0) hX dX0_owed_0 rfl ?_
    refine j_iconst (pc := 1) hX (0 : Int32) dX0_owed_1 rfl ?_
    refine j_aload_n (pc := 2) hX dX0_owed_2 rfl ?_
    refine j_iload_n (pc := 3) hX dX0_owed_3 rfl ?_
    simp only [List.mem_cons, List.not_mem_nil, or_false] at hE
    rcases hE with rfl
    · refine j_callVC (pc := 4) hX (ci := 0) mt_X1_owed q2221 q2222 q2223 hi_ ⟨_, rfl, rfl⟩ [vI a1] rfl rfl (Nat.le_of_ble_eq_true rfl) (by decide) dX0_owed_4 [] ⟨0, 8, 11, 13⟩ [] (hT.trans rfl) (fun z hz => nomatch hz) (by decide) (by decide) q424 q512 (fun q_ w2 hth => ?_) (k_X1_owed _ _ hf)
      refine zRet hX hQ (v := some (vI 1)) (w2 := w2) ⟨rfl, hth⟩ (fun X hX hQ => ?_)
      refine j_astore_n (pc := 11) hX dX0_owed_11 (by decide) [some (vA a0), some (vI a1), some (vA a2), some (vA (some q_))] rfl ?_
      refine j_iconst (pc := 12) hX (1 : Int32) dX0_owed_12 rfl ?_
      exact j_ireturn (pc := 13) hX hQ rfl dX0_owed_13
  · obtain ⟨x, w2, hf2⟩ := h1 r rfl
    refine zRet hX hQ (v := some (vI x)) (w2 := w2) ⟨x, hf2, rfl⟩ (fun X hX hQ => ?_)
    refine j_aload_n (pc := 0) hX dX0_owed_0 rfl ?_
    refine j_iconst (pc := 1) hX (0 : Int32) dX0_owed_1 rfl ?_
    refine j_aload_n (pc := 2) hX dX0_owed_2 rfl ?_
    refine j_iload_n (pc := 3) hX dX0_owed_3 rfl ?_
    refine j_callV (pc := 4) hX (ci := 0) mt_X1_owed q2221 q2222 q2223 hi_ ⟨_, rfl, rfl⟩ [vI a1] rfl rfl (Nat.le_of_ble_eq_true rfl) (by decide) dX0_owed_4 (k_X1_owed _ _ hf) ?_
    have hf := hf2
    unfold fw_owed at hf
    refine j_lastore (pc := 7) hX dX0_owed_7 hf (fun w3 hf => ?_)
    refine j_goto (pc := 8) hX 14 dX0_owed_8 rfl ?_
    refine j_iconst (pc := 14) hX (0 : Int32) dX0_owed_14 rfl ?_
    exact j_ireturn (pc := 15) hX hQ (by cases hf; rfl) dX0_owed_15
def fw_filed (a0 : Option Nat) (a1 : Int32) (a2 : Int32) (a3 : Int32) (a4 : Option Nat) (r : Int64) (w1 : zWd) : Option (Int32 × zWd) :=
  (sL w1 a4 (0 : Int32) r).bind fun w3 =>
  some ((0 : Int32), w3)
def cd_filed (E : String) : Int32 := if E = "java/lang/IndexOutOfBoundsException" then 1 else 0
def Rw_filed (a0 : Option Nat) (a1 : Int32) (a2 : Int32) (a3 : Int32) (a4 : Option Nat) (o : String ⊕ Int64) (w1 : zWd) : Option zLV → zWd → Prop := match o with
  | .inr r => fun v w' => ∃ x, fw_filed a0 a1 a2 a3 a4 r w1 = some (x, w') ∧ v = some (vI x)
  | .inl E => fun v w' => v = some (vI (cd_filed E)) ∧ zTh w1 w'
theorem mw_filed : zMtW yX0_filed cX0_filed 6 (some .int) [(0, 11, 14, 13)] 5 := ⟨q2227, q65, ⟨by decide, by decide⟩, by decide +kernel, by decide⟩
set_option maxHeartbeats 4000000 in
theorem kw_filed {l : Launch} {n : Nat} {a0 : Option Nat} {a1 : Int32} {a2 : Int32} {a3 : Int32} {a4 : Option Nat} {w w1 : zWd} (o : String ⊕ Int64) (hi_ : isC w 0 a0 = true) (hf : f_X1_filed n a0 a1 a2 a3 w = some (o, w1)) (h1 : ∀ r, o = .inr r → ∃ x w2, fw_filed a0 a1 a2 a3 a4 r w1 = some (x, w2)) (h2 : ∀ E, o = .inl E → E ∈ ["java/lang/IndexOutOfBoundsException"]) : zCtR l yX0_filed cX0_filed 6 (some .int) [(0, 11, 14, 13)] 8 [vA a0, vI a1, vI a2, vI a3, vA a4] w (Rw_filed a0 a1 a2 a3 a4 o w1) := by
  refine zCtR_of (lv := [some (vA a0), some (vI a1), some (vI a2), some (vI a3), some (vA a4), none]) (by decide +kernel) 1 rfl rfl ?_
  intro X hX hnm hT hQ
  have hX : zGd X RX0 cX0_filed 6 (some .int) 8 := hX
  rcases o with E | r
  · have hE := h2 E rfl
    clear h1 h2
    refine j_aload (pc := 0) hX dX0_filed_0 rfl ?_
    refine j_iconst (pc := 2) hX (0 : Int32) dX0_filed_2 rfl ?_
    refine j_aload_n (pc := 3) hX dX0_filed_3 rfl ?_
    refine j_iload_n (pc := 4) hX dX0_filed_4 rfl ?_
    refine j_iload_n (pc := 5) hX dX0_filed_5 rfl ?_
    refine j_iload_n (pc := 6) hX dX0_filed_6 rfl ?_
    simp only [List.mem_cons, List.not_mem_nil, or_false] at hE
    rcases hE with rfl
    · refine j_callVC (pc := 7) hX (ci := 0) mt_X1_filed q2228 q2229 q2230 hi_ ⟨_, rfl, rfl⟩ [vI a1, vI a2, vI a3] rfl rfl (Nat.le_of_ble_eq_true rfl) (by decide) dX0_filed_7 [] ⟨0, 11, 14, 13⟩ [] (hT.trans rfl) (fun z hz => nomatch hz) (by decide) (by decide) q424 q512 (fun q_ w2 hth => ?_) (k_X1_filed _ _ hf)
      refine zRet hX hQ (v := some (vI 1)) (w2 := w2) ⟨rfl, hth⟩ (fun X hX hQ => ?_)
      refine j_astore (pc := 14) hX dX0_filed_14 (by decide) [some (vA a0), some (vI a1), some (vI a2), some (vI a3), some (vA a4), some (vA (some q_))] rfl ?_
      refine j_iconst (pc := 16) hX (1 : Int32) dX0_filed_16 rfl ?_
      exact j_ireturn (pc := 17) hX hQ rfl dX0_filed_17
  · obtain ⟨x, w2, hf2⟩ := h1 r rfl
    refine zRet hX hQ (v := some (vI x)) (w2 := w2) ⟨x, hf2, rfl⟩ (fun X hX hQ => ?_)
    refine j_aload (pc := 0) hX dX0_filed_0 rfl ?_
    refine j_iconst (pc := 2) hX (0 : Int32) dX0_filed_2 rfl ?_
    refine j_aload_n (pc := 3) hX dX0_filed_3 rfl ?_
    refine j_iload_n (pc := 4) hX dX0_filed_4 rfl ?_
    refine j_iload_n (pc := 5) hX dX0_filed_5 rfl ?_
    refine j_iload_n (pc := 6) hX dX0_filed_6 rfl ?_
    refine j_callV (pc := 7) hX (ci := 0) mt_X1_filed q2228 q2229 q2230 hi_ ⟨_, rfl, rfl⟩ [vI a1, vI a2, vI a3] rfl rfl (Nat.le_of_ble_eq_true rfl) (by decide) dX0_filed_7 (k_X1_filed _ _ hf) ?_
    have hf := hf2
    unfold fw_filed at hf
    refine j_lastore (pc := 10) hX dX0_filed_10 hf (fun w3 hf => ?_)
    refine j_goto (pc := 11) hX 18 dX0_filed_11 rfl ?_
    refine j_iconst (pc := 18) hX (0 : Int32) dX0_filed_18 rfl ?_
    exact j_ireturn (pc := 19) hX hQ (by cases hf; rfl) dX0_filed_19
def fw_corrections (a0 : Option Nat) (a1 : Int32) (a2 : Int32) (a3 : Option Nat) (r : Int32) (w1 : zWd) : Option (Int32 × zWd) :=
  (sL w1 a3 (0 : Int32) (Int32.toInt64 r)).bind fun w3 =>
  some ((0 : Int32), w3)
def cd_corrections (E : String) : Int32 := if E = "java/lang/IndexOutOfBoundsException" then 1 else 0
def Rw_corrections (a0 : Option Nat) (a1 : Int32) (a2 : Int32) (a3 : Option Nat) (o : String ⊕ Int32) (w1 : zWd) : Option zLV → zWd → Prop := match o with
  | .inr r => fun v w' => ∃ x, fw_corrections a0 a1 a2 a3 r w1 = some (x, w') ∧ v = some (vI x)
  | .inl E => fun v w' => v = some (vI (cd_corrections E)) ∧ zTh w1 w'
theorem mw_corrections : zMtW yX0_corrections cX0_corrections 5 (some .int) [(0, 10, 13, 13)] 4 := ⟨q2234, q65, ⟨by decide, by decide⟩, by decide +kernel, by decide⟩
set_option maxHeartbeats 4000000 in
theorem kw_corrections {l : Launch} {n : Nat} {a0 : Option Nat} {a1 : Int32} {a2 : Int32} {a3 : Option Nat} {w w1 : zWd} (o : String ⊕ Int32) (hi_ : isC w 0 a0 = true) (hf : f_X1_corrections n a0 a1 a2 w = some (o, w1)) (h1 : ∀ r, o = .inr r → ∃ x w2, fw_corrections a0 a1 a2 a3 r w1 = some (x, w2)) (h2 : ∀ E, o = .inl E → E ∈ ["java/lang/IndexOutOfBoundsException"]) : zCtR l yX0_corrections cX0_corrections 5 (some .int) [(0, 10, 13, 13)] 8 [vA a0, vI a1, vI a2, vA a3] w (Rw_corrections a0 a1 a2 a3 o w1) := by
  refine zCtR_of (lv := [some (vA a0), some (vI a1), some (vI a2), some (vA a3), none]) (by decide +kernel) 1 rfl rfl ?_
  intro X hX hnm hT hQ
  have hX : zGd X RX0 cX0_corrections 5 (some .int) 8 := hX
  rcases o with E | r
  · have hE := h2 E rfl
    clear h1 h2
    refine j_aload_n (pc := 0) hX dX0_corrections_0 rfl ?_
    refine j_iconst (pc := 1) hX (0 : Int32) dX0_corrections_1 rfl ?_
    refine j_aload_n (pc := 2) hX dX0_corrections_2 rfl ?_
    refine j_iload_n (pc := 3) hX dX0_corrections_3 rfl ?_
    refine j_iload_n (pc := 4) hX dX0_corrections_4 rfl ?_
    simp only [List.mem_cons, List.not_mem_nil, or_false] at hE
    rcases hE with rfl
    · refine j_callVC (pc := 5) hX (ci := 0) mt_X1_corrections q2235 q2236 q2237 hi_ ⟨_, rfl, rfl⟩ [vI a1, vI a2] rfl rfl (Nat.le_of_ble_eq_true rfl) (by decide) dX0_corrections_5 [] ⟨0, 10, 13, 13⟩ [] (hT.trans rfl) (fun z hz => nomatch hz) (by decide) (by decide) q424 q512 (fun q_ w2 hth => ?_) (k_X1_corrections _ _ hf)
      refine zRet hX hQ (v := some (vI 1)) (w2 := w2) ⟨rfl, hth⟩ (fun X hX hQ => ?_)
      refine j_astore (pc := 13) hX dX0_corrections_13 (by decide) [some (vA a0), some (vI a1), some (vI a2), some (vA a3), some (vA (some q_))] rfl ?_
      refine j_iconst (pc := 15) hX (1 : Int32) dX0_corrections_15 rfl ?_
      exact j_ireturn (pc := 16) hX hQ rfl dX0_corrections_16
  · obtain ⟨x, w2, hf2⟩ := h1 r rfl
    refine zRet hX hQ (v := some (vI x)) (w2 := w2) ⟨x, hf2, rfl⟩ (fun X hX hQ => ?_)
    refine j_aload_n (pc := 0) hX dX0_corrections_0 rfl ?_
    refine j_iconst (pc := 1) hX (0 : Int32) dX0_corrections_1 rfl ?_
    refine j_aload_n (pc := 2) hX dX0_corrections_2 rfl ?_
    refine j_iload_n (pc := 3) hX dX0_corrections_3 rfl ?_
    refine j_iload_n (pc := 4) hX dX0_corrections_4 rfl ?_
    refine j_callV (pc := 5) hX (ci := 0) mt_X1_corrections q2235 q2236 q2237 hi_ ⟨_, rfl, rfl⟩ [vI a1, vI a2] rfl rfl (Nat.le_of_ble_eq_true rfl) (by decide) dX0_corrections_5 (k_X1_corrections _ _ hf) ?_
    have hf := hf2
    unfold fw_corrections at hf
    refine j_i2l (pc := 8) hX dX0_corrections_8 ?_
    refine j_lastore (pc := 9) hX dX0_corrections_9 hf (fun w3 hf => ?_)
    refine j_goto (pc := 10) hX 17 dX0_corrections_10 rfl ?_
    refine j_iconst (pc := 17) hX (0 : Int32) dX0_corrections_17 rfl ?_
    exact j_ireturn (pc := 18) hX hQ (by cases hf; rfl) dX0_corrections_18
