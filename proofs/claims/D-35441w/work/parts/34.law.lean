set_option maxRecDepth 100000
/-! THE LAW'S CASES -/
/-- what the law's walk keeps in sight: the script, the out cell, the model's memory, the component -/
def zLI (s L x b out : Nat) (xs : Nat → Int32) (w : zWd) (M : zM) : Prop := (∃ fl, w.1 s = some (fl, .inl (0, L, .inl xs))) ∧ (∃ f, w.1 out = some (true, .inl (1, 1, .inr (.inl f)))) ∧ zIj b w M = w ∧ isC w 0 (some x) = true ∧ (¬ (b ≤ s ∧ s ≤ b + 58) ∧ ¬ (b ≤ out ∧ out ≤ b + 58) ∧ ¬ (b ≤ x ∧ x ≤ b + 58)) ∧ s ≠ out ∧ x ≠ out
/-- the law's own steps change no more than this -/
def zNx (b out : Nat) (w w2 : zWd) : Prop := (∀ a, a ≠ out → ¬ (b ≤ a ∧ a ≤ b + 58) → w2.1 a = w.1 a) ∧ w.2.1 ≤ w2.2.1 ∧ w.2.2.1 ≤ w2.2.2.1 + 1 ∧ w.2.2.2.1 ≤ w2.2.2.2.1 + 6 ∧ w2.2.2.2.2 = w.2.2.2.2
theorem zIj_same {b : Nat} {w w2 : zWd} {M : zM} (h : zIj b w M = w) (hq : ∀ a, b ≤ a ∧ a ≤ b + 58 → w2.1 a = w.1 a) : zIj b w2 M = w2 := by
  refine Prod.ext (funext fun a => ?_) rfl
  show (if b ≤ a ∧ a ≤ b + 58 then some (true, zIc b M (a - b)) else w2.1 a) = w2.1 a
  by_cases ha : b ≤ a ∧ a ≤ b + 58
  · rw [if_pos ha, hq a ha]
    have e : (zIj b w M).1 a = w.1 a := by rw [h]
    rw [← e]
    exact (if_pos ha).symm
  · rw [if_neg ha]
section LI
variable {s L x b out : Nat} {xs : Nat → Int32} {w w2 : zWd} {M : zM}
theorem zLI_out (h : zLI s L x b out xs w M) (v : Int64) : ∃ w2, sL w (some out) 0 v = some w2 ∧ zLI s L x b out xs w2 M ∧ aL w2 (some out) 0 = some v ∧ zNx b out w w2 := by
  obtain ⟨⟨fl, h1⟩, ⟨f, h2⟩, h3, h4, ⟨h5, h6, h7⟩, h8, h9⟩ := h
  have e : sL w (some out) 0 v = some (zUp w out (.inl (1, 1, .inr (.inl (va_up f 0 v))))) := by
    simp only [sL]
    rw [h2]
    rfl
  have ho : ∀ a, a ≠ out → (zUp w out (.inl (1, 1, .inr (.inl (va_up f 0 v))))).1 a = w.1 a := fun a ha => if_neg ha
  refine ⟨_, e, ⟨⟨fl, by rw [ho s h8]; exact h1⟩, ⟨_, if_pos rfl⟩, zIj_same h3 (fun a ha => ho a (fun q => h6 (by rw [← q]; exact ha))), ?_, ⟨h5, h6, h7⟩, h8, h9⟩, ?_, fun a h1 _ => ho a h1, Nat.le_refl _, Nat.le_succ _, Nat.le_add_right _ 6, rfl⟩
  · simp only [isC] at h4 ⊢
    rw [ho x h9]
    exact h4
  · simp only [aL, zUp, if_pos]
    rfl
theorem zLI_th (h : zLI s L x b out xs w M) (ht : zTh w w2) : zLI s L x b out xs w2 M ∧ zNx b out w w2 := by
  obtain ⟨h1, h2, h3, h4, h5, h8, h9⟩ := h
  obtain ⟨t1, t2, t3, t4, t5⟩ := ht
  refine ⟨⟨by rw [t1]; exact h1, by rw [t1]; exact h2, zIj_same h3 (fun a _ => by rw [t1]), ?_, h5, h8, h9⟩, fun a _ _ => by rw [t1], t2, by omega, by omega, t5⟩
  simp only [isC] at h4 ⊢
  rw [t1]
  exact h4
theorem zLI_mem (h : zLI s L x b out xs w M) (M1 : zM) : zLI s L x b out xs (zIj b w M1) M1 ∧ (∀ i, aL (zIj b w M1) (some out) i = aL w (some out) i) ∧ ∀ w0, zNx b out w0 w → zNx b out w0 (zIj b w M1) := by
  obtain ⟨⟨fl, h1⟩, ⟨f, h2⟩, h3, h4, ⟨h5, h6, h7⟩, h8, h9⟩ := h
  have ho : ∀ a, ¬ (b ≤ a ∧ a ≤ b + 58) → (zIj b w M1).1 a = w.1 a := fun a ha => if_neg ha
  refine ⟨⟨⟨fl, by rw [ho s h5]; exact h1⟩, ⟨f, by rw [ho out h6]; exact h2⟩, ?_, ?_, ⟨h5, h6, h7⟩, h8, h9⟩, fun i => ?_, fun w0 hn => ⟨fun a g1 g2 => by rw [ho a g2]; exact hn.1 a g1 g2, hn.2⟩⟩
  · refine Prod.ext (funext fun a => ?_) rfl
    show (if b ≤ a ∧ a ≤ b + 58 then some (true, zIc b M1 (a - b)) else (if b ≤ a ∧ a ≤ b + 58 then some (true, zIc b M1 (a - b)) else w.1 a)) = (if b ≤ a ∧ a ≤ b + 58 then some (true, zIc b M1 (a - b)) else w.1 a)
    by_cases ha : b ≤ a ∧ a ≤ b + 58
    · simp only [if_pos ha]
    · simp only [if_neg ha]
  · simp only [isC] at h4 ⊢
    rw [ho x h7]
    exact h4
  · simp only [aL]
    rw [ho out h6]
end LI
theorem lg_cmp_self (v : Int64) : lg_cmp v v = 0 := by
  unfold lg_cmp
  simp
section R34
variable {X : zX} {own : String} {cc : ByteArray} {nL : Nat} {rt : Option FieldType} {h : Nat} {pc : Nat} {lv : List (Option zLV)} {st : List zLV} {w w2 : zWd}
theorem j_rd (hX : zGd X own cc nL rt h) {s L : Nat} {xs : Nat → Int32} (hs : ∃ fl, w.1 s = some (fl, .inl (0, L, .inl xs))) {i v : Int32} (hb : ¬ (i < 0 ∨ L ≤ i.toNatClampNeg)) (hv : xs i.toNatClampNeg = v) (d : decode cc pc = .ok (.iaload, 1)) (kk : zJ X (pc + 1) lv (vI v :: st) w) : zJ X pc lv (vI i :: vA (some s) :: st) w := by
  obtain ⟨fl, hs⟩ := hs
  refine j_iaload (f := some) (o := v) hX d ?_ fun y _ hy => ?_
  · simp only [aI]
    rw [hs]
    simp only
    rw [if_neg hb, hv]
    rfl
  · cases hy
    exact kk
theorem j_ld (hX : zGd X own cc nL rt h) {r : Option Nat} {i : Int32} {v : Int64} (ho : aL w r i = some v) (d : decode cc pc = .ok (.laload, 1)) (kk : zJ X (pc + 1) lv (vL v :: st) w) : zJ X pc lv (vI i :: vA r :: st) w := by
  refine j_laload (f := some) (o := v) hX d (by rw [ho]; rfl) fun y _ hy => ?_
  cases hy
  exact kk
theorem zJ_eq (e : w = w2) (k : zJ X pc lv st w) : zJ X pc lv st w2 := e ▸ k
end R34

def Op_contract (N s L x b out : Nat) (xs : Nat → Int32) (S : Nat → zWd → zM → Prop) : Prop := ∀ (n : Nat) (w : zWd) (M : zM) (p1 : Int32) (p2 : Int32) (p3 : Int32) (p4 : Int32) (p5 : Int32) (p6 : Int32) (p7 : Int32) , n < 64 → zLI s L x b out xs w M → S n w M → (p5 = 0 ∨ p5 = 1) →
  ∃ (o : String ⊕ Int32) (w1 : zWd) (rm : Int32) (M1 : zM), f_X1_contract N (some x) p1 p2 p3 p4 p5 p6 p7 w = some (o, w1) ∧ f_X4_contract N p1 p2 p3 p4 p5 p6 p7 M = some (rm, M1) ∧ zLI s L x b out xs w1 M ∧ (match o with | .inr r => mI M1 67 = 0 ∧ (Int32.toInt64 r) = (Int32.toInt64 rm) | .inl E => E ∈ ["java/lang/IndexOutOfBoundsException", "java/lang/IllegalArgumentException", "java/lang/IllegalStateException"] ∧ mI M1 67 = cd_contract E) ∧ ∀ w2, zNx b out w1 w2 → S (n + 1) w2 M1
theorem fwok_contract {s L x b out : Nat} {xs : Nat → Int32} {w1 : zWd} {M : zM} (hc : zLI s L x b out xs w1 M) (p1 : Int32) (p2 : Int32) (p3 : Int32) (p4 : Int32) (p5 : Int32) (p6 : Int32) (p7 : Int32) (r : Int32) : ∃ w2, fw_contract (some x) p1 p2 p3 p4 p5 p6 p7 (some out) r w1 = some ((0 : Int32), w2) ∧ zLI s L x b out xs w2 M ∧ aL w2 (some out) 0 = some (Int32.toInt64 r) ∧  zNx b out w1 w2 := by
  obtain ⟨w2, e, h1, h2, h3⟩ := zLI_out hc (Int32.toInt64 r)
  refine ⟨w2, ?_, h1, h2, h3⟩
  unfold fw_contract
  rw [e]
  rfl
set_option maxHeartbeats 4000000 in
theorem lc_contract {X : zX} (hX : zGd X RX0 cL_law 8 ret 24) {s L x b out n N : Nat} {xs : Nat → Int32} {i : Int32} {S : Nat → zWd → zM → Prop} {w : zWd} {M : zM} (hn : n < 64) (hc : zLI s L x b out xs w M) (hS : S n w M) (op : Op_contract N s L x b out xs S)
    (hb : ∀ j ∈ [(1 : Int32), 2, 3, 4, 5, 6, 7], ¬ (i + j < 0 ∨ L ≤ (i + j).toNatClampNeg)) (kk : ∀ w' M', zLI s L x b out xs w' M' → S (n + 1) w' M' → zJ X 2691 [some (vA (some s)), some (vA (some x)), some (vA (some b)), some (vA (some out)), some (vI i), none, none, none] [] w') : zJ X 192 [some (vA (some s)), some (vA (some x)), some (vA (some b)), some (vA (some out)), some (vI i), none, none, none] [] w := by
  obtain ⟨a1, ha1⟩ : ∃ v, xs (i + (1 : Int32)).toNatClampNeg = v := ⟨_, rfl⟩
  have hb1 := hb (1 : Int32) (by decide)
  obtain ⟨a2, ha2⟩ : ∃ v, xs (i + (2 : Int32)).toNatClampNeg = v := ⟨_, rfl⟩
  have hb2 := hb (2 : Int32) (by decide)
  obtain ⟨a3, ha3⟩ : ∃ v, xs (i + (3 : Int32)).toNatClampNeg = v := ⟨_, rfl⟩
  have hb3 := hb (3 : Int32) (by decide)
  obtain ⟨a4, ha4⟩ : ∃ v, xs (i + (4 : Int32)).toNatClampNeg = v := ⟨_, rfl⟩
  have hb4 := hb (4 : Int32) (by decide)
  obtain ⟨a5, ha5⟩ : ∃ v, xs (i + (5 : Int32)).toNatClampNeg = v := ⟨_, rfl⟩
  have hb5 := hb (5 : Int32) (by decide)
  obtain ⟨a6, ha6⟩ : ∃ v, xs (i + (6 : Int32)).toNatClampNeg = v := ⟨_, rfl⟩
  have hb6 := hb (6 : Int32) (by decide)
  obtain ⟨a7, ha7⟩ : ∃ v, xs (i + (7 : Int32)).toNatClampNeg = v := ⟨_, rfl⟩
  have hb7 := hb (7 : Int32) (by decide)
  by_cases hz : a5 = 0
  · obtain ⟨o, w1, rm, M1, e1, e2, hc1, hag, hnx⟩ := op n w M a1 a2 a3 a4 (0 : Int32) a6 a7 hn hc hS (Or.inl rfl)
    refine j_aload_n (pc := 192) hX dL_law_192 rfl ?_
    refine j_aload_n (pc := 193) hX dL_law_193 rfl ?_
    refine j_iload (pc := 194) hX dL_law_194 rfl ?_
    refine j_iconst (pc := 196) hX (1 : Int32) dL_law_196 rfl ?_
    refine j_iadd (pc := 197) hX dL_law_197 ?_
    refine j_rd (pc := 198) hX hc.1 hb1 ha1 dL_law_198 ?_
    refine j_aload_n (pc := 199) hX dL_law_199 rfl ?_
    refine j_iload (pc := 200) hX dL_law_200 rfl ?_
    refine j_iconst (pc := 202) hX (2 : Int32) dL_law_202 rfl ?_
    refine j_iadd (pc := 203) hX dL_law_203 ?_
    refine j_rd (pc := 204) hX hc.1 hb2 ha2 dL_law_204 ?_
    refine j_aload_n (pc := 205) hX dL_law_205 rfl ?_
    refine j_iload (pc := 206) hX dL_law_206 rfl ?_
    refine j_iconst (pc := 208) hX (3 : Int32) dL_law_208 rfl ?_
    refine j_iadd (pc := 209) hX dL_law_209 ?_
    refine j_rd (pc := 210) hX hc.1 hb3 ha3 dL_law_210 ?_
    refine j_aload_n (pc := 211) hX dL_law_211 rfl ?_
    refine j_iload (pc := 212) hX dL_law_212 rfl ?_
    refine j_iconst (pc := 214) hX (4 : Int32) dL_law_214 rfl ?_
    refine j_iadd (pc := 215) hX dL_law_215 ?_
    refine j_rd (pc := 216) hX hc.1 hb4 ha4 dL_law_216 ?_
    refine j_aload_n (pc := 217) hX dL_law_217 rfl ?_
    refine j_iload (pc := 218) hX dL_law_218 rfl ?_
    refine j_iconst (pc := 220) hX (5 : Int32) dL_law_220 rfl ?_
    refine j_iadd (pc := 221) hX dL_law_221 ?_
    refine j_rd (pc := 222) hX hc.1 hb5 ha5 dL_law_222 ?_
    refine j_if_eq (pc := 223) hX 230 (A := some ()) (B := some ()) (o := ()) dL_law_223 rfl (by split <;> rfl) (fun _ _ => ?_) (fun h_ _ => absurd hz h_)
    refine j_iconst (pc := 230) hX (0 : Int32) dL_law_230 rfl ?_
    refine j_aload_n (pc := 231) hX dL_law_231 rfl ?_
    refine j_iload (pc := 232) hX dL_law_232 rfl ?_
    refine j_bipush (pc := 234) hX (6 : Int32) dL_law_234 (by decide +kernel) ?_
    refine j_iadd (pc := 236) hX dL_law_236 ?_
    refine j_rd (pc := 237) hX hc.1 hb6 ha6 dL_law_237 ?_
    refine j_aload_n (pc := 238) hX dL_law_238 rfl ?_
    refine j_iload (pc := 239) hX dL_law_239 rfl ?_
    refine j_bipush (pc := 241) hX (7 : Int32) dL_law_241 (by decide +kernel) ?_
    refine j_iadd (pc := 243) hX dL_law_243 ?_
    refine j_rd (pc := 244) hX hc.1 hb7 ha7 dL_law_244 ?_
    refine j_aload_n (pc := 245) hX dL_law_245 rfl ?_
    refine j_callSR (pc := 246) hX mw_contract q421 q422 [vA (some x), vI a1, vI a2, vI a3, vI a4, vI (0 : Int32), vI a6, vI a7, vA (some out)] rfl rfl (Nat.le_of_ble_eq_true rfl) (by decide) dL_law_246 (kw_contract o hc.2.2.2.1 e1 (fun r hr => ⟨_, _, (fwok_contract hc1 a1 a2 a3 a4 (0 : Int32) a6 a7 r).choose_spec.1⟩) (fun E hE => by subst hE; exact hag.1)) (fun v' w2 hR => ?_)
    rcases o with E | r
    · obtain ⟨rfl, hth⟩ := hR
      obtain ⟨hE, ht⟩ := hag
      obtain ⟨hc2, hn2⟩ := zLI_th hc1 hth
      have hk : ¬ cd_contract E = 0 := by
        simp only [List.mem_cons, List.not_mem_nil, or_false] at hE
        rcases hE with rfl | rfl | rfl <;> decide +kernel
      refine j_istore (pc := 249) hX dL_law_249 (by decide) [some (vA (some s)), some (vA (some x)), some (vA (some b)), some (vA (some out)), some (vI i), some (vI (cd_contract E)), none, none] rfl ?_
      refine j_aload_n (pc := 251) hX dL_law_251 rfl ?_
      refine j_aload_n (pc := 252) hX dL_law_252 rfl ?_
      refine j_iload (pc := 253) hX dL_law_253 rfl ?_
      refine j_iconst (pc := 255) hX (1 : Int32) dL_law_255 rfl ?_
      refine j_iadd (pc := 256) hX dL_law_256 ?_
      refine j_rd (pc := 257) hX hc2.1 hb1 ha1 dL_law_257 ?_
      refine j_aload_n (pc := 258) hX dL_law_258 rfl ?_
      refine j_iload (pc := 259) hX dL_law_259 rfl ?_
      refine j_iconst (pc := 261) hX (2 : Int32) dL_law_261 rfl ?_
      refine j_iadd (pc := 262) hX dL_law_262 ?_
      refine j_rd (pc := 263) hX hc2.1 hb2 ha2 dL_law_263 ?_
      refine j_aload_n (pc := 264) hX dL_law_264 rfl ?_
      refine j_iload (pc := 265) hX dL_law_265 rfl ?_
      refine j_iconst (pc := 267) hX (3 : Int32) dL_law_267 rfl ?_
      refine j_iadd (pc := 268) hX dL_law_268 ?_
      refine j_rd (pc := 269) hX hc2.1 hb3 ha3 dL_law_269 ?_
      refine j_aload_n (pc := 270) hX dL_law_270 rfl ?_
      refine j_iload (pc := 271) hX dL_law_271 rfl ?_
      refine j_iconst (pc := 273) hX (4 : Int32) dL_law_273 rfl ?_
      refine j_iadd (pc := 274) hX dL_law_274 ?_
      refine j_rd (pc := 275) hX hc2.1 hb4 ha4 dL_law_275 ?_
      refine j_aload_n (pc := 276) hX dL_law_276 rfl ?_
      refine j_iload (pc := 277) hX dL_law_277 rfl ?_
      refine j_iconst (pc := 279) hX (5 : Int32) dL_law_279 rfl ?_
      refine j_iadd (pc := 280) hX dL_law_280 ?_
      refine j_rd (pc := 281) hX hc2.1 hb5 ha5 dL_law_281 ?_
      refine j_if_eq (pc := 282) hX 289 (A := some ()) (B := some ()) (o := ()) dL_law_282 rfl (by split <;> rfl) (fun _ _ => ?_) (fun h_ _ => absurd hz h_)
      refine j_iconst (pc := 289) hX (0 : Int32) dL_law_289 rfl ?_
      refine j_aload_n (pc := 290) hX dL_law_290 rfl ?_
      refine j_iload (pc := 291) hX dL_law_291 rfl ?_
      refine j_bipush (pc := 293) hX (6 : Int32) dL_law_293 (by decide +kernel) ?_
      refine j_iadd (pc := 295) hX dL_law_295 ?_
      refine j_rd (pc := 296) hX hc2.1 hb6 ha6 dL_law_296 ?_
      refine j_aload_n (pc := 297) hX dL_law_297 rfl ?_
      refine j_iload (pc := 298) hX dL_law_298 rfl ?_
      refine j_bipush (pc := 300) hX (7 : Int32) dL_law_300 (by decide +kernel) ?_
      refine j_iadd (pc := 302) hX dL_law_302 ?_
      refine j_rd (pc := 303) hX hc2.1 hb7 ha7 dL_law_303 ?_
      refine zJ_eq hc2.2.2.1 ?_
      refine j_callV (pc := 304) hX (ci := 3) mt_X4_contract q2460 q2461 q2462 (zIj_isC b w2 M) ⟨_, rfl, rfl⟩ [vI a1, vI a2, vI a3, vI a4, vI (0 : Int32), vI a6, vI a7] rfl rfl (Nat.le_of_ble_eq_true rfl) (by decide) dL_law_304 (k_X4_contract _ _ e2) ?_
      obtain ⟨hc3, ho3, hn3⟩ := zLI_mem hc2 M1
      refine j_istore (pc := 307) hX dL_law_307 (by decide) [some (vA (some s)), some (vA (some x)), some (vA (some b)), some (vA (some out)), some (vI i), some (vI (cd_contract E)), some (vI rm), none] rfl ?_
      refine j_aload_n (pc := 309) hX dL_law_309 rfl ?_
      refine j_callV (pc := 310) hX (ci := 3) mt_X4_thrown q2456 q2457 q2458 (zIj_isC b w2 M1) ⟨_, rfl, rfl⟩ [] rfl rfl (Nat.le_of_ble_eq_true rfl) (by decide) dL_law_310 (k_X4_thrown (n := N) _ _ rfl) ?_
      refine j_iload (pc := 313) hX dL_law_313 rfl ?_
      refine j_icmp_eq (pc := 315) hX 320 (A := some ()) (B := some ()) (o := ()) dL_law_315 rfl (by split <;> rfl) (fun _ _ => ?_) (fun h_ _ => absurd ht h_)
      refine j_iload (pc := 320) hX dL_law_320 rfl ?_
      refine j_if_ne (pc := 322) hX 337 (A := some ()) (B := some ()) (o := ()) dL_law_322 rfl (by split <;> rfl) (fun _ _ => ?_) (fun h_ _ => absurd h_ hk)
      refine j_goto (pc := 337) hX 2691 dL_law_337 rfl ?_
      refine j_fg [5, 6] [some (vA (some s)), some (vA (some x)), some (vA (some b)), some (vA (some out)), some (vI i), none, none, none] rfl ?_
      exact kk _ _ hc3 (hnx _ (hn3 _ hn2))
    · obtain ⟨xx, hfw, rfl⟩ := hR
      obtain ⟨w3, e3, hc2, hov, hn2⟩ := fwok_contract hc1 a1 a2 a3 a4 (0 : Int32) a6 a7 r
      cases e3.symm.trans hfw
      refine j_istore (pc := 249) hX dL_law_249 (by decide) [some (vA (some s)), some (vA (some x)), some (vA (some b)), some (vA (some out)), some (vI i), some (vI (0 : Int32)), none, none] rfl ?_
      refine j_aload_n (pc := 251) hX dL_law_251 rfl ?_
      refine j_aload_n (pc := 252) hX dL_law_252 rfl ?_
      refine j_iload (pc := 253) hX dL_law_253 rfl ?_
      refine j_iconst (pc := 255) hX (1 : Int32) dL_law_255 rfl ?_
      refine j_iadd (pc := 256) hX dL_law_256 ?_
      refine j_rd (pc := 257) hX hc2.1 hb1 ha1 dL_law_257 ?_
      refine j_aload_n (pc := 258) hX dL_law_258 rfl ?_
      refine j_iload (pc := 259) hX dL_law_259 rfl ?_
      refine j_iconst (pc := 261) hX (2 : Int32) dL_law_261 rfl ?_
      refine j_iadd (pc := 262) hX dL_law_262 ?_
      refine j_rd (pc := 263) hX hc2.1 hb2 ha2 dL_law_263 ?_
      refine j_aload_n (pc := 264) hX dL_law_264 rfl ?_
      refine j_iload (pc := 265) hX dL_law_265 rfl ?_
      refine j_iconst (pc := 267) hX (3 : Int32) dL_law_267 rfl ?_
      refine j_iadd (pc := 268) hX dL_law_268 ?_
      refine j_rd (pc := 269) hX hc2.1 hb3 ha3 dL_law_269 ?_
      refine j_aload_n (pc := 270) hX dL_law_270 rfl ?_
      refine j_iload (pc := 271) hX dL_law_271 rfl ?_
      refine j_iconst (pc := 273) hX (4 : Int32) dL_law_273 rfl ?_
      refine j_iadd (pc := 274) hX dL_law_274 ?_
      refine j_rd (pc := 275) hX hc2.1 hb4 ha4 dL_law_275 ?_
      refine j_aload_n (pc := 276) hX dL_law_276 rfl ?_
      refine j_iload (pc := 277) hX dL_law_277 rfl ?_
      refine j_iconst (pc := 279) hX (5 : Int32) dL_law_279 rfl ?_
      refine j_iadd (pc := 280) hX dL_law_280 ?_
      refine j_rd (pc := 281) hX hc2.1 hb5 ha5 dL_law_281 ?_
      refine j_if_eq (pc := 282) hX 289 (A := some ()) (B := some ()) (o := ()) dL_law_282 rfl (by split <;> rfl) (fun _ _ => ?_) (fun h_ _ => absurd hz h_)
      refine j_iconst (pc := 289) hX (0 : Int32) dL_law_289 rfl ?_
      refine j_aload_n (pc := 290) hX dL_law_290 rfl ?_
      refine j_iload (pc := 291) hX dL_law_291 rfl ?_
      refine j_bipush (pc := 293) hX (6 : Int32) dL_law_293 (by decide +kernel) ?_
      refine j_iadd (pc := 295) hX dL_law_295 ?_
      refine j_rd (pc := 296) hX hc2.1 hb6 ha6 dL_law_296 ?_
      refine j_aload_n (pc := 297) hX dL_law_297 rfl ?_
      refine j_iload (pc := 298) hX dL_law_298 rfl ?_
      refine j_bipush (pc := 300) hX (7 : Int32) dL_law_300 (by decide +kernel) ?_
      refine j_iadd (pc := 302) hX dL_law_302 ?_
      refine j_rd (pc := 303) hX hc2.1 hb7 ha7 dL_law_303 ?_
      refine zJ_eq hc2.2.2.1 ?_
      refine j_callV (pc := 304) hX (ci := 3) mt_X4_contract q2460 q2461 q2462 (zIj_isC b w2 M) ⟨_, rfl, rfl⟩ [vI a1, vI a2, vI a3, vI a4, vI (0 : Int32), vI a6, vI a7] rfl rfl (Nat.le_of_ble_eq_true rfl) (by decide) dL_law_304 (k_X4_contract _ _ e2) ?_
      obtain ⟨hc3, ho3, hn3⟩ := zLI_mem hc2 M1
      refine j_istore (pc := 307) hX dL_law_307 (by decide) [some (vA (some s)), some (vA (some x)), some (vA (some b)), some (vA (some out)), some (vI i), some (vI (0 : Int32)), some (vI rm), none] rfl ?_
      refine j_aload_n (pc := 309) hX dL_law_309 rfl ?_
      refine j_callV (pc := 310) hX (ci := 3) mt_X4_thrown q2456 q2457 q2458 (zIj_isC b w2 M1) ⟨_, rfl, rfl⟩ [] rfl rfl (Nat.le_of_ble_eq_true rfl) (by decide) dL_law_310 (k_X4_thrown (n := N) _ _ rfl) ?_
      have hov : aL (zIj b w2 M1) (some out) 0 = some (Int32.toInt64 r) := (ho3 0).trans hov
      refine j_iload (pc := 313) hX dL_law_313 rfl ?_
      refine j_icmp_eq (pc := 315) hX 320 (A := some ()) (B := some ()) (o := ()) dL_law_315 rfl (by split <;> rfl) (fun _ _ => ?_) (fun h_ _ => absurd hag.1 h_)
      refine j_iload (pc := 320) hX dL_law_320 rfl ?_
      refine j_if_ne (pc := 322) hX 337 (A := some ()) (B := some ()) (o := ()) dL_law_322 rfl (by split <;> rfl) (fun h_ _ => absurd rfl h_) (fun _ _ => ?_)
      refine j_aload_n (pc := 325) hX dL_law_325 rfl ?_
      refine j_iconst (pc := 326) hX (0 : Int32) dL_law_326 rfl ?_
      refine j_ld (pc := 327) hX hov dL_law_327 ?_
      refine j_iload (pc := 328) hX dL_law_328 rfl ?_
      refine j_i2l (pc := 330) hX dL_law_330 ?_
      refine j_lcmp (pc := 331) hX dL_law_331 ?_
      refine j_if_eq (pc := 332) hX 337 (A := some ()) (B := some ()) (o := ()) dL_law_332 rfl (by split <;> rfl) (fun _ _ => ?_) (fun h_ _ => absurd (by rw [hag.2]; exact lg_cmp_self _) h_)
      refine j_goto (pc := 337) hX 2691 dL_law_337 rfl ?_
      refine j_fg [5, 6] [some (vA (some s)), some (vA (some x)), some (vA (some b)), some (vA (some out)), some (vI i), none, none, none] rfl ?_
      exact kk _ _ hc3 (hnx _ (hn3 _ hn2))
  · obtain ⟨o, w1, rm, M1, e1, e2, hc1, hag, hnx⟩ := op n w M a1 a2 a3 a4 (1 : Int32) a6 a7 hn hc hS (Or.inr rfl)
    refine j_aload_n (pc := 192) hX dL_law_192 rfl ?_
    refine j_aload_n (pc := 193) hX dL_law_193 rfl ?_
    refine j_iload (pc := 194) hX dL_law_194 rfl ?_
    refine j_iconst (pc := 196) hX (1 : Int32) dL_law_196 rfl ?_
    refine j_iadd (pc := 197) hX dL_law_197 ?_
    refine j_rd (pc := 198) hX hc.1 hb1 ha1 dL_law_198 ?_
    refine j_aload_n (pc := 199) hX dL_law_199 rfl ?_
    refine j_iload (pc := 200) hX dL_law_200 rfl ?_
    refine j_iconst (pc := 202) hX (2 : Int32) dL_law_202 rfl ?_
    refine j_iadd (pc := 203) hX dL_law_203 ?_
    refine j_rd (pc := 204) hX hc.1 hb2 ha2 dL_law_204 ?_
    refine j_aload_n (pc := 205) hX dL_law_205 rfl ?_
    refine j_iload (pc := 206) hX dL_law_206 rfl ?_
    refine j_iconst (pc := 208) hX (3 : Int32) dL_law_208 rfl ?_
    refine j_iadd (pc := 209) hX dL_law_209 ?_
    refine j_rd (pc := 210) hX hc.1 hb3 ha3 dL_law_210 ?_
    refine j_aload_n (pc := 211) hX dL_law_211 rfl ?_
    refine j_iload (pc := 212) hX dL_law_212 rfl ?_
    refine j_iconst (pc := 214) hX (4 : Int32) dL_law_214 rfl ?_
    refine j_iadd (pc := 215) hX dL_law_215 ?_
    refine j_rd (pc := 216) hX hc.1 hb4 ha4 dL_law_216 ?_
    refine j_aload_n (pc := 217) hX dL_law_217 rfl ?_
    refine j_iload (pc := 218) hX dL_law_218 rfl ?_
    refine j_iconst (pc := 220) hX (5 : Int32) dL_law_220 rfl ?_
    refine j_iadd (pc := 221) hX dL_law_221 ?_
    refine j_rd (pc := 222) hX hc.1 hb5 ha5 dL_law_222 ?_
    refine j_if_eq (pc := 223) hX 230 (A := some ()) (B := some ()) (o := ()) dL_law_223 rfl (by split <;> rfl) (fun h_ _ => absurd h_ hz) (fun _ _ => ?_)
    refine j_iconst (pc := 226) hX (1 : Int32) dL_law_226 rfl ?_
    refine j_goto (pc := 227) hX 231 dL_law_227 rfl ?_
    refine j_aload_n (pc := 231) hX dL_law_231 rfl ?_
    refine j_iload (pc := 232) hX dL_law_232 rfl ?_
    refine j_bipush (pc := 234) hX (6 : Int32) dL_law_234 (by decide +kernel) ?_
    refine j_iadd (pc := 236) hX dL_law_236 ?_
    refine j_rd (pc := 237) hX hc.1 hb6 ha6 dL_law_237 ?_
    refine j_aload_n (pc := 238) hX dL_law_238 rfl ?_
    refine j_iload (pc := 239) hX dL_law_239 rfl ?_
    refine j_bipush (pc := 241) hX (7 : Int32) dL_law_241 (by decide +kernel) ?_
    refine j_iadd (pc := 243) hX dL_law_243 ?_
    refine j_rd (pc := 244) hX hc.1 hb7 ha7 dL_law_244 ?_
    refine j_aload_n (pc := 245) hX dL_law_245 rfl ?_
    refine j_callSR (pc := 246) hX mw_contract q421 q422 [vA (some x), vI a1, vI a2, vI a3, vI a4, vI (1 : Int32), vI a6, vI a7, vA (some out)] rfl rfl (Nat.le_of_ble_eq_true rfl) (by decide) dL_law_246 (kw_contract o hc.2.2.2.1 e1 (fun r hr => ⟨_, _, (fwok_contract hc1 a1 a2 a3 a4 (1 : Int32) a6 a7 r).choose_spec.1⟩) (fun E hE => by subst hE; exact hag.1)) (fun v' w2 hR => ?_)
    rcases o with E | r
    · obtain ⟨rfl, hth⟩ := hR
      obtain ⟨hE, ht⟩ := hag
      obtain ⟨hc2, hn2⟩ := zLI_th hc1 hth
      have hk : ¬ cd_contract E = 0 := by
        simp only [List.mem_cons, List.not_mem_nil, or_false] at hE
        rcases hE with rfl | rfl | rfl <;> decide +kernel
      refine j_istore (pc := 249) hX dL_law_249 (by decide) [some (vA (some s)), some (vA (some x)), some (vA (some b)), some (vA (some out)), some (vI i), some (vI (cd_contract E)), none, none] rfl ?_
      refine j_aload_n (pc := 251) hX dL_law_251 rfl ?_
      refine j_aload_n (pc := 252) hX dL_law_252 rfl ?_
      refine j_iload (pc := 253) hX dL_law_253 rfl ?_
      refine j_iconst (pc := 255) hX (1 : Int32) dL_law_255 rfl ?_
      refine j_iadd (pc := 256) hX dL_law_256 ?_
      refine j_rd (pc := 257) hX hc2.1 hb1 ha1 dL_law_257 ?_
      refine j_aload_n (pc := 258) hX dL_law_258 rfl ?_
      refine j_iload (pc := 259) hX dL_law_259 rfl ?_
      refine j_iconst (pc := 261) hX (2 : Int32) dL_law_261 rfl ?_
      refine j_iadd (pc := 262) hX dL_law_262 ?_
      refine j_rd (pc := 263) hX hc2.1 hb2 ha2 dL_law_263 ?_
      refine j_aload_n (pc := 264) hX dL_law_264 rfl ?_
      refine j_iload (pc := 265) hX dL_law_265 rfl ?_
      refine j_iconst (pc := 267) hX (3 : Int32) dL_law_267 rfl ?_
      refine j_iadd (pc := 268) hX dL_law_268 ?_
      refine j_rd (pc := 269) hX hc2.1 hb3 ha3 dL_law_269 ?_
      refine j_aload_n (pc := 270) hX dL_law_270 rfl ?_
      refine j_iload (pc := 271) hX dL_law_271 rfl ?_
      refine j_iconst (pc := 273) hX (4 : Int32) dL_law_273 rfl ?_
      refine j_iadd (pc := 274) hX dL_law_274 ?_
      refine j_rd (pc := 275) hX hc2.1 hb4 ha4 dL_law_275 ?_
      refine j_aload_n (pc := 276) hX dL_law_276 rfl ?_
      refine j_iload (pc := 277) hX dL_law_277 rfl ?_
      refine j_iconst (pc := 279) hX (5 : Int32) dL_law_279 rfl ?_
      refine j_iadd (pc := 280) hX dL_law_280 ?_
      refine j_rd (pc := 281) hX hc2.1 hb5 ha5 dL_law_281 ?_
      refine j_if_eq (pc := 282) hX 289 (A := some ()) (B := some ()) (o := ()) dL_law_282 rfl (by split <;> rfl) (fun h_ _ => absurd h_ hz) (fun _ _ => ?_)
      refine j_iconst (pc := 285) hX (1 : Int32) dL_law_285 rfl ?_
      refine j_goto (pc := 286) hX 290 dL_law_286 rfl ?_
      refine j_aload_n (pc := 290) hX dL_law_290 rfl ?_
      refine j_iload (pc := 291) hX dL_law_291 rfl ?_
      refine j_bipush (pc := 293) hX (6 : Int32) dL_law_293 (by decide +kernel) ?_
      refine j_iadd (pc := 295) hX dL_law_295 ?_
      refine j_rd (pc := 296) hX hc2.1 hb6 ha6 dL_law_296 ?_
      refine j_aload_n (pc := 297) hX dL_law_297 rfl ?_
      refine j_iload (pc := 298) hX dL_law_298 rfl ?_
      refine j_bipush (pc := 300) hX (7 : Int32) dL_law_300 (by decide +kernel) ?_
      refine j_iadd (pc := 302) hX dL_law_302 ?_
      refine j_rd (pc := 303) hX hc2.1 hb7 ha7 dL_law_303 ?_
      refine zJ_eq hc2.2.2.1 ?_
      refine j_callV (pc := 304) hX (ci := 3) mt_X4_contract q2460 q2461 q2462 (zIj_isC b w2 M) ⟨_, rfl, rfl⟩ [vI a1, vI a2, vI a3, vI a4, vI (1 : Int32), vI a6, vI a7] rfl rfl (Nat.le_of_ble_eq_true rfl) (by decide) dL_law_304 (k_X4_contract _ _ e2) ?_
      obtain ⟨hc3, ho3, hn3⟩ := zLI_mem hc2 M1
      refine j_istore (pc := 307) hX dL_law_307 (by decide) [some (vA (some s)), some (vA (some x)), some (vA (some b)), some (vA (some out)), some (vI i), some (vI (cd_contract E)), some (vI rm), none] rfl ?_
      refine j_aload_n (pc := 309) hX dL_law_309 rfl ?_
      refine j_callV (pc := 310) hX (ci := 3) mt_X4_thrown q2456 q2457 q2458 (zIj_isC b w2 M1) ⟨_, rfl, rfl⟩ [] rfl rfl (Nat.le_of_ble_eq_true rfl) (by decide) dL_law_310 (k_X4_thrown (n := N) _ _ rfl) ?_
      refine j_iload (pc := 313) hX dL_law_313 rfl ?_
      refine j_icmp_eq (pc := 315) hX 320 (A := some ()) (B := some ()) (o := ()) dL_law_315 rfl (by split <;> rfl) (fun _ _ => ?_) (fun h_ _ => absurd ht h_)
      refine j_iload (pc := 320) hX dL_law_320 rfl ?_
      refine j_if_ne (pc := 322) hX 337 (A := some ()) (B := some ()) (o := ()) dL_law_322 rfl (by split <;> rfl) (fun _ _ => ?_) (fun h_ _ => absurd h_ hk)
      refine j_goto (pc := 337) hX 2691 dL_law_337 rfl ?_
      refine j_fg [5, 6] [some (vA (some s)), some (vA (some x)), some (vA (some b)), some (vA (some out)), some (vI i), none, none, none] rfl ?_
      exact kk _ _ hc3 (hnx _ (hn3 _ hn2))
    · obtain ⟨xx, hfw, rfl⟩ := hR
      obtain ⟨w3, e3, hc2, hov, hn2⟩ := fwok_contract hc1 a1 a2 a3 a4 (1 : Int32) a6 a7 r
      cases e3.symm.trans hfw
      refine j_istore (pc := 249) hX dL_law_249 (by decide) [some (vA (some s)), some (vA (some x)), some (vA (some b)), some (vA (some out)), some (vI i), some (vI (0 : Int32)), none, none] rfl ?_
      refine j_aload_n (pc := 251) hX dL_law_251 rfl ?_
      refine j_aload_n (pc := 252) hX dL_law_252 rfl ?_
      refine j_iload (pc := 253) hX dL_law_253 rfl ?_
      refine j_iconst (pc := 255) hX (1 : Int32) dL_law_255 rfl ?_
      refine j_iadd (pc := 256) hX dL_law_256 ?_
      refine j_rd (pc := 257) hX hc2.1 hb1 ha1 dL_law_257 ?_
      refine j_aload_n (pc := 258) hX dL_law_258 rfl ?_
      refine j_iload (pc := 259) hX dL_law_259 rfl ?_
      refine j_iconst (pc := 261) hX (2 : Int32) dL_law_261 rfl ?_
      refine j_iadd (pc := 262) hX dL_law_262 ?_
      refine j_rd (pc := 263) hX hc2.1 hb2 ha2 dL_law_263 ?_
      refine j_aload_n (pc := 264) hX dL_law_264 rfl ?_
      refine j_iload (pc := 265) hX dL_law_265 rfl ?_
      refine j_iconst (pc := 267) hX (3 : Int32) dL_law_267 rfl ?_
      refine j_iadd (pc := 268) hX dL_law_268 ?_
      refine j_rd (pc := 269) hX hc2.1 hb3 ha3 dL_law_269 ?_
      refine j_aload_n (pc := 270) hX dL_law_270 rfl ?_
      refine j_iload (pc := 271) hX dL_law_271 rfl ?_
      refine j_iconst (pc := 273) hX (4 : Int32) dL_law_273 rfl ?_
      refine j_iadd (pc := 274) hX dL_law_274 ?_
      refine j_rd (pc := 275) hX hc2.1 hb4 ha4 dL_law_275 ?_
      refine j_aload_n (pc := 276) hX dL_law_276 rfl ?_
      refine j_iload (pc := 277) hX dL_law_277 rfl ?_
      refine j_iconst (pc := 279) hX (5 : Int32) dL_law_279 rfl ?_
      refine j_iadd (pc := 280) hX dL_law_280 ?_
      refine j_rd (pc := 281) hX hc2.1 hb5 ha5 dL_law_281 ?_
      refine j_if_eq (pc := 282) hX 289 (A := some ()) (B := some ()) (o := ()) dL_law_282 rfl (by split <;> rfl) (fun h_ _ => absurd h_ hz) (fun _ _ => ?_)
      refine j_iconst (pc := 285) hX (1 : Int32) dL_law_285 rfl ?_
      refine j_goto (pc := 286) hX 290 dL_law_286 rfl ?_
      refine j_aload_n (pc := 290) hX dL_law_290 rfl ?_
      refine j_iload (pc := 291) hX dL_law_291 rfl ?_
      refine j_bipush (pc := 293) hX (6 : Int32) dL_law_293 (by decide +kernel) ?_
      refine j_iadd (pc := 295) hX dL_law_295 ?_
      refine j_rd (pc := 296) hX hc2.1 hb6 ha6 dL_law_296 ?_
      refine j_aload_n (pc := 297) hX dL_law_297 rfl ?_
      refine j_iload (pc := 298) hX dL_law_298 rfl ?_
      refine j_bipush (pc := 300) hX (7 : Int32) dL_law_300 (by decide +kernel) ?_
      refine j_iadd (pc := 302) hX dL_law_302 ?_
      refine j_rd (pc := 303) hX hc2.1 hb7 ha7 dL_law_303 ?_
      refine zJ_eq hc2.2.2.1 ?_
      refine j_callV (pc := 304) hX (ci := 3) mt_X4_contract q2460 q2461 q2462 (zIj_isC b w2 M) ⟨_, rfl, rfl⟩ [vI a1, vI a2, vI a3, vI a4, vI (1 : Int32), vI a6, vI a7] rfl rfl (Nat.le_of_ble_eq_true rfl) (by decide) dL_law_304 (k_X4_contract _ _ e2) ?_
      obtain ⟨hc3, ho3, hn3⟩ := zLI_mem hc2 M1
      refine j_istore (pc := 307) hX dL_law_307 (by decide) [some (vA (some s)), some (vA (some x)), some (vA (some b)), some (vA (some out)), some (vI i), some (vI (0 : Int32)), some (vI rm), none] rfl ?_
      refine j_aload_n (pc := 309) hX dL_law_309 rfl ?_
      refine j_callV (pc := 310) hX (ci := 3) mt_X4_thrown q2456 q2457 q2458 (zIj_isC b w2 M1) ⟨_, rfl, rfl⟩ [] rfl rfl (Nat.le_of_ble_eq_true rfl) (by decide) dL_law_310 (k_X4_thrown (n := N) _ _ rfl) ?_
      have hov : aL (zIj b w2 M1) (some out) 0 = some (Int32.toInt64 r) := (ho3 0).trans hov
      refine j_iload (pc := 313) hX dL_law_313 rfl ?_
      refine j_icmp_eq (pc := 315) hX 320 (A := some ()) (B := some ()) (o := ()) dL_law_315 rfl (by split <;> rfl) (fun _ _ => ?_) (fun h_ _ => absurd hag.1 h_)
      refine j_iload (pc := 320) hX dL_law_320 rfl ?_
      refine j_if_ne (pc := 322) hX 337 (A := some ()) (B := some ()) (o := ()) dL_law_322 rfl (by split <;> rfl) (fun h_ _ => absurd rfl h_) (fun _ _ => ?_)
      refine j_aload_n (pc := 325) hX dL_law_325 rfl ?_
      refine j_iconst (pc := 326) hX (0 : Int32) dL_law_326 rfl ?_
      refine j_ld (pc := 327) hX hov dL_law_327 ?_
      refine j_iload (pc := 328) hX dL_law_328 rfl ?_
      refine j_i2l (pc := 330) hX dL_law_330 ?_
      refine j_lcmp (pc := 331) hX dL_law_331 ?_
      refine j_if_eq (pc := 332) hX 337 (A := some ()) (B := some ()) (o := ()) dL_law_332 rfl (by split <;> rfl) (fun _ _ => ?_) (fun h_ _ => absurd (by rw [hag.2]; exact lg_cmp_self _) h_)
      refine j_goto (pc := 337) hX 2691 dL_law_337 rfl ?_
      refine j_fg [5, 6] [some (vA (some s)), some (vA (some x)), some (vA (some b)), some (vA (some out)), some (vI i), none, none, none] rfl ?_
      exact kk _ _ hc3 (hnx _ (hn3 _ hn2))
def Op_pay (N s L x b out : Nat) (xs : Nat → Int32) (S : Nat → zWd → zM → Prop) : Prop := ∀ (n : Nat) (w : zWd) (M : zM) (p1 : Int32) (p2 : Int32) (p3 : Int32) , n < 64 → zLI s L x b out xs w M → S n w M →
  ∃ (o : String ⊕ Int32) (w1 : zWd) (rm : Int32) (M1 : zM), f_X1_pay N (some x) p1 p2 p3 w = some (o, w1) ∧ f_X4_pay N p1 p2 p3 M = some (rm, M1) ∧ zLI s L x b out xs w1 M ∧ (match o with | .inr r => mI M1 67 = 0 ∧ (Int32.toInt64 r) = (Int32.toInt64 rm) | .inl E => E ∈ ["java/lang/IndexOutOfBoundsException", "java/lang/IllegalArgumentException"] ∧ mI M1 67 = cd_pay E) ∧ ∀ w2, zNx b out w1 w2 → S (n + 1) w2 M1
theorem fwok_pay {s L x b out : Nat} {xs : Nat → Int32} {w1 : zWd} {M : zM} (hc : zLI s L x b out xs w1 M) (p1 : Int32) (p2 : Int32) (p3 : Int32) (r : Int32) : ∃ w2, fw_pay (some x) p1 p2 p3 (some out) r w1 = some ((0 : Int32), w2) ∧ zLI s L x b out xs w2 M ∧ aL w2 (some out) 0 = some (Int32.toInt64 r) ∧  zNx b out w1 w2 := by
  obtain ⟨w2, e, h1, h2, h3⟩ := zLI_out hc (Int32.toInt64 r)
  refine ⟨w2, ?_, h1, h2, h3⟩
  unfold fw_pay
  rw [e]
  rfl
set_option maxHeartbeats 4000000 in
theorem lc_pay {X : zX} (hX : zGd X RX0 cL_law 8 ret 24) {s L x b out n N : Nat} {xs : Nat → Int32} {i : Int32} {S : Nat → zWd → zM → Prop} {w : zWd} {M : zM} (hn : n < 64) (hc : zLI s L x b out xs w M) (hS : S n w M) (op : Op_pay N s L x b out xs S)
    (hb : ∀ j ∈ [(1 : Int32), 2, 3, 4, 5, 6, 7], ¬ (i + j < 0 ∨ L ≤ (i + j).toNatClampNeg)) (kk : ∀ w' M', zLI s L x b out xs w' M' → S (n + 1) w' M' → zJ X 2691 [some (vA (some s)), some (vA (some x)), some (vA (some b)), some (vA (some out)), some (vI i), none, none, none] [] w') : zJ X 340 [some (vA (some s)), some (vA (some x)), some (vA (some b)), some (vA (some out)), some (vI i), none, none, none] [] w := by
  obtain ⟨a1, ha1⟩ : ∃ v, xs (i + (1 : Int32)).toNatClampNeg = v := ⟨_, rfl⟩
  have hb1 := hb (1 : Int32) (by decide)
  obtain ⟨a2, ha2⟩ : ∃ v, xs (i + (2 : Int32)).toNatClampNeg = v := ⟨_, rfl⟩
  have hb2 := hb (2 : Int32) (by decide)
  obtain ⟨a3, ha3⟩ : ∃ v, xs (i + (3 : Int32)).toNatClampNeg = v := ⟨_, rfl⟩
  have hb3 := hb (3 : Int32) (by decide)
  obtain ⟨o, w1, rm, M1, e1, e2, hc1, hag, hnx⟩ := op n w M a1 a2 a3 hn hc hS
  refine j_aload_n (pc := 340) hX dL_law_340 rfl ?_
  refine j_aload_n (pc := 341) hX dL_law_341 rfl ?_
  refine j_iload (pc := 342) hX dL_law_342 rfl ?_
  refine j_iconst (pc := 344) hX (1 : Int32) dL_law_344 rfl ?_
  refine j_iadd (pc := 345) hX dL_law_345 ?_
  refine j_rd (pc := 346) hX hc.1 hb1 ha1 dL_law_346 ?_
  refine j_aload_n (pc := 347) hX dL_law_347 rfl ?_
  refine j_iload (pc := 348) hX dL_law_348 rfl ?_
  refine j_iconst (pc := 350) hX (2 : Int32) dL_law_350 rfl ?_
  refine j_iadd (pc := 351) hX dL_law_351 ?_
  refine j_rd (pc := 352) hX hc.1 hb2 ha2 dL_law_352 ?_
  refine j_aload_n (pc := 353) hX dL_law_353 rfl ?_
  refine j_iload (pc := 354) hX dL_law_354 rfl ?_
  refine j_iconst (pc := 356) hX (3 : Int32) dL_law_356 rfl ?_
  refine j_iadd (pc := 357) hX dL_law_357 ?_
  refine j_rd (pc := 358) hX hc.1 hb3 ha3 dL_law_358 ?_
  refine j_aload_n (pc := 359) hX dL_law_359 rfl ?_
  refine j_callSR (pc := 360) hX mw_pay q953 q954 [vA (some x), vI a1, vI a2, vI a3, vA (some out)] rfl rfl (Nat.le_of_ble_eq_true rfl) (by decide) dL_law_360 (kw_pay o hc.2.2.2.1 e1 (fun r hr => ⟨_, _, (fwok_pay hc1 a1 a2 a3 r).choose_spec.1⟩) (fun E hE => by subst hE; exact hag.1)) (fun v' w2 hR => ?_)
  rcases o with E | r
  · obtain ⟨rfl, hth⟩ := hR
    obtain ⟨hE, ht⟩ := hag
    obtain ⟨hc2, hn2⟩ := zLI_th hc1 hth
    have hk : ¬ cd_pay E = 0 := by
      simp only [List.mem_cons, List.not_mem_nil, or_false] at hE
      rcases hE with rfl | rfl <;> decide +kernel
    refine j_istore (pc := 363) hX dL_law_363 (by decide) [some (vA (some s)), some (vA (some x)), some (vA (some b)), some (vA (some out)), some (vI i), some (vI (cd_pay E)), none, none] rfl ?_
    refine j_aload_n (pc := 365) hX dL_law_365 rfl ?_
    refine j_aload_n (pc := 366) hX dL_law_366 rfl ?_
    refine j_iload (pc := 367) hX dL_law_367 rfl ?_
    refine j_iconst (pc := 369) hX (1 : Int32) dL_law_369 rfl ?_
    refine j_iadd (pc := 370) hX dL_law_370 ?_
    refine j_rd (pc := 371) hX hc2.1 hb1 ha1 dL_law_371 ?_
    refine j_aload_n (pc := 372) hX dL_law_372 rfl ?_
    refine j_iload (pc := 373) hX dL_law_373 rfl ?_
    refine j_iconst (pc := 375) hX (2 : Int32) dL_law_375 rfl ?_
    refine j_iadd (pc := 376) hX dL_law_376 ?_
    refine j_rd (pc := 377) hX hc2.1 hb2 ha2 dL_law_377 ?_
    refine j_aload_n (pc := 378) hX dL_law_378 rfl ?_
    refine j_iload (pc := 379) hX dL_law_379 rfl ?_
    refine j_iconst (pc := 381) hX (3 : Int32) dL_law_381 rfl ?_
    refine j_iadd (pc := 382) hX dL_law_382 ?_
    refine j_rd (pc := 383) hX hc2.1 hb3 ha3 dL_law_383 ?_
    refine zJ_eq hc2.2.2.1 ?_
    refine j_callV (pc := 384) hX (ci := 3) mt_X4_pay q2494 q2495 q2496 (zIj_isC b w2 M) ⟨_, rfl, rfl⟩ [vI a1, vI a2, vI a3] rfl rfl (Nat.le_of_ble_eq_true rfl) (by decide) dL_law_384 (k_X4_pay _ _ e2) ?_
    obtain ⟨hc3, ho3, hn3⟩ := zLI_mem hc2 M1
    refine j_istore (pc := 387) hX dL_law_387 (by decide) [some (vA (some s)), some (vA (some x)), some (vA (some b)), some (vA (some out)), some (vI i), some (vI (cd_pay E)), some (vI rm), none] rfl ?_
    refine j_aload_n (pc := 389) hX dL_law_389 rfl ?_
    refine j_callV (pc := 390) hX (ci := 3) mt_X4_thrown q2456 q2457 q2458 (zIj_isC b w2 M1) ⟨_, rfl, rfl⟩ [] rfl rfl (Nat.le_of_ble_eq_true rfl) (by decide) dL_law_390 (k_X4_thrown (n := N) _ _ rfl) ?_
    refine j_iload (pc := 393) hX dL_law_393 rfl ?_
    refine j_icmp_eq (pc := 395) hX 400 (A := some ()) (B := some ()) (o := ()) dL_law_395 rfl (by split <;> rfl) (fun _ _ => ?_) (fun h_ _ => absurd ht h_)
    refine j_iload (pc := 400) hX dL_law_400 rfl ?_
    refine j_if_ne (pc := 402) hX 417 (A := some ()) (B := some ()) (o := ()) dL_law_402 rfl (by split <;> rfl) (fun _ _ => ?_) (fun h_ _ => absurd h_ hk)
    refine j_goto (pc := 417) hX 2691 dL_law_417 rfl ?_
    refine j_fg [5, 6] [some (vA (some s)), some (vA (some x)), some (vA (some b)), some (vA (some out)), some (vI i), none, none, none] rfl ?_
    exact kk _ _ hc3 (hnx _ (hn3 _ hn2))
  · obtain ⟨xx, hfw, rfl⟩ := hR
    obtain ⟨w3, e3, hc2, hov, hn2⟩ := fwok_pay hc1 a1 a2 a3 r
    cases e3.symm.trans hfw
    refine j_istore (pc := 363) hX dL_law_363 (by decide) [some (vA (some s)), some (vA (some x)), some (vA (some b)), some (vA (some out)), some (vI i), some (vI (0 : Int32)), none, none] rfl ?_
    refine j_aload_n (pc := 365) hX dL_law_365 rfl ?_
    refine j_aload_n (pc := 366) hX dL_law_366 rfl ?_
    refine j_iload (pc := 367) hX dL_law_367 rfl ?_
    refine j_iconst (pc := 369) hX (1 : Int32) dL_law_369 rfl ?_
    refine j_iadd (pc := 370) hX dL_law_370 ?_
    refine j_rd (pc := 371) hX hc2.1 hb1 ha1 dL_law_371 ?_
    refine j_aload_n (pc := 372) hX dL_law_372 rfl ?_
    refine j_iload (pc := 373) hX dL_law_373 rfl ?_
    refine j_iconst (pc := 375) hX (2 : Int32) dL_law_375 rfl ?_
    refine j_iadd (pc := 376) hX dL_law_376 ?_
    refine j_rd (pc := 377) hX hc2.1 hb2 ha2 dL_law_377 ?_
    refine j_aload_n (pc := 378) hX dL_law_378 rfl ?_
    refine j_iload (pc := 379) hX dL_law_379 rfl ?_
    refine j_iconst (pc := 381) hX (3 : Int32) dL_law_381 rfl ?_
    refine j_iadd (pc := 382) hX dL_law_382 ?_
    refine j_rd (pc := 383) hX hc2.1 hb3 ha3 dL_law_383 ?_
    refine zJ_eq hc2.2.2.1 ?_
    refine j_callV (pc := 384) hX (ci := 3) mt_X4_pay q2494 q2495 q2496 (zIj_isC b w2 M) ⟨_, rfl, rfl⟩ [vI a1, vI a2, vI a3] rfl rfl (Nat.le_of_ble_eq_true rfl) (by decide) dL_law_384 (k_X4_pay _ _ e2) ?_
    obtain ⟨hc3, ho3, hn3⟩ := zLI_mem hc2 M1
    refine j_istore (pc := 387) hX dL_law_387 (by decide) [some (vA (some s)), some (vA (some x)), some (vA (some b)), some (vA (some out)), some (vI i), some (vI (0 : Int32)), some (vI rm), none] rfl ?_
    refine j_aload_n (pc := 389) hX dL_law_389 rfl ?_
    refine j_callV (pc := 390) hX (ci := 3) mt_X4_thrown q2456 q2457 q2458 (zIj_isC b w2 M1) ⟨_, rfl, rfl⟩ [] rfl rfl (Nat.le_of_ble_eq_true rfl) (by decide) dL_law_390 (k_X4_thrown (n := N) _ _ rfl) ?_
    have hov : aL (zIj b w2 M1) (some out) 0 = some (Int32.toInt64 r) := (ho3 0).trans hov
    refine j_iload (pc := 393) hX dL_law_393 rfl ?_
    refine j_icmp_eq (pc := 395) hX 400 (A := some ()) (B := some ()) (o := ()) dL_law_395 rfl (by split <;> rfl) (fun _ _ => ?_) (fun h_ _ => absurd hag.1 h_)
    refine j_iload (pc := 400) hX dL_law_400 rfl ?_
    refine j_if_ne (pc := 402) hX 417 (A := some ()) (B := some ()) (o := ()) dL_law_402 rfl (by split <;> rfl) (fun h_ _ => absurd rfl h_) (fun _ _ => ?_)
    refine j_aload_n (pc := 405) hX dL_law_405 rfl ?_
    refine j_iconst (pc := 406) hX (0 : Int32) dL_law_406 rfl ?_
    refine j_ld (pc := 407) hX hov dL_law_407 ?_
    refine j_iload (pc := 408) hX dL_law_408 rfl ?_
    refine j_i2l (pc := 410) hX dL_law_410 ?_
    refine j_lcmp (pc := 411) hX dL_law_411 ?_
    refine j_if_eq (pc := 412) hX 417 (A := some ()) (B := some ()) (o := ()) dL_law_412 rfl (by split <;> rfl) (fun _ _ => ?_) (fun h_ _ => absurd (by rw [hag.2]; exact lg_cmp_self _) h_)
    refine j_goto (pc := 417) hX 2691 dL_law_417 rfl ?_
    refine j_fg [5, 6] [some (vA (some s)), some (vA (some x)), some (vA (some b)), some (vA (some out)), some (vI i), none, none, none] rfl ?_
    exact kk _ _ hc3 (hnx _ (hn3 _ hn2))
def Op_shift (N s L x b out : Nat) (xs : Nat → Int32) (S : Nat → zWd → zM → Prop) : Prop := ∀ (n : Nat) (w : zWd) (M : zM) (p1 : Int32) (p2 : Int32) (p3 : Int32) (p4 : Int32) , n < 64 → zLI s L x b out xs w M → S n w M →
  ∃ (o : String ⊕ Int32) (w1 : zWd) (rm : Int32) (M1 : zM), f_X1_shift N (some x) p1 p2 p3 p4 w = some (o, w1) ∧ f_X4_shift N p1 p2 p3 p4 M = some (rm, M1) ∧ zLI s L x b out xs w1 M ∧ (match o with | .inr r => mI M1 67 = 0 ∧ (Int32.toInt64 r) = (Int32.toInt64 rm) | .inl E => E ∈ ["java/lang/IndexOutOfBoundsException", "java/lang/IllegalArgumentException", "java/lang/IllegalStateException"] ∧ mI M1 67 = cd_shift E) ∧ ∀ w2, zNx b out w1 w2 → S (n + 1) w2 M1
theorem fwok_shift {s L x b out : Nat} {xs : Nat → Int32} {w1 : zWd} {M : zM} (hc : zLI s L x b out xs w1 M) (p1 : Int32) (p2 : Int32) (p3 : Int32) (p4 : Int32) (r : Int32) : ∃ w2, fw_shift (some x) p1 p2 p3 p4 (some out) r w1 = some ((0 : Int32), w2) ∧ zLI s L x b out xs w2 M ∧ aL w2 (some out) 0 = some (Int32.toInt64 r) ∧  zNx b out w1 w2 := by
  obtain ⟨w2, e, h1, h2, h3⟩ := zLI_out hc (Int32.toInt64 r)
  refine ⟨w2, ?_, h1, h2, h3⟩
  unfold fw_shift
  rw [e]
  rfl
set_option maxHeartbeats 4000000 in
theorem lc_shift {X : zX} (hX : zGd X RX0 cL_law 8 ret 24) {s L x b out n N : Nat} {xs : Nat → Int32} {i : Int32} {S : Nat → zWd → zM → Prop} {w : zWd} {M : zM} (hn : n < 64) (hc : zLI s L x b out xs w M) (hS : S n w M) (op : Op_shift N s L x b out xs S)
    (hb : ∀ j ∈ [(1 : Int32), 2, 3, 4, 5, 6, 7], ¬ (i + j < 0 ∨ L ≤ (i + j).toNatClampNeg)) (kk : ∀ w' M', zLI s L x b out xs w' M' → S (n + 1) w' M' → zJ X 2691 [some (vA (some s)), some (vA (some x)), some (vA (some b)), some (vA (some out)), some (vI i), none, none, none] [] w') : zJ X 420 [some (vA (some s)), some (vA (some x)), some (vA (some b)), some (vA (some out)), some (vI i), none, none, none] [] w := by
  obtain ⟨a1, ha1⟩ : ∃ v, xs (i + (1 : Int32)).toNatClampNeg = v := ⟨_, rfl⟩
  have hb1 := hb (1 : Int32) (by decide)
  obtain ⟨a2, ha2⟩ : ∃ v, xs (i + (2 : Int32)).toNatClampNeg = v := ⟨_, rfl⟩
  have hb2 := hb (2 : Int32) (by decide)
  obtain ⟨a3, ha3⟩ : ∃ v, xs (i + (3 : Int32)).toNatClampNeg = v := ⟨_, rfl⟩
  have hb3 := hb (3 : Int32) (by decide)
  obtain ⟨a4, ha4⟩ : ∃ v, xs (i + (4 : Int32)).toNatClampNeg = v := ⟨_, rfl⟩
  have hb4 := hb (4 : Int32) (by decide)
  obtain ⟨o, w1, rm, M1, e1, e2, hc1, hag, hnx⟩ := op n w M a1 a2 a3 a4 hn hc hS
  refine j_aload_n (pc := 420) hX dL_law_420 rfl ?_
  refine j_aload_n (pc := 421) hX dL_law_421 rfl ?_
  refine j_iload (pc := 422) hX dL_law_422 rfl ?_
  refine j_iconst (pc := 424) hX (1 : Int32) dL_law_424 rfl ?_
  refine j_iadd (pc := 425) hX dL_law_425 ?_
  refine j_rd (pc := 426) hX hc.1 hb1 ha1 dL_law_426 ?_
  refine j_aload_n (pc := 427) hX dL_law_427 rfl ?_
  refine j_iload (pc := 428) hX dL_law_428 rfl ?_
  refine j_iconst (pc := 430) hX (2 : Int32) dL_law_430 rfl ?_
  refine j_iadd (pc := 431) hX dL_law_431 ?_
  refine j_rd (pc := 432) hX hc.1 hb2 ha2 dL_law_432 ?_
  refine j_aload_n (pc := 433) hX dL_law_433 rfl ?_
  refine j_iload (pc := 434) hX dL_law_434 rfl ?_
  refine j_iconst (pc := 436) hX (3 : Int32) dL_law_436 rfl ?_
  refine j_iadd (pc := 437) hX dL_law_437 ?_
  refine j_rd (pc := 438) hX hc.1 hb3 ha3 dL_law_438 ?_
  refine j_aload_n (pc := 439) hX dL_law_439 rfl ?_
  refine j_iload (pc := 440) hX dL_law_440 rfl ?_
  refine j_iconst (pc := 442) hX (4 : Int32) dL_law_442 rfl ?_
  refine j_iadd (pc := 443) hX dL_law_443 ?_
  refine j_rd (pc := 444) hX hc.1 hb4 ha4 dL_law_444 ?_
  refine j_aload_n (pc := 445) hX dL_law_445 rfl ?_
  refine j_callSR (pc := 446) hX mw_shift q988 q989 [vA (some x), vI a1, vI a2, vI a3, vI a4, vA (some out)] rfl rfl (Nat.le_of_ble_eq_true rfl) (by decide) dL_law_446 (kw_shift o hc.2.2.2.1 e1 (fun r hr => ⟨_, _, (fwok_shift hc1 a1 a2 a3 a4 r).choose_spec.1⟩) (fun E hE => by subst hE; exact hag.1)) (fun v' w2 hR => ?_)
  rcases o with E | r
  · obtain ⟨rfl, hth⟩ := hR
    obtain ⟨hE, ht⟩ := hag
    obtain ⟨hc2, hn2⟩ := zLI_th hc1 hth
    have hk : ¬ cd_shift E = 0 := by
      simp only [List.mem_cons, List.not_mem_nil, or_false] at hE
      rcases hE with rfl | rfl | rfl <;> decide +kernel
    refine j_istore (pc := 449) hX dL_law_449 (by decide) [some (vA (some s)), some (vA (some x)), some (vA (some b)), some (vA (some out)), some (vI i), some (vI (cd_shift E)), none, none] rfl ?_
    refine j_aload_n (pc := 451) hX dL_law_451 rfl ?_
    refine j_aload_n (pc := 452) hX dL_law_452 rfl ?_
    refine j_iload (pc := 453) hX dL_law_453 rfl ?_
    refine j_iconst (pc := 455) hX (1 : Int32) dL_law_455 rfl ?_
    refine j_iadd (pc := 456) hX dL_law_456 ?_
    refine j_rd (pc := 457) hX hc2.1 hb1 ha1 dL_law_457 ?_
    refine j_aload_n (pc := 458) hX dL_law_458 rfl ?_
    refine j_iload (pc := 459) hX dL_law_459 rfl ?_
    refine j_iconst (pc := 461) hX (2 : Int32) dL_law_461 rfl ?_
    refine j_iadd (pc := 462) hX dL_law_462 ?_
    refine j_rd (pc := 463) hX hc2.1 hb2 ha2 dL_law_463 ?_
    refine j_aload_n (pc := 464) hX dL_law_464 rfl ?_
    refine j_iload (pc := 465) hX dL_law_465 rfl ?_
    refine j_iconst (pc := 467) hX (3 : Int32) dL_law_467 rfl ?_
    refine j_iadd (pc := 468) hX dL_law_468 ?_
    refine j_rd (pc := 469) hX hc2.1 hb3 ha3 dL_law_469 ?_
    refine j_aload_n (pc := 470) hX dL_law_470 rfl ?_
    refine j_iload (pc := 471) hX dL_law_471 rfl ?_
    refine j_iconst (pc := 473) hX (4 : Int32) dL_law_473 rfl ?_
    refine j_iadd (pc := 474) hX dL_law_474 ?_
    refine j_rd (pc := 475) hX hc2.1 hb4 ha4 dL_law_475 ?_
    refine zJ_eq hc2.2.2.1 ?_
    refine j_callV (pc := 476) hX (ci := 3) mt_X4_shift q2506 q2507 q2508 (zIj_isC b w2 M) ⟨_, rfl, rfl⟩ [vI a1, vI a2, vI a3, vI a4] rfl rfl (Nat.le_of_ble_eq_true rfl) (by decide) dL_law_476 (k_X4_shift _ _ e2) ?_
    obtain ⟨hc3, ho3, hn3⟩ := zLI_mem hc2 M1
    refine j_istore (pc := 479) hX dL_law_479 (by decide) [some (vA (some s)), some (vA (some x)), some (vA (some b)), some (vA (some out)), some (vI i), some (vI (cd_shift E)), some (vI rm), none] rfl ?_
    refine j_aload_n (pc := 481) hX dL_law_481 rfl ?_
    refine j_callV (pc := 482) hX (ci := 3) mt_X4_thrown q2456 q2457 q2458 (zIj_isC b w2 M1) ⟨_, rfl, rfl⟩ [] rfl rfl (Nat.le_of_ble_eq_true rfl) (by decide) dL_law_482 (k_X4_thrown (n := N) _ _ rfl) ?_
    refine j_iload (pc := 485) hX dL_law_485 rfl ?_
    refine j_icmp_eq (pc := 487) hX 492 (A := some ()) (B := some ()) (o := ()) dL_law_487 rfl (by split <;> rfl) (fun _ _ => ?_) (fun h_ _ => absurd ht h_)
    refine j_iload (pc := 492) hX dL_law_492 rfl ?_
    refine j_if_ne (pc := 494) hX 509 (A := some ()) (B := some ()) (o := ()) dL_law_494 rfl (by split <;> rfl) (fun _ _ => ?_) (fun h_ _ => absurd h_ hk)
    refine j_goto (pc := 509) hX 2691 dL_law_509 rfl ?_
    refine j_fg [5, 6] [some (vA (some s)), some (vA (some x)), some (vA (some b)), some (vA (some out)), some (vI i), none, none, none] rfl ?_
    exact kk _ _ hc3 (hnx _ (hn3 _ hn2))
  · obtain ⟨xx, hfw, rfl⟩ := hR
    obtain ⟨w3, e3, hc2, hov, hn2⟩ := fwok_shift hc1 a1 a2 a3 a4 r
    cases e3.symm.trans hfw
    refine j_istore (pc := 449) hX dL_law_449 (by decide) [some (vA (some s)), some (vA (some x)), some (vA (some b)), some (vA (some out)), some (vI i), some (vI (0 : Int32)), none, none] rfl ?_
    refine j_aload_n (pc := 451) hX dL_law_451 rfl ?_
    refine j_aload_n (pc := 452) hX dL_law_452 rfl ?_
    refine j_iload (pc := 453) hX dL_law_453 rfl ?_
    refine j_iconst (pc := 455) hX (1 : Int32) dL_law_455 rfl ?_
    refine j_iadd (pc := 456) hX dL_law_456 ?_
    refine j_rd (pc := 457) hX hc2.1 hb1 ha1 dL_law_457 ?_
    refine j_aload_n (pc := 458) hX dL_law_458 rfl ?_
    refine j_iload (pc := 459) hX dL_law_459 rfl ?_
    refine j_iconst (pc := 461) hX (2 : Int32) dL_law_461 rfl ?_
    refine j_iadd (pc := 462) hX dL_law_462 ?_
    refine j_rd (pc := 463) hX hc2.1 hb2 ha2 dL_law_463 ?_
    refine j_aload_n (pc := 464) hX dL_law_464 rfl ?_
    refine j_iload (pc := 465) hX dL_law_465 rfl ?_
    refine j_iconst (pc := 467) hX (3 : Int32) dL_law_467 rfl ?_
    refine j_iadd (pc := 468) hX dL_law_468 ?_
    refine j_rd (pc := 469) hX hc2.1 hb3 ha3 dL_law_469 ?_
    refine j_aload_n (pc := 470) hX dL_law_470 rfl ?_
    refine j_iload (pc := 471) hX dL_law_471 rfl ?_
    refine j_iconst (pc := 473) hX (4 : Int32) dL_law_473 rfl ?_
    refine j_iadd (pc := 474) hX dL_law_474 ?_
    refine j_rd (pc := 475) hX hc2.1 hb4 ha4 dL_law_475 ?_
    refine zJ_eq hc2.2.2.1 ?_
    refine j_callV (pc := 476) hX (ci := 3) mt_X4_shift q2506 q2507 q2508 (zIj_isC b w2 M) ⟨_, rfl, rfl⟩ [vI a1, vI a2, vI a3, vI a4] rfl rfl (Nat.le_of_ble_eq_true rfl) (by decide) dL_law_476 (k_X4_shift _ _ e2) ?_
    obtain ⟨hc3, ho3, hn3⟩ := zLI_mem hc2 M1
    refine j_istore (pc := 479) hX dL_law_479 (by decide) [some (vA (some s)), some (vA (some x)), some (vA (some b)), some (vA (some out)), some (vI i), some (vI (0 : Int32)), some (vI rm), none] rfl ?_
    refine j_aload_n (pc := 481) hX dL_law_481 rfl ?_
    refine j_callV (pc := 482) hX (ci := 3) mt_X4_thrown q2456 q2457 q2458 (zIj_isC b w2 M1) ⟨_, rfl, rfl⟩ [] rfl rfl (Nat.le_of_ble_eq_true rfl) (by decide) dL_law_482 (k_X4_thrown (n := N) _ _ rfl) ?_
    have hov : aL (zIj b w2 M1) (some out) 0 = some (Int32.toInt64 r) := (ho3 0).trans hov
    refine j_iload (pc := 485) hX dL_law_485 rfl ?_
    refine j_icmp_eq (pc := 487) hX 492 (A := some ()) (B := some ()) (o := ()) dL_law_487 rfl (by split <;> rfl) (fun _ _ => ?_) (fun h_ _ => absurd hag.1 h_)
    refine j_iload (pc := 492) hX dL_law_492 rfl ?_
    refine j_if_ne (pc := 494) hX 509 (A := some ()) (B := some ()) (o := ()) dL_law_494 rfl (by split <;> rfl) (fun h_ _ => absurd rfl h_) (fun _ _ => ?_)
    refine j_aload_n (pc := 497) hX dL_law_497 rfl ?_
    refine j_iconst (pc := 498) hX (0 : Int32) dL_law_498 rfl ?_
    refine j_ld (pc := 499) hX hov dL_law_499 ?_
    refine j_iload (pc := 500) hX dL_law_500 rfl ?_
    refine j_i2l (pc := 502) hX dL_law_502 ?_
    refine j_lcmp (pc := 503) hX dL_law_503 ?_
    refine j_if_eq (pc := 504) hX 509 (A := some ()) (B := some ()) (o := ()) dL_law_504 rfl (by split <;> rfl) (fun _ _ => ?_) (fun h_ _ => absurd (by rw [hag.2]; exact lg_cmp_self _) h_)
    refine j_goto (pc := 509) hX 2691 dL_law_509 rfl ?_
    refine j_fg [5, 6] [some (vA (some s)), some (vA (some x)), some (vA (some b)), some (vA (some out)), some (vI i), none, none, none] rfl ?_
    exact kk _ _ hc3 (hnx _ (hn3 _ hn2))
def Op_minutes (N s L x b out : Nat) (xs : Nat → Int32) (S : Nat → zWd → zM → Prop) : Prop := ∀ (n : Nat) (w : zWd) (M : zM) (p1 : Int32) (p2 : Int32) , n < 64 → zLI s L x b out xs w M → S n w M →
  ∃ (o : String ⊕ Int32) (w1 : zWd) (rm : Int32) (M1 : zM), f_X1_minutes N (some x) p1 p2 w = some (o, w1) ∧ f_X4_minutes N p1 p2 M = some (rm, M1) ∧ zLI s L x b out xs w1 M ∧ (match o with | .inr r => mI M1 67 = 0 ∧ (Int32.toInt64 r) = (Int32.toInt64 rm) | .inl E => E ∈ ["java/lang/IndexOutOfBoundsException"] ∧ mI M1 67 = cd_minutes E) ∧ ∀ w2, zNx b out w1 w2 → S (n + 1) w2 M1
theorem fwok_minutes {s L x b out : Nat} {xs : Nat → Int32} {w1 : zWd} {M : zM} (hc : zLI s L x b out xs w1 M) (p1 : Int32) (p2 : Int32) (r : Int32) : ∃ w2, fw_minutes (some x) p1 p2 (some out) r w1 = some ((0 : Int32), w2) ∧ zLI s L x b out xs w2 M ∧ aL w2 (some out) 0 = some (Int32.toInt64 r) ∧  zNx b out w1 w2 := by
  obtain ⟨w2, e, h1, h2, h3⟩ := zLI_out hc (Int32.toInt64 r)
  refine ⟨w2, ?_, h1, h2, h3⟩
  unfold fw_minutes
  rw [e]
  rfl
set_option maxHeartbeats 4000000 in
theorem lc_minutes {X : zX} (hX : zGd X RX0 cL_law 8 ret 24) {s L x b out n N : Nat} {xs : Nat → Int32} {i : Int32} {S : Nat → zWd → zM → Prop} {w : zWd} {M : zM} (hn : n < 64) (hc : zLI s L x b out xs w M) (hS : S n w M) (op : Op_minutes N s L x b out xs S)
    (hb : ∀ j ∈ [(1 : Int32), 2, 3, 4, 5, 6, 7], ¬ (i + j < 0 ∨ L ≤ (i + j).toNatClampNeg)) (kk : ∀ w' M', zLI s L x b out xs w' M' → S (n + 1) w' M' → zJ X 2691 [some (vA (some s)), some (vA (some x)), some (vA (some b)), some (vA (some out)), some (vI i), none, none, none] [] w') : zJ X 512 [some (vA (some s)), some (vA (some x)), some (vA (some b)), some (vA (some out)), some (vI i), none, none, none] [] w := by
  obtain ⟨a1, ha1⟩ : ∃ v, xs (i + (1 : Int32)).toNatClampNeg = v := ⟨_, rfl⟩
  have hb1 := hb (1 : Int32) (by decide)
  obtain ⟨a2, ha2⟩ : ∃ v, xs (i + (2 : Int32)).toNatClampNeg = v := ⟨_, rfl⟩
  have hb2 := hb (2 : Int32) (by decide)
  obtain ⟨o, w1, rm, M1, e1, e2, hc1, hag, hnx⟩ := op n w M a1 a2 hn hc hS
  refine j_aload_n (pc := 512) hX dL_law_512 rfl ?_
  refine j_aload_n (pc := 513) hX dL_law_513 rfl ?_
  refine j_iload (pc := 514) hX dL_law_514 rfl ?_
  refine j_iconst (pc := 516) hX (1 : Int32) dL_law_516 rfl ?_
  refine j_iadd (pc := 517) hX dL_law_517 ?_
  refine j_rd (pc := 518) hX hc.1 hb1 ha1 dL_law_518 ?_
  refine j_aload_n (pc := 519) hX dL_law_519 rfl ?_
  refine j_iload (pc := 520) hX dL_law_520 rfl ?_
  refine j_iconst (pc := 522) hX (2 : Int32) dL_law_522 rfl ?_
  refine j_iadd (pc := 523) hX dL_law_523 ?_
  refine j_rd (pc := 524) hX hc.1 hb2 ha2 dL_law_524 ?_
  refine j_aload_n (pc := 525) hX dL_law_525 rfl ?_
  refine j_callSR (pc := 526) hX mw_minutes q1100 q1101 [vA (some x), vI a1, vI a2, vA (some out)] rfl rfl (Nat.le_of_ble_eq_true rfl) (by decide) dL_law_526 (kw_minutes o hc.2.2.2.1 e1 (fun r hr => ⟨_, _, (fwok_minutes hc1 a1 a2 r).choose_spec.1⟩) (fun E hE => by subst hE; exact hag.1)) (fun v' w2 hR => ?_)
  rcases o with E | r
  · obtain ⟨rfl, hth⟩ := hR
    obtain ⟨hE, ht⟩ := hag
    obtain ⟨hc2, hn2⟩ := zLI_th hc1 hth
    have hk : ¬ cd_minutes E = 0 := by
      simp only [List.mem_cons, List.not_mem_nil, or_false] at hE
      rcases hE with rfl
      decide +kernel
    refine j_istore (pc := 529) hX dL_law_529 (by decide) [some (vA (some s)), some (vA (some x)), some (vA (some b)), some (vA (some out)), some (vI i), some (vI (cd_minutes E)), none, none] rfl ?_
    refine j_aload_n (pc := 531) hX dL_law_531 rfl ?_
    refine j_aload_n (pc := 532) hX dL_law_532 rfl ?_
    refine j_iload (pc := 533) hX dL_law_533 rfl ?_
    refine j_iconst (pc := 535) hX (1 : Int32) dL_law_535 rfl ?_
    refine j_iadd (pc := 536) hX dL_law_536 ?_
    refine j_rd (pc := 537) hX hc2.1 hb1 ha1 dL_law_537 ?_
    refine j_aload_n (pc := 538) hX dL_law_538 rfl ?_
    refine j_iload (pc := 539) hX dL_law_539 rfl ?_
    refine j_iconst (pc := 541) hX (2 : Int32) dL_law_541 rfl ?_
    refine j_iadd (pc := 542) hX dL_law_542 ?_
    refine j_rd (pc := 543) hX hc2.1 hb2 ha2 dL_law_543 ?_
    refine zJ_eq hc2.2.2.1 ?_
    refine j_callV (pc := 544) hX (ci := 3) mt_X4_minutes q2520 q2521 q2522 (zIj_isC b w2 M) ⟨_, rfl, rfl⟩ [vI a1, vI a2] rfl rfl (Nat.le_of_ble_eq_true rfl) (by decide) dL_law_544 (k_X4_minutes _ _ e2) ?_
    obtain ⟨hc3, ho3, hn3⟩ := zLI_mem hc2 M1
    refine j_istore (pc := 547) hX dL_law_547 (by decide) [some (vA (some s)), some (vA (some x)), some (vA (some b)), some (vA (some out)), some (vI i), some (vI (cd_minutes E)), some (vI rm), none] rfl ?_
    refine j_aload_n (pc := 549) hX dL_law_549 rfl ?_
    refine j_callV (pc := 550) hX (ci := 3) mt_X4_thrown q2456 q2457 q2458 (zIj_isC b w2 M1) ⟨_, rfl, rfl⟩ [] rfl rfl (Nat.le_of_ble_eq_true rfl) (by decide) dL_law_550 (k_X4_thrown (n := N) _ _ rfl) ?_
    refine j_iload (pc := 553) hX dL_law_553 rfl ?_
    refine j_icmp_eq (pc := 555) hX 560 (A := some ()) (B := some ()) (o := ()) dL_law_555 rfl (by split <;> rfl) (fun _ _ => ?_) (fun h_ _ => absurd ht h_)
    refine j_iload (pc := 560) hX dL_law_560 rfl ?_
    refine j_if_ne (pc := 562) hX 577 (A := some ()) (B := some ()) (o := ()) dL_law_562 rfl (by split <;> rfl) (fun _ _ => ?_) (fun h_ _ => absurd h_ hk)
    refine j_goto (pc := 577) hX 2691 dL_law_577 rfl ?_
    refine j_fg [5, 6] [some (vA (some s)), some (vA (some x)), some (vA (some b)), some (vA (some out)), some (vI i), none, none, none] rfl ?_
    exact kk _ _ hc3 (hnx _ (hn3 _ hn2))
  · obtain ⟨xx, hfw, rfl⟩ := hR
    obtain ⟨w3, e3, hc2, hov, hn2⟩ := fwok_minutes hc1 a1 a2 r
    cases e3.symm.trans hfw
    refine j_istore (pc := 529) hX dL_law_529 (by decide) [some (vA (some s)), some (vA (some x)), some (vA (some b)), some (vA (some out)), some (vI i), some (vI (0 : Int32)), none, none] rfl ?_
    refine j_aload_n (pc := 531) hX dL_law_531 rfl ?_
    refine j_aload_n (pc := 532) hX dL_law_532 rfl ?_
    refine j_iload (pc := 533) hX dL_law_533 rfl ?_
    refine j_iconst (pc := 535) hX (1 : Int32) dL_law_535 rfl ?_
    refine j_iadd (pc := 536) hX dL_law_536 ?_
    refine j_rd (pc := 537) hX hc2.1 hb1 ha1 dL_law_537 ?_
    refine j_aload_n (pc := 538) hX dL_law_538 rfl ?_
    refine j_iload (pc := 539) hX dL_law_539 rfl ?_
    refine j_iconst (pc := 541) hX (2 : Int32) dL_law_541 rfl ?_
    refine j_iadd (pc := 542) hX dL_law_542 ?_
    refine j_rd (pc := 543) hX hc2.1 hb2 ha2 dL_law_543 ?_
    refine zJ_eq hc2.2.2.1 ?_
    refine j_callV (pc := 544) hX (ci := 3) mt_X4_minutes q2520 q2521 q2522 (zIj_isC b w2 M) ⟨_, rfl, rfl⟩ [vI a1, vI a2] rfl rfl (Nat.le_of_ble_eq_true rfl) (by decide) dL_law_544 (k_X4_minutes _ _ e2) ?_
    obtain ⟨hc3, ho3, hn3⟩ := zLI_mem hc2 M1
    refine j_istore (pc := 547) hX dL_law_547 (by decide) [some (vA (some s)), some (vA (some x)), some (vA (some b)), some (vA (some out)), some (vI i), some (vI (0 : Int32)), some (vI rm), none] rfl ?_
    refine j_aload_n (pc := 549) hX dL_law_549 rfl ?_
    refine j_callV (pc := 550) hX (ci := 3) mt_X4_thrown q2456 q2457 q2458 (zIj_isC b w2 M1) ⟨_, rfl, rfl⟩ [] rfl rfl (Nat.le_of_ble_eq_true rfl) (by decide) dL_law_550 (k_X4_thrown (n := N) _ _ rfl) ?_
    have hov : aL (zIj b w2 M1) (some out) 0 = some (Int32.toInt64 r) := (ho3 0).trans hov
    refine j_iload (pc := 553) hX dL_law_553 rfl ?_
    refine j_icmp_eq (pc := 555) hX 560 (A := some ()) (B := some ()) (o := ()) dL_law_555 rfl (by split <;> rfl) (fun _ _ => ?_) (fun h_ _ => absurd hag.1 h_)
    refine j_iload (pc := 560) hX dL_law_560 rfl ?_
    refine j_if_ne (pc := 562) hX 577 (A := some ()) (B := some ()) (o := ()) dL_law_562 rfl (by split <;> rfl) (fun h_ _ => absurd rfl h_) (fun _ _ => ?_)
    refine j_aload_n (pc := 565) hX dL_law_565 rfl ?_
    refine j_iconst (pc := 566) hX (0 : Int32) dL_law_566 rfl ?_
    refine j_ld (pc := 567) hX hov dL_law_567 ?_
    refine j_iload (pc := 568) hX dL_law_568 rfl ?_
    refine j_i2l (pc := 570) hX dL_law_570 ?_
    refine j_lcmp (pc := 571) hX dL_law_571 ?_
    refine j_if_eq (pc := 572) hX 577 (A := some ()) (B := some ()) (o := ()) dL_law_572 rfl (by split <;> rfl) (fun _ _ => ?_) (fun h_ _ => absurd (by rw [hag.2]; exact lg_cmp_self _) h_)
    refine j_goto (pc := 577) hX 2691 dL_law_577 rfl ?_
    refine j_fg [5, 6] [some (vA (some s)), some (vA (some x)), some (vA (some b)), some (vA (some out)), some (vI i), none, none, none] rfl ?_
    exact kk _ _ hc3 (hnx _ (hn3 _ hn2))
def Op_overtime (N s L x b out : Nat) (xs : Nat → Int32) (S : Nat → zWd → zM → Prop) : Prop := ∀ (n : Nat) (w : zWd) (M : zM) (p1 : Int32) (p2 : Int32) , n < 64 → zLI s L x b out xs w M → S n w M →
  ∃ (o : String ⊕ Int32) (w1 : zWd) (rm : Int32) (M1 : zM), f_X1_overtime N (some x) p1 p2 w = some (o, w1) ∧ f_X4_overtime N p1 p2 M = some (rm, M1) ∧ zLI s L x b out xs w1 M ∧ (match o with | .inr r => mI M1 67 = 0 ∧ (Int32.toInt64 r) = (Int32.toInt64 rm) | .inl E => E ∈ ["java/lang/IndexOutOfBoundsException"] ∧ mI M1 67 = cd_overtime E) ∧ ∀ w2, zNx b out w1 w2 → S (n + 1) w2 M1
theorem fwok_overtime {s L x b out : Nat} {xs : Nat → Int32} {w1 : zWd} {M : zM} (hc : zLI s L x b out xs w1 M) (p1 : Int32) (p2 : Int32) (r : Int32) : ∃ w2, fw_overtime (some x) p1 p2 (some out) r w1 = some ((0 : Int32), w2) ∧ zLI s L x b out xs w2 M ∧ aL w2 (some out) 0 = some (Int32.toInt64 r) ∧  zNx b out w1 w2 := by
  obtain ⟨w2, e, h1, h2, h3⟩ := zLI_out hc (Int32.toInt64 r)
  refine ⟨w2, ?_, h1, h2, h3⟩
  unfold fw_overtime
  rw [e]
  rfl
set_option maxHeartbeats 4000000 in
theorem lc_overtime {X : zX} (hX : zGd X RX0 cL_law 8 ret 24) {s L x b out n N : Nat} {xs : Nat → Int32} {i : Int32} {S : Nat → zWd → zM → Prop} {w : zWd} {M : zM} (hn : n < 64) (hc : zLI s L x b out xs w M) (hS : S n w M) (op : Op_overtime N s L x b out xs S)
    (hb : ∀ j ∈ [(1 : Int32), 2, 3, 4, 5, 6, 7], ¬ (i + j < 0 ∨ L ≤ (i + j).toNatClampNeg)) (kk : ∀ w' M', zLI s L x b out xs w' M' → S (n + 1) w' M' → zJ X 2691 [some (vA (some s)), some (vA (some x)), some (vA (some b)), some (vA (some out)), some (vI i), none, none, none] [] w') : zJ X 580 [some (vA (some s)), some (vA (some x)), some (vA (some b)), some (vA (some out)), some (vI i), none, none, none] [] w := by
  obtain ⟨a1, ha1⟩ : ∃ v, xs (i + (1 : Int32)).toNatClampNeg = v := ⟨_, rfl⟩
  have hb1 := hb (1 : Int32) (by decide)
  obtain ⟨a2, ha2⟩ : ∃ v, xs (i + (2 : Int32)).toNatClampNeg = v := ⟨_, rfl⟩
  have hb2 := hb (2 : Int32) (by decide)
  obtain ⟨o, w1, rm, M1, e1, e2, hc1, hag, hnx⟩ := op n w M a1 a2 hn hc hS
  refine j_aload_n (pc := 580) hX dL_law_580 rfl ?_
  refine j_aload_n (pc := 581) hX dL_law_581 rfl ?_
  refine j_iload (pc := 582) hX dL_law_582 rfl ?_
  refine j_iconst (pc := 584) hX (1 : Int32) dL_law_584 rfl ?_
  refine j_iadd (pc := 585) hX dL_law_585 ?_
  refine j_rd (pc := 586) hX hc.1 hb1 ha1 dL_law_586 ?_
  refine j_aload_n (pc := 587) hX dL_law_587 rfl ?_
  refine j_iload (pc := 588) hX dL_law_588 rfl ?_
  refine j_iconst (pc := 590) hX (2 : Int32) dL_law_590 rfl ?_
  refine j_iadd (pc := 591) hX dL_law_591 ?_
  refine j_rd (pc := 592) hX hc.1 hb2 ha2 dL_law_592 ?_
  refine j_aload_n (pc := 593) hX dL_law_593 rfl ?_
  refine j_callSR (pc := 594) hX mw_overtime q1107 q1108 [vA (some x), vI a1, vI a2, vA (some out)] rfl rfl (Nat.le_of_ble_eq_true rfl) (by decide) dL_law_594 (kw_overtime o hc.2.2.2.1 e1 (fun r hr => ⟨_, _, (fwok_overtime hc1 a1 a2 r).choose_spec.1⟩) (fun E hE => by subst hE; exact hag.1)) (fun v' w2 hR => ?_)
  rcases o with E | r
  · obtain ⟨rfl, hth⟩ := hR
    obtain ⟨hE, ht⟩ := hag
    obtain ⟨hc2, hn2⟩ := zLI_th hc1 hth
    have hk : ¬ cd_overtime E = 0 := by
      simp only [List.mem_cons, List.not_mem_nil, or_false] at hE
      rcases hE with rfl
      decide +kernel
    refine j_istore (pc := 597) hX dL_law_597 (by decide) [some (vA (some s)), some (vA (some x)), some (vA (some b)), some (vA (some out)), some (vI i), some (vI (cd_overtime E)), none, none] rfl ?_
    refine j_aload_n (pc := 599) hX dL_law_599 rfl ?_
    refine j_aload_n (pc := 600) hX dL_law_600 rfl ?_
    refine j_iload (pc := 601) hX dL_law_601 rfl ?_
    refine j_iconst (pc := 603) hX (1 : Int32) dL_law_603 rfl ?_
    refine j_iadd (pc := 604) hX dL_law_604 ?_
    refine j_rd (pc := 605) hX hc2.1 hb1 ha1 dL_law_605 ?_
    refine j_aload_n (pc := 606) hX dL_law_606 rfl ?_
    refine j_iload (pc := 607) hX dL_law_607 rfl ?_
    refine j_iconst (pc := 609) hX (2 : Int32) dL_law_609 rfl ?_
    refine j_iadd (pc := 610) hX dL_law_610 ?_
    refine j_rd (pc := 611) hX hc2.1 hb2 ha2 dL_law_611 ?_
    refine zJ_eq hc2.2.2.1 ?_
    refine j_callV (pc := 612) hX (ci := 3) mt_X4_overtime q2524 q2525 q2526 (zIj_isC b w2 M) ⟨_, rfl, rfl⟩ [vI a1, vI a2] rfl rfl (Nat.le_of_ble_eq_true rfl) (by decide) dL_law_612 (k_X4_overtime _ _ e2) ?_
    obtain ⟨hc3, ho3, hn3⟩ := zLI_mem hc2 M1
    refine j_istore (pc := 615) hX dL_law_615 (by decide) [some (vA (some s)), some (vA (some x)), some (vA (some b)), some (vA (some out)), some (vI i), some (vI (cd_overtime E)), some (vI rm), none] rfl ?_
    refine j_aload_n (pc := 617) hX dL_law_617 rfl ?_
    refine j_callV (pc := 618) hX (ci := 3) mt_X4_thrown q2456 q2457 q2458 (zIj_isC b w2 M1) ⟨_, rfl, rfl⟩ [] rfl rfl (Nat.le_of_ble_eq_true rfl) (by decide) dL_law_618 (k_X4_thrown (n := N) _ _ rfl) ?_
    refine j_iload (pc := 621) hX dL_law_621 rfl ?_
    refine j_icmp_eq (pc := 623) hX 628 (A := some ()) (B := some ()) (o := ()) dL_law_623 rfl (by split <;> rfl) (fun _ _ => ?_) (fun h_ _ => absurd ht h_)
    refine j_iload (pc := 628) hX dL_law_628 rfl ?_
    refine j_if_ne (pc := 630) hX 645 (A := some ()) (B := some ()) (o := ()) dL_law_630 rfl (by split <;> rfl) (fun _ _ => ?_) (fun h_ _ => absurd h_ hk)
    refine j_goto (pc := 645) hX 2691 dL_law_645 rfl ?_
    refine j_fg [5, 6] [some (vA (some s)), some (vA (some x)), some (vA (some b)), some (vA (some out)), some (vI i), none, none, none] rfl ?_
    exact kk _ _ hc3 (hnx _ (hn3 _ hn2))
  · obtain ⟨xx, hfw, rfl⟩ := hR
    obtain ⟨w3, e3, hc2, hov, hn2⟩ := fwok_overtime hc1 a1 a2 r
    cases e3.symm.trans hfw
    refine j_istore (pc := 597) hX dL_law_597 (by decide) [some (vA (some s)), some (vA (some x)), some (vA (some b)), some (vA (some out)), some (vI i), some (vI (0 : Int32)), none, none] rfl ?_
    refine j_aload_n (pc := 599) hX dL_law_599 rfl ?_
    refine j_aload_n (pc := 600) hX dL_law_600 rfl ?_
    refine j_iload (pc := 601) hX dL_law_601 rfl ?_
    refine j_iconst (pc := 603) hX (1 : Int32) dL_law_603 rfl ?_
    refine j_iadd (pc := 604) hX dL_law_604 ?_
    refine j_rd (pc := 605) hX hc2.1 hb1 ha1 dL_law_605 ?_
    refine j_aload_n (pc := 606) hX dL_law_606 rfl ?_
    refine j_iload (pc := 607) hX dL_law_607 rfl ?_
    refine j_iconst (pc := 609) hX (2 : Int32) dL_law_609 rfl ?_
    refine j_iadd (pc := 610) hX dL_law_610 ?_
    refine j_rd (pc := 611) hX hc2.1 hb2 ha2 dL_law_611 ?_
    refine zJ_eq hc2.2.2.1 ?_
    refine j_callV (pc := 612) hX (ci := 3) mt_X4_overtime q2524 q2525 q2526 (zIj_isC b w2 M) ⟨_, rfl, rfl⟩ [vI a1, vI a2] rfl rfl (Nat.le_of_ble_eq_true rfl) (by decide) dL_law_612 (k_X4_overtime _ _ e2) ?_
    obtain ⟨hc3, ho3, hn3⟩ := zLI_mem hc2 M1
    refine j_istore (pc := 615) hX dL_law_615 (by decide) [some (vA (some s)), some (vA (some x)), some (vA (some b)), some (vA (some out)), some (vI i), some (vI (0 : Int32)), some (vI rm), none] rfl ?_
    refine j_aload_n (pc := 617) hX dL_law_617 rfl ?_
    refine j_callV (pc := 618) hX (ci := 3) mt_X4_thrown q2456 q2457 q2458 (zIj_isC b w2 M1) ⟨_, rfl, rfl⟩ [] rfl rfl (Nat.le_of_ble_eq_true rfl) (by decide) dL_law_618 (k_X4_thrown (n := N) _ _ rfl) ?_
    have hov : aL (zIj b w2 M1) (some out) 0 = some (Int32.toInt64 r) := (ho3 0).trans hov
    refine j_iload (pc := 621) hX dL_law_621 rfl ?_
    refine j_icmp_eq (pc := 623) hX 628 (A := some ()) (B := some ()) (o := ()) dL_law_623 rfl (by split <;> rfl) (fun _ _ => ?_) (fun h_ _ => absurd hag.1 h_)
    refine j_iload (pc := 628) hX dL_law_628 rfl ?_
    refine j_if_ne (pc := 630) hX 645 (A := some ()) (B := some ()) (o := ()) dL_law_630 rfl (by split <;> rfl) (fun h_ _ => absurd rfl h_) (fun _ _ => ?_)
    refine j_aload_n (pc := 633) hX dL_law_633 rfl ?_
    refine j_iconst (pc := 634) hX (0 : Int32) dL_law_634 rfl ?_
    refine j_ld (pc := 635) hX hov dL_law_635 ?_
    refine j_iload (pc := 636) hX dL_law_636 rfl ?_
    refine j_i2l (pc := 638) hX dL_law_638 ?_
    refine j_lcmp (pc := 639) hX dL_law_639 ?_
    refine j_if_eq (pc := 640) hX 645 (A := some ()) (B := some ()) (o := ()) dL_law_640 rfl (by split <;> rfl) (fun _ _ => ?_) (fun h_ _ => absurd (by rw [hag.2]; exact lg_cmp_self _) h_)
    refine j_goto (pc := 645) hX 2691 dL_law_645 rfl ?_
    refine j_fg [5, 6] [some (vA (some s)), some (vA (some x)), some (vA (some b)), some (vA (some out)), some (vI i), none, none, none] rfl ?_
    exact kk _ _ hc3 (hnx _ (hn3 _ hn2))
def Op_base (N s L x b out : Nat) (xs : Nat → Int32) (S : Nat → zWd → zM → Prop) : Prop := ∀ (n : Nat) (w : zWd) (M : zM) (p1 : Int32) (p2 : Int32) , n < 64 → zLI s L x b out xs w M → S n w M →
  ∃ (o : String ⊕ Int64) (w1 : zWd) (rm : Int64) (M1 : zM), f_X1_base N (some x) p1 p2 w = some (o, w1) ∧ f_X4_base N p1 p2 M = some (rm, M1) ∧ zLI s L x b out xs w1 M ∧ (match o with | .inr r => mI M1 67 = 0 ∧ r = rm | .inl E => E ∈ ["java/lang/IndexOutOfBoundsException"] ∧ mI M1 67 = cd_base E) ∧ ∀ w2, zNx b out w1 w2 → S (n + 1) w2 M1
theorem fwok_base {s L x b out : Nat} {xs : Nat → Int32} {w1 : zWd} {M : zM} (hc : zLI s L x b out xs w1 M) (p1 : Int32) (p2 : Int32) (r : Int64) : ∃ w2, fw_base (some x) p1 p2 (some out) r w1 = some ((0 : Int32), w2) ∧ zLI s L x b out xs w2 M ∧ aL w2 (some out) 0 = some r ∧  zNx b out w1 w2 := by
  obtain ⟨w2, e, h1, h2, h3⟩ := zLI_out hc r
  refine ⟨w2, ?_, h1, h2, h3⟩
  unfold fw_base
  rw [e]
  rfl
set_option maxHeartbeats 4000000 in
theorem lc_base {X : zX} (hX : zGd X RX0 cL_law 8 ret 24) {s L x b out n N : Nat} {xs : Nat → Int32} {i : Int32} {S : Nat → zWd → zM → Prop} {w : zWd} {M : zM} (hn : n < 64) (hc : zLI s L x b out xs w M) (hS : S n w M) (op : Op_base N s L x b out xs S)
    (hb : ∀ j ∈ [(1 : Int32), 2, 3, 4, 5, 6, 7], ¬ (i + j < 0 ∨ L ≤ (i + j).toNatClampNeg)) (kk : ∀ w' M', zLI s L x b out xs w' M' → S (n + 1) w' M' → zJ X 2691 [some (vA (some s)), some (vA (some x)), some (vA (some b)), some (vA (some out)), some (vI i), none, none, none] [] w') : zJ X 648 [some (vA (some s)), some (vA (some x)), some (vA (some b)), some (vA (some out)), some (vI i), none, none, none] [] w := by
  obtain ⟨a1, ha1⟩ : ∃ v, xs (i + (1 : Int32)).toNatClampNeg = v := ⟨_, rfl⟩
  have hb1 := hb (1 : Int32) (by decide)
  obtain ⟨a2, ha2⟩ : ∃ v, xs (i + (2 : Int32)).toNatClampNeg = v := ⟨_, rfl⟩
  have hb2 := hb (2 : Int32) (by decide)
  obtain ⟨o, w1, rm, M1, e1, e2, hc1, hag, hnx⟩ := op n w M a1 a2 hn hc hS
  refine j_aload_n (pc := 648) hX dL_law_648 rfl ?_
  refine j_aload_n (pc := 649) hX dL_law_649 rfl ?_
  refine j_iload (pc := 650) hX dL_law_650 rfl ?_
  refine j_iconst (pc := 652) hX (1 : Int32) dL_law_652 rfl ?_
  refine j_iadd (pc := 653) hX dL_law_653 ?_
  refine j_rd (pc := 654) hX hc.1 hb1 ha1 dL_law_654 ?_
  refine j_aload_n (pc := 655) hX dL_law_655 rfl ?_
  refine j_iload (pc := 656) hX dL_law_656 rfl ?_
  refine j_iconst (pc := 658) hX (2 : Int32) dL_law_658 rfl ?_
  refine j_iadd (pc := 659) hX dL_law_659 ?_
  refine j_rd (pc := 660) hX hc.1 hb2 ha2 dL_law_660 ?_
  refine j_aload_n (pc := 661) hX dL_law_661 rfl ?_
  refine j_callSR (pc := 662) hX mw_base q1119 q1120 [vA (some x), vI a1, vI a2, vA (some out)] rfl rfl (Nat.le_of_ble_eq_true rfl) (by decide) dL_law_662 (kw_base o hc.2.2.2.1 e1 (fun r hr => ⟨_, _, (fwok_base hc1 a1 a2 r).choose_spec.1⟩) (fun E hE => by subst hE; exact hag.1)) (fun v' w2 hR => ?_)
  rcases o with E | r
  · obtain ⟨rfl, hth⟩ := hR
    obtain ⟨hE, ht⟩ := hag
    obtain ⟨hc2, hn2⟩ := zLI_th hc1 hth
    have hk : ¬ cd_base E = 0 := by
      simp only [List.mem_cons, List.not_mem_nil, or_false] at hE
      rcases hE with rfl
      decide +kernel
    refine j_istore (pc := 665) hX dL_law_665 (by decide) [some (vA (some s)), some (vA (some x)), some (vA (some b)), some (vA (some out)), some (vI i), some (vI (cd_base E)), none, none] rfl ?_
    refine j_aload_n (pc := 667) hX dL_law_667 rfl ?_
    refine j_aload_n (pc := 668) hX dL_law_668 rfl ?_
    refine j_iload (pc := 669) hX dL_law_669 rfl ?_
    refine j_iconst (pc := 671) hX (1 : Int32) dL_law_671 rfl ?_
    refine j_iadd (pc := 672) hX dL_law_672 ?_
    refine j_rd (pc := 673) hX hc2.1 hb1 ha1 dL_law_673 ?_
    refine j_aload_n (pc := 674) hX dL_law_674 rfl ?_
    refine j_iload (pc := 675) hX dL_law_675 rfl ?_
    refine j_iconst (pc := 677) hX (2 : Int32) dL_law_677 rfl ?_
    refine j_iadd (pc := 678) hX dL_law_678 ?_
    refine j_rd (pc := 679) hX hc2.1 hb2 ha2 dL_law_679 ?_
    refine zJ_eq hc2.2.2.1 ?_
    refine j_callV (pc := 680) hX (ci := 3) mt_X4_base q2533 q2534 q2535 (zIj_isC b w2 M) ⟨_, rfl, rfl⟩ [vI a1, vI a2] rfl rfl (Nat.le_of_ble_eq_true rfl) (by decide) dL_law_680 (k_X4_base _ _ e2) ?_
    obtain ⟨hc3, ho3, hn3⟩ := zLI_mem hc2 M1
    refine j_lstore (pc := 683) hX dL_law_683 (by decide) [some (vA (some s)), some (vA (some x)), some (vA (some b)), some (vA (some out)), some (vI i), some (vI (cd_base E)), some (vL rm), none] rfl ?_
    refine j_aload_n (pc := 685) hX dL_law_685 rfl ?_
    refine j_callV (pc := 686) hX (ci := 3) mt_X4_thrown q2456 q2457 q2458 (zIj_isC b w2 M1) ⟨_, rfl, rfl⟩ [] rfl rfl (Nat.le_of_ble_eq_true rfl) (by decide) dL_law_686 (k_X4_thrown (n := N) _ _ rfl) ?_
    refine j_iload (pc := 689) hX dL_law_689 rfl ?_
    refine j_icmp_eq (pc := 691) hX 696 (A := some ()) (B := some ()) (o := ()) dL_law_691 rfl (by split <;> rfl) (fun _ _ => ?_) (fun h_ _ => absurd ht h_)
    refine j_iload (pc := 696) hX dL_law_696 rfl ?_
    refine j_if_ne (pc := 698) hX 712 (A := some ()) (B := some ()) (o := ()) dL_law_698 rfl (by split <;> rfl) (fun _ _ => ?_) (fun h_ _ => absurd h_ hk)
    refine j_goto (pc := 712) hX 2691 dL_law_712 rfl ?_
    refine j_fg [5, 6] [some (vA (some s)), some (vA (some x)), some (vA (some b)), some (vA (some out)), some (vI i), none, none, none] rfl ?_
    exact kk _ _ hc3 (hnx _ (hn3 _ hn2))
  · obtain ⟨xx, hfw, rfl⟩ := hR
    obtain ⟨w3, e3, hc2, hov, hn2⟩ := fwok_base hc1 a1 a2 r
    cases e3.symm.trans hfw
    refine j_istore (pc := 665) hX dL_law_665 (by decide) [some (vA (some s)), some (vA (some x)), some (vA (some b)), some (vA (some out)), some (vI i), some (vI (0 : Int32)), none, none] rfl ?_
    refine j_aload_n (pc := 667) hX dL_law_667 rfl ?_
    refine j_aload_n (pc := 668) hX dL_law_668 rfl ?_
    refine j_iload (pc := 669) hX dL_law_669 rfl ?_
    refine j_iconst (pc := 671) hX (1 : Int32) dL_law_671 rfl ?_
    refine j_iadd (pc := 672) hX dL_law_672 ?_
    refine j_rd (pc := 673) hX hc2.1 hb1 ha1 dL_law_673 ?_
    refine j_aload_n (pc := 674) hX dL_law_674 rfl ?_
    refine j_iload (pc := 675) hX dL_law_675 rfl ?_
    refine j_iconst (pc := 677) hX (2 : Int32) dL_law_677 rfl ?_
    refine j_iadd (pc := 678) hX dL_law_678 ?_
    refine j_rd (pc := 679) hX hc2.1 hb2 ha2 dL_law_679 ?_
    refine zJ_eq hc2.2.2.1 ?_
    refine j_callV (pc := 680) hX (ci := 3) mt_X4_base q2533 q2534 q2535 (zIj_isC b w2 M) ⟨_, rfl, rfl⟩ [vI a1, vI a2] rfl rfl (Nat.le_of_ble_eq_true rfl) (by decide) dL_law_680 (k_X4_base _ _ e2) ?_
    obtain ⟨hc3, ho3, hn3⟩ := zLI_mem hc2 M1
    refine j_lstore (pc := 683) hX dL_law_683 (by decide) [some (vA (some s)), some (vA (some x)), some (vA (some b)), some (vA (some out)), some (vI i), some (vI (0 : Int32)), some (vL rm), none] rfl ?_
    refine j_aload_n (pc := 685) hX dL_law_685 rfl ?_
    refine j_callV (pc := 686) hX (ci := 3) mt_X4_thrown q2456 q2457 q2458 (zIj_isC b w2 M1) ⟨_, rfl, rfl⟩ [] rfl rfl (Nat.le_of_ble_eq_true rfl) (by decide) dL_law_686 (k_X4_thrown (n := N) _ _ rfl) ?_
    have hov : aL (zIj b w2 M1) (some out) 0 = some r := (ho3 0).trans hov
    refine j_iload (pc := 689) hX dL_law_689 rfl ?_
    refine j_icmp_eq (pc := 691) hX 696 (A := some ()) (B := some ()) (o := ()) dL_law_691 rfl (by split <;> rfl) (fun _ _ => ?_) (fun h_ _ => absurd hag.1 h_)
    refine j_iload (pc := 696) hX dL_law_696 rfl ?_
    refine j_if_ne (pc := 698) hX 712 (A := some ()) (B := some ()) (o := ()) dL_law_698 rfl (by split <;> rfl) (fun h_ _ => absurd rfl h_) (fun _ _ => ?_)
    refine j_aload_n (pc := 701) hX dL_law_701 rfl ?_
    refine j_iconst (pc := 702) hX (0 : Int32) dL_law_702 rfl ?_
    refine j_ld (pc := 703) hX hov dL_law_703 ?_
    refine j_lload (pc := 704) hX dL_law_704 rfl ?_
    refine j_lcmp (pc := 706) hX dL_law_706 ?_
    refine j_if_eq (pc := 707) hX 712 (A := some ()) (B := some ()) (o := ()) dL_law_707 rfl (by split <;> rfl) (fun _ _ => ?_) (fun h_ _ => absurd (by rw [hag.2]; exact lg_cmp_self _) h_)
    refine j_goto (pc := 712) hX 2691 dL_law_712 rfl ?_
    refine j_fg [5, 6] [some (vA (some s)), some (vA (some x)), some (vA (some b)), some (vA (some out)), some (vI i), none, none, none] rfl ?_
    exact kk _ _ hc3 (hnx _ (hn3 _ hn2))
def Op_leaveRule (N s L x b out : Nat) (xs : Nat → Int32) (S : Nat → zWd → zM → Prop) : Prop := ∀ (n : Nat) (w : zWd) (M : zM) (p1 : Int32) (p2 : Int32) (p3 : Int32) , n < 64 → zLI s L x b out xs w M → S n w M →
  ∃ (o : String ⊕ Unit) (w1 : zWd) (M1 : zM), f_X1_leaveRule N (some x) p1 p2 p3 w = some (o, w1) ∧ f_X4_leaveRule N p1 p2 p3 M = some M1 ∧ zLI s L x b out xs w1 M ∧ (match o with | .inr _ => mI M1 67 = 0 | .inl E => E ∈ ["java/lang/IllegalArgumentException"] ∧ mI M1 67 = cd_leaveRule E) ∧ ∀ w2, zNx b out w1 w2 → S (n + 1) w2 M1
theorem fwok_leaveRule {s L x b out : Nat} {xs : Nat → Int32} {w1 : zWd} {M : zM} (hc : zLI s L x b out xs w1 M) (p1 : Int32) (p2 : Int32) (p3 : Int32) (r : Unit) : ∃ w2, fw_leaveRule (some x) p1 p2 p3 r w1 = some ((0 : Int32), w2) ∧ zLI s L x b out xs w2 M ∧ True ∧  zNx b out w1 w2 := by
  exact ⟨w1, rfl, hc, trivial, fun _ _ _ => rfl, Nat.le_refl _, Nat.le_succ _, Nat.le_add_right _ 6, rfl⟩
set_option maxHeartbeats 4000000 in
theorem lc_leaveRule {X : zX} (hX : zGd X RX0 cL_law 8 ret 24) {s L x b out n N : Nat} {xs : Nat → Int32} {i : Int32} {S : Nat → zWd → zM → Prop} {w : zWd} {M : zM} (hn : n < 64) (hc : zLI s L x b out xs w M) (hS : S n w M) (op : Op_leaveRule N s L x b out xs S)
    (hb : ∀ j ∈ [(1 : Int32), 2, 3, 4, 5, 6, 7], ¬ (i + j < 0 ∨ L ≤ (i + j).toNatClampNeg)) (kk : ∀ w' M', zLI s L x b out xs w' M' → S (n + 1) w' M' → zJ X 2691 [some (vA (some s)), some (vA (some x)), some (vA (some b)), some (vA (some out)), some (vI i), none, none, none] [] w') : zJ X 715 [some (vA (some s)), some (vA (some x)), some (vA (some b)), some (vA (some out)), some (vI i), none, none, none] [] w := by
  obtain ⟨a1, ha1⟩ : ∃ v, xs (i + (1 : Int32)).toNatClampNeg = v := ⟨_, rfl⟩
  have hb1 := hb (1 : Int32) (by decide)
  obtain ⟨a2, ha2⟩ : ∃ v, xs (i + (2 : Int32)).toNatClampNeg = v := ⟨_, rfl⟩
  have hb2 := hb (2 : Int32) (by decide)
  obtain ⟨a3, ha3⟩ : ∃ v, xs (i + (3 : Int32)).toNatClampNeg = v := ⟨_, rfl⟩
  have hb3 := hb (3 : Int32) (by decide)
  obtain ⟨o, w1,  M1, e1, e2, hc1, hag, hnx⟩ := op n w M a1 a2 a3 hn hc hS
  refine j_aload_n (pc := 715) hX dL_law_715 rfl ?_
  refine j_aload_n (pc := 716) hX dL_law_716 rfl ?_
  refine j_iload (pc := 717) hX dL_law_717 rfl ?_
  refine j_iconst (pc := 719) hX (1 : Int32) dL_law_719 rfl ?_
  refine j_iadd (pc := 720) hX dL_law_720 ?_
  refine j_rd (pc := 721) hX hc.1 hb1 ha1 dL_law_721 ?_
  refine j_aload_n (pc := 722) hX dL_law_722 rfl ?_
  refine j_iload (pc := 723) hX dL_law_723 rfl ?_
  refine j_iconst (pc := 725) hX (2 : Int32) dL_law_725 rfl ?_
  refine j_iadd (pc := 726) hX dL_law_726 ?_
  refine j_rd (pc := 727) hX hc.1 hb2 ha2 dL_law_727 ?_
  refine j_aload_n (pc := 728) hX dL_law_728 rfl ?_
  refine j_iload (pc := 729) hX dL_law_729 rfl ?_
  refine j_iconst (pc := 731) hX (3 : Int32) dL_law_731 rfl ?_
  refine j_iadd (pc := 732) hX dL_law_732 ?_
  refine j_rd (pc := 733) hX hc.1 hb3 ha3 dL_law_733 ?_
  refine j_callSR (pc := 734) hX mw_leaveRule q1203 q1204 [vA (some x), vI a1, vI a2, vI a3] rfl rfl (Nat.le_of_ble_eq_true rfl) (by decide) dL_law_734 (kw_leaveRule o hc.2.2.2.1 e1 (fun r hr => ⟨_, _, (fwok_leaveRule hc1 a1 a2 a3 r).choose_spec.1⟩) (fun E hE => by subst hE; exact hag.1)) (fun v' w2 hR => ?_)
  rcases o with E | r
  · obtain ⟨rfl, hth⟩ := hR
    obtain ⟨hE, ht⟩ := hag
    obtain ⟨hc2, hn2⟩ := zLI_th hc1 hth
    have hk : ¬ cd_leaveRule E = 0 := by
      simp only [List.mem_cons, List.not_mem_nil, or_false] at hE
      rcases hE with rfl
      decide +kernel
    refine j_istore (pc := 737) hX dL_law_737 (by decide) [some (vA (some s)), some (vA (some x)), some (vA (some b)), some (vA (some out)), some (vI i), some (vI (cd_leaveRule E)), none, none] rfl ?_
    refine j_aload_n (pc := 739) hX dL_law_739 rfl ?_
    refine j_aload_n (pc := 740) hX dL_law_740 rfl ?_
    refine j_iload (pc := 741) hX dL_law_741 rfl ?_
    refine j_iconst (pc := 743) hX (1 : Int32) dL_law_743 rfl ?_
    refine j_iadd (pc := 744) hX dL_law_744 ?_
    refine j_rd (pc := 745) hX hc2.1 hb1 ha1 dL_law_745 ?_
    refine j_aload_n (pc := 746) hX dL_law_746 rfl ?_
    refine j_iload (pc := 747) hX dL_law_747 rfl ?_
    refine j_iconst (pc := 749) hX (2 : Int32) dL_law_749 rfl ?_
    refine j_iadd (pc := 750) hX dL_law_750 ?_
    refine j_rd (pc := 751) hX hc2.1 hb2 ha2 dL_law_751 ?_
    refine j_aload_n (pc := 752) hX dL_law_752 rfl ?_
    refine j_iload (pc := 753) hX dL_law_753 rfl ?_
    refine j_iconst (pc := 755) hX (3 : Int32) dL_law_755 rfl ?_
    refine j_iadd (pc := 756) hX dL_law_756 ?_
    refine j_rd (pc := 757) hX hc2.1 hb3 ha3 dL_law_757 ?_
    refine zJ_eq hc2.2.2.1 ?_
    refine j_callV (pc := 758) hX (ci := 3) mt_X4_leaveRule q2569 q2570 q2571 (zIj_isC b w2 M) ⟨_, rfl, rfl⟩ [vI a1, vI a2, vI a3] rfl rfl (Nat.le_of_ble_eq_true rfl) (by decide) dL_law_758 (k_X4_leaveRule () _ e2) ?_
    obtain ⟨hc3, ho3, hn3⟩ := zLI_mem hc2 M1
    refine j_aload_n (pc := 761) hX dL_law_761 rfl ?_
    refine j_callV (pc := 762) hX (ci := 3) mt_X4_thrown q2456 q2457 q2458 (zIj_isC b w2 M1) ⟨_, rfl, rfl⟩ [] rfl rfl (Nat.le_of_ble_eq_true rfl) (by decide) dL_law_762 (k_X4_thrown (n := N) _ _ rfl) ?_
    refine j_iload (pc := 765) hX dL_law_765 rfl ?_
    refine j_icmp_eq (pc := 767) hX 772 (A := some ()) (B := some ()) (o := ()) dL_law_767 rfl (by split <;> rfl) (fun _ _ => ?_) (fun h_ _ => absurd ht h_)
    refine j_goto (pc := 772) hX 2691 dL_law_772 rfl ?_
    refine j_fg [5] [some (vA (some s)), some (vA (some x)), some (vA (some b)), some (vA (some out)), some (vI i), none, none, none] rfl ?_
    exact kk _ _ hc3 (hnx _ (hn3 _ hn2))
  · obtain ⟨xx, hfw, rfl⟩ := hR
    obtain ⟨w3, e3, hc2, hov, hn2⟩ := fwok_leaveRule hc1 a1 a2 a3 r
    cases e3.symm.trans hfw
    refine j_istore (pc := 737) hX dL_law_737 (by decide) [some (vA (some s)), some (vA (some x)), some (vA (some b)), some (vA (some out)), some (vI i), some (vI (0 : Int32)), none, none] rfl ?_
    refine j_aload_n (pc := 739) hX dL_law_739 rfl ?_
    refine j_aload_n (pc := 740) hX dL_law_740 rfl ?_
    refine j_iload (pc := 741) hX dL_law_741 rfl ?_
    refine j_iconst (pc := 743) hX (1 : Int32) dL_law_743 rfl ?_
    refine j_iadd (pc := 744) hX dL_law_744 ?_
    refine j_rd (pc := 745) hX hc2.1 hb1 ha1 dL_law_745 ?_
    refine j_aload_n (pc := 746) hX dL_law_746 rfl ?_
    refine j_iload (pc := 747) hX dL_law_747 rfl ?_
    refine j_iconst (pc := 749) hX (2 : Int32) dL_law_749 rfl ?_
    refine j_iadd (pc := 750) hX dL_law_750 ?_
    refine j_rd (pc := 751) hX hc2.1 hb2 ha2 dL_law_751 ?_
    refine j_aload_n (pc := 752) hX dL_law_752 rfl ?_
    refine j_iload (pc := 753) hX dL_law_753 rfl ?_
    refine j_iconst (pc := 755) hX (3 : Int32) dL_law_755 rfl ?_
    refine j_iadd (pc := 756) hX dL_law_756 ?_
    refine j_rd (pc := 757) hX hc2.1 hb3 ha3 dL_law_757 ?_
    refine zJ_eq hc2.2.2.1 ?_
    refine j_callV (pc := 758) hX (ci := 3) mt_X4_leaveRule q2569 q2570 q2571 (zIj_isC b w2 M) ⟨_, rfl, rfl⟩ [vI a1, vI a2, vI a3] rfl rfl (Nat.le_of_ble_eq_true rfl) (by decide) dL_law_758 (k_X4_leaveRule () _ e2) ?_
    obtain ⟨hc3, ho3, hn3⟩ := zLI_mem hc2 M1
    refine j_aload_n (pc := 761) hX dL_law_761 rfl ?_
    refine j_callV (pc := 762) hX (ci := 3) mt_X4_thrown q2456 q2457 q2458 (zIj_isC b w2 M1) ⟨_, rfl, rfl⟩ [] rfl rfl (Nat.le_of_ble_eq_true rfl) (by decide) dL_law_762 (k_X4_thrown (n := N) _ _ rfl) ?_
    refine j_iload (pc := 765) hX dL_law_765 rfl ?_
    refine j_icmp_eq (pc := 767) hX 772 (A := some ()) (B := some ()) (o := ()) dL_law_767 rfl (by split <;> rfl) (fun _ _ => ?_) (fun h_ _ => absurd hag h_)
    refine j_goto (pc := 772) hX 2691 dL_law_772 rfl ?_
    refine j_fg [5] [some (vA (some s)), some (vA (some x)), some (vA (some b)), some (vA (some out)), some (vI i), none, none, none] rfl ?_
    exact kk _ _ hc3 (hnx _ (hn3 _ hn2))
def Op_leave (N s L x b out : Nat) (xs : Nat → Int32) (S : Nat → zWd → zM → Prop) : Prop := ∀ (n : Nat) (w : zWd) (M : zM) (p1 : Int32) (p2 : Int32) , n < 64 → zLI s L x b out xs w M → S n w M →
  ∃ (o : String ⊕ Int32) (w1 : zWd) (rm : Int32) (M1 : zM), f_X1_leave N (some x) p1 p2 w = some (o, w1) ∧ f_X4_leave N p1 p2 M = some (rm, M1) ∧ zLI s L x b out xs w1 M ∧ (match o with | .inr r => mI M1 67 = 0 ∧ (if r = 0 then (0 : Int64) else 1) = (if rm = 0 then (0 : Int64) else 1) | .inl E => E ∈ ["java/lang/IndexOutOfBoundsException", "java/lang/IllegalStateException"] ∧ mI M1 67 = cd_leave E) ∧ ∀ w2, zNx b out w1 w2 → S (n + 1) w2 M1
theorem fwok_leave {s L x b out : Nat} {xs : Nat → Int32} {w1 : zWd} {M : zM} (hc : zLI s L x b out xs w1 M) (p1 : Int32) (p2 : Int32) (r : Int32) : ∃ w2, fw_leave (some x) p1 p2 (some out) r w1 = some ((0 : Int32), w2) ∧ zLI s L x b out xs w2 M ∧ aL w2 (some out) 0 = some (if r = 0 then (0 : Int64) else 1) ∧  zNx b out w1 w2 := by
  obtain ⟨w2, e, h1, h2, h3⟩ := zLI_out hc (if r = 0 then (0 : Int64) else 1)
  refine ⟨w2, ?_, h1, h2, h3⟩
  unfold fw_leave
  by_cases hr : r = 0
  · simp only [if_pos hr, Option.bind_some] at e ⊢
    rw [e]
    rfl
  · simp only [if_neg hr, Option.bind_some] at e ⊢
    rw [e]
    rfl
set_option maxHeartbeats 4000000 in
theorem lc_leave {X : zX} (hX : zGd X RX0 cL_law 8 ret 24) {s L x b out n N : Nat} {xs : Nat → Int32} {i : Int32} {S : Nat → zWd → zM → Prop} {w : zWd} {M : zM} (hn : n < 64) (hc : zLI s L x b out xs w M) (hS : S n w M) (op : Op_leave N s L x b out xs S)
    (hb : ∀ j ∈ [(1 : Int32), 2, 3, 4, 5, 6, 7], ¬ (i + j < 0 ∨ L ≤ (i + j).toNatClampNeg)) (kk : ∀ w' M', zLI s L x b out xs w' M' → S (n + 1) w' M' → zJ X 2691 [some (vA (some s)), some (vA (some x)), some (vA (some b)), some (vA (some out)), some (vI i), none, none, none] [] w') : zJ X 775 [some (vA (some s)), some (vA (some x)), some (vA (some b)), some (vA (some out)), some (vI i), none, none, none] [] w := by
  obtain ⟨a1, ha1⟩ : ∃ v, xs (i + (1 : Int32)).toNatClampNeg = v := ⟨_, rfl⟩
  have hb1 := hb (1 : Int32) (by decide)
  obtain ⟨a2, ha2⟩ : ∃ v, xs (i + (2 : Int32)).toNatClampNeg = v := ⟨_, rfl⟩
  have hb2 := hb (2 : Int32) (by decide)
  obtain ⟨o, w1, rm, M1, e1, e2, hc1, hag, hnx⟩ := op n w M a1 a2 hn hc hS
  refine j_aload_n (pc := 775) hX dL_law_775 rfl ?_
  refine j_aload_n (pc := 776) hX dL_law_776 rfl ?_
  refine j_iload (pc := 777) hX dL_law_777 rfl ?_
  refine j_iconst (pc := 779) hX (1 : Int32) dL_law_779 rfl ?_
  refine j_iadd (pc := 780) hX dL_law_780 ?_
  refine j_rd (pc := 781) hX hc.1 hb1 ha1 dL_law_781 ?_
  refine j_aload_n (pc := 782) hX dL_law_782 rfl ?_
  refine j_iload (pc := 783) hX dL_law_783 rfl ?_
  refine j_iconst (pc := 785) hX (2 : Int32) dL_law_785 rfl ?_
  refine j_iadd (pc := 786) hX dL_law_786 ?_
  refine j_rd (pc := 787) hX hc.1 hb2 ha2 dL_law_787 ?_
  refine j_aload_n (pc := 788) hX dL_law_788 rfl ?_
  refine j_callSR (pc := 789) hX mw_leave q1210 q1211 [vA (some x), vI a1, vI a2, vA (some out)] rfl rfl (Nat.le_of_ble_eq_true rfl) (by decide) dL_law_789 (kw_leave o hc.2.2.2.1 e1 (fun r hr => ⟨_, _, (fwok_leave hc1 a1 a2 r).choose_spec.1⟩) (fun E hE => by subst hE; exact hag.1)) (fun v' w2 hR => ?_)
  rcases o with E | r
  · obtain ⟨rfl, hth⟩ := hR
    obtain ⟨hE, ht⟩ := hag
    obtain ⟨hc2, hn2⟩ := zLI_th hc1 hth
    have hk : ¬ cd_leave E = 0 := by
      simp only [List.mem_cons, List.not_mem_nil, or_false] at hE
      rcases hE with rfl | rfl <;> decide +kernel
    refine j_istore (pc := 792) hX dL_law_792 (by decide) [some (vA (some s)), some (vA (some x)), some (vA (some b)), some (vA (some out)), some (vI i), some (vI (cd_leave E)), none, none] rfl ?_
    refine j_aload_n (pc := 794) hX dL_law_794 rfl ?_
    refine j_aload_n (pc := 795) hX dL_law_795 rfl ?_
    refine j_iload (pc := 796) hX dL_law_796 rfl ?_
    refine j_iconst (pc := 798) hX (1 : Int32) dL_law_798 rfl ?_
    refine j_iadd (pc := 799) hX dL_law_799 ?_
    refine j_rd (pc := 800) hX hc2.1 hb1 ha1 dL_law_800 ?_
    refine j_aload_n (pc := 801) hX dL_law_801 rfl ?_
    refine j_iload (pc := 802) hX dL_law_802 rfl ?_
    refine j_iconst (pc := 804) hX (2 : Int32) dL_law_804 rfl ?_
    refine j_iadd (pc := 805) hX dL_law_805 ?_
    refine j_rd (pc := 806) hX hc2.1 hb2 ha2 dL_law_806 ?_
    refine zJ_eq hc2.2.2.1 ?_
    refine j_callV (pc := 807) hX (ci := 3) mt_X4_leave q2576 q2577 q2578 (zIj_isC b w2 M) ⟨_, rfl, rfl⟩ [vI a1, vI a2] rfl rfl (Nat.le_of_ble_eq_true rfl) (by decide) dL_law_807 (k_X4_leave _ _ e2) ?_
    obtain ⟨hc3, ho3, hn3⟩ := zLI_mem hc2 M1
    refine j_istore (pc := 810) hX dL_law_810 (by decide) [some (vA (some s)), some (vA (some x)), some (vA (some b)), some (vA (some out)), some (vI i), some (vI (cd_leave E)), some (vI rm), none] rfl ?_
    refine j_aload_n (pc := 812) hX dL_law_812 rfl ?_
    refine j_callV (pc := 813) hX (ci := 3) mt_X4_thrown q2456 q2457 q2458 (zIj_isC b w2 M1) ⟨_, rfl, rfl⟩ [] rfl rfl (Nat.le_of_ble_eq_true rfl) (by decide) dL_law_813 (k_X4_thrown (n := N) _ _ rfl) ?_
    refine j_iload (pc := 816) hX dL_law_816 rfl ?_
    refine j_icmp_eq (pc := 818) hX 823 (A := some ()) (B := some ()) (o := ()) dL_law_818 rfl (by split <;> rfl) (fun _ _ => ?_) (fun h_ _ => absurd ht h_)
    refine j_iload (pc := 823) hX dL_law_823 rfl ?_
    refine j_if_ne (pc := 825) hX 847 (A := some ()) (B := some ()) (o := ()) dL_law_825 rfl (by split <;> rfl) (fun _ _ => ?_) (fun h_ _ => absurd h_ hk)
    refine j_goto (pc := 847) hX 2691 dL_law_847 rfl ?_
    refine j_fg [5, 6] [some (vA (some s)), some (vA (some x)), some (vA (some b)), some (vA (some out)), some (vI i), none, none, none] rfl ?_
    exact kk _ _ hc3 (hnx _ (hn3 _ hn2))
  · obtain ⟨xx, hfw, rfl⟩ := hR
    obtain ⟨w3, e3, hc2, hov, hn2⟩ := fwok_leave hc1 a1 a2 r
    cases e3.symm.trans hfw
    refine j_istore (pc := 792) hX dL_law_792 (by decide) [some (vA (some s)), some (vA (some x)), some (vA (some b)), some (vA (some out)), some (vI i), some (vI (0 : Int32)), none, none] rfl ?_
    refine j_aload_n (pc := 794) hX dL_law_794 rfl ?_
    refine j_aload_n (pc := 795) hX dL_law_795 rfl ?_
    refine j_iload (pc := 796) hX dL_law_796 rfl ?_
    refine j_iconst (pc := 798) hX (1 : Int32) dL_law_798 rfl ?_
    refine j_iadd (pc := 799) hX dL_law_799 ?_
    refine j_rd (pc := 800) hX hc2.1 hb1 ha1 dL_law_800 ?_
    refine j_aload_n (pc := 801) hX dL_law_801 rfl ?_
    refine j_iload (pc := 802) hX dL_law_802 rfl ?_
    refine j_iconst (pc := 804) hX (2 : Int32) dL_law_804 rfl ?_
    refine j_iadd (pc := 805) hX dL_law_805 ?_
    refine j_rd (pc := 806) hX hc2.1 hb2 ha2 dL_law_806 ?_
    refine zJ_eq hc2.2.2.1 ?_
    refine j_callV (pc := 807) hX (ci := 3) mt_X4_leave q2576 q2577 q2578 (zIj_isC b w2 M) ⟨_, rfl, rfl⟩ [vI a1, vI a2] rfl rfl (Nat.le_of_ble_eq_true rfl) (by decide) dL_law_807 (k_X4_leave _ _ e2) ?_
    obtain ⟨hc3, ho3, hn3⟩ := zLI_mem hc2 M1
    refine j_istore (pc := 810) hX dL_law_810 (by decide) [some (vA (some s)), some (vA (some x)), some (vA (some b)), some (vA (some out)), some (vI i), some (vI (0 : Int32)), some (vI rm), none] rfl ?_
    refine j_aload_n (pc := 812) hX dL_law_812 rfl ?_
    refine j_callV (pc := 813) hX (ci := 3) mt_X4_thrown q2456 q2457 q2458 (zIj_isC b w2 M1) ⟨_, rfl, rfl⟩ [] rfl rfl (Nat.le_of_ble_eq_true rfl) (by decide) dL_law_813 (k_X4_thrown (n := N) _ _ rfl) ?_
    have hov : aL (zIj b w2 M1) (some out) 0 = some (if r = 0 then (0 : Int64) else 1) := (ho3 0).trans hov
    by_cases hz2 : rm = 0
    · refine j_iload (pc := 816) hX dL_law_816 rfl ?_
      refine j_icmp_eq (pc := 818) hX 823 (A := some ()) (B := some ()) (o := ()) dL_law_818 rfl (by split <;> rfl) (fun _ _ => ?_) (fun h_ _ => absurd hag.1 h_)
      refine j_iload (pc := 823) hX dL_law_823 rfl ?_
      refine j_if_ne (pc := 825) hX 847 (A := some ()) (B := some ()) (o := ()) dL_law_825 rfl (by split <;> rfl) (fun h_ _ => absurd rfl h_) (fun _ _ => ?_)
      refine j_aload_n (pc := 828) hX dL_law_828 rfl ?_
      refine j_iconst (pc := 829) hX (0 : Int32) dL_law_829 rfl ?_
      refine j_ld (pc := 830) hX hov dL_law_830 ?_
      refine j_iload (pc := 831) hX dL_law_831 rfl ?_
      refine j_if_eq (pc := 833) hX 840 (A := some ()) (B := some ()) (o := ()) dL_law_833 rfl (by split <;> rfl) (fun _ _ => ?_) (fun h_ _ => absurd hz2 h_)
      refine j_lconst (pc := 840) hX (0 : Int64) dL_law_840 rfl ?_
      refine j_lcmp (pc := 841) hX dL_law_841 ?_
      refine j_if_eq (pc := 842) hX 847 (A := some ()) (B := some ()) (o := ()) dL_law_842 rfl (by split <;> rfl) (fun _ _ => ?_) (fun h_ _ => absurd (by rw [hag.2, if_pos hz2]; exact lg_cmp_self _) h_)
      refine j_goto (pc := 847) hX 2691 dL_law_847 rfl ?_
      refine j_fg [5, 6] [some (vA (some s)), some (vA (some x)), some (vA (some b)), some (vA (some out)), some (vI i), none, none, none] rfl ?_
      exact kk _ _ hc3 (hnx _ (hn3 _ hn2))
    · refine j_iload (pc := 816) hX dL_law_816 rfl ?_
      refine j_icmp_eq (pc := 818) hX 823 (A := some ()) (B := some ()) (o := ()) dL_law_818 rfl (by split <;> rfl) (fun _ _ => ?_) (fun h_ _ => absurd hag.1 h_)
      refine j_iload (pc := 823) hX dL_law_823 rfl ?_
      refine j_if_ne (pc := 825) hX 847 (A := some ()) (B := some ()) (o := ()) dL_law_825 rfl (by split <;> rfl) (fun h_ _ => absurd rfl h_) (fun _ _ => ?_)
      refine j_aload_n (pc := 828) hX dL_law_828 rfl ?_
      refine j_iconst (pc := 829) hX (0 : Int32) dL_law_829 rfl ?_
      refine j_ld (pc := 830) hX hov dL_law_830 ?_
      refine j_iload (pc := 831) hX dL_law_831 rfl ?_
      refine j_if_eq (pc := 833) hX 840 (A := some ()) (B := some ()) (o := ()) dL_law_833 rfl (by split <;> rfl) (fun h_ _ => absurd h_ hz2) (fun _ _ => ?_)
      refine j_lconst (pc := 836) hX (1 : Int64) dL_law_836 rfl ?_
      refine j_goto (pc := 837) hX 841 dL_law_837 rfl ?_
      refine j_lcmp (pc := 841) hX dL_law_841 ?_
      refine j_if_eq (pc := 842) hX 847 (A := some ()) (B := some ()) (o := ()) dL_law_842 rfl (by split <;> rfl) (fun _ _ => ?_) (fun h_ _ => absurd (by rw [hag.2, if_neg hz2]; exact lg_cmp_self _) h_)
      refine j_goto (pc := 847) hX 2691 dL_law_847 rfl ?_
      refine j_fg [5, 6] [some (vA (some s)), some (vA (some x)), some (vA (some b)), some (vA (some out)), some (vI i), none, none, none] rfl ?_
      exact kk _ _ hc3 (hnx _ (hn3 _ hn2))
def Op_leaveLeft (N s L x b out : Nat) (xs : Nat → Int32) (S : Nat → zWd → zM → Prop) : Prop := ∀ (n : Nat) (w : zWd) (M : zM) (p1 : Int32) (p2 : Int32) , n < 64 → zLI s L x b out xs w M → S n w M →
  ∃ (o : String ⊕ Int32) (w1 : zWd) (rm : Int32) (M1 : zM), f_X1_leaveLeft N (some x) p1 p2 w = some (o, w1) ∧ f_X4_leaveLeft N p1 p2 M = some (rm, M1) ∧ zLI s L x b out xs w1 M ∧ (match o with | .inr r => mI M1 67 = 0 ∧ (Int32.toInt64 r) = (Int32.toInt64 rm) | .inl E => E ∈ ["java/lang/IndexOutOfBoundsException"] ∧ mI M1 67 = cd_leaveLeft E) ∧ ∀ w2, zNx b out w1 w2 → S (n + 1) w2 M1
theorem fwok_leaveLeft {s L x b out : Nat} {xs : Nat → Int32} {w1 : zWd} {M : zM} (hc : zLI s L x b out xs w1 M) (p1 : Int32) (p2 : Int32) (r : Int32) : ∃ w2, fw_leaveLeft (some x) p1 p2 (some out) r w1 = some ((0 : Int32), w2) ∧ zLI s L x b out xs w2 M ∧ aL w2 (some out) 0 = some (Int32.toInt64 r) ∧  zNx b out w1 w2 := by
  obtain ⟨w2, e, h1, h2, h3⟩ := zLI_out hc (Int32.toInt64 r)
  refine ⟨w2, ?_, h1, h2, h3⟩
  unfold fw_leaveLeft
  rw [e]
  rfl
set_option maxHeartbeats 4000000 in
theorem lc_leaveLeft {X : zX} (hX : zGd X RX0 cL_law 8 ret 24) {s L x b out n N : Nat} {xs : Nat → Int32} {i : Int32} {S : Nat → zWd → zM → Prop} {w : zWd} {M : zM} (hn : n < 64) (hc : zLI s L x b out xs w M) (hS : S n w M) (op : Op_leaveLeft N s L x b out xs S)
    (hb : ∀ j ∈ [(1 : Int32), 2, 3, 4, 5, 6, 7], ¬ (i + j < 0 ∨ L ≤ (i + j).toNatClampNeg)) (kk : ∀ w' M', zLI s L x b out xs w' M' → S (n + 1) w' M' → zJ X 2691 [some (vA (some s)), some (vA (some x)), some (vA (some b)), some (vA (some out)), some (vI i), none, none, none] [] w') : zJ X 850 [some (vA (some s)), some (vA (some x)), some (vA (some b)), some (vA (some out)), some (vI i), none, none, none] [] w := by
  obtain ⟨a1, ha1⟩ : ∃ v, xs (i + (1 : Int32)).toNatClampNeg = v := ⟨_, rfl⟩
  have hb1 := hb (1 : Int32) (by decide)
  obtain ⟨a2, ha2⟩ : ∃ v, xs (i + (2 : Int32)).toNatClampNeg = v := ⟨_, rfl⟩
  have hb2 := hb (2 : Int32) (by decide)
  obtain ⟨o, w1, rm, M1, e1, e2, hc1, hag, hnx⟩ := op n w M a1 a2 hn hc hS
  refine j_aload_n (pc := 850) hX dL_law_850 rfl ?_
  refine j_aload_n (pc := 851) hX dL_law_851 rfl ?_
  refine j_iload (pc := 852) hX dL_law_852 rfl ?_
  refine j_iconst (pc := 854) hX (1 : Int32) dL_law_854 rfl ?_
  refine j_iadd (pc := 855) hX dL_law_855 ?_
  refine j_rd (pc := 856) hX hc.1 hb1 ha1 dL_law_856 ?_
  refine j_aload_n (pc := 857) hX dL_law_857 rfl ?_
  refine j_iload (pc := 858) hX dL_law_858 rfl ?_
  refine j_iconst (pc := 860) hX (2 : Int32) dL_law_860 rfl ?_
  refine j_iadd (pc := 861) hX dL_law_861 ?_
  refine j_rd (pc := 862) hX hc.1 hb2 ha2 dL_law_862 ?_
  refine j_aload_n (pc := 863) hX dL_law_863 rfl ?_
  refine j_callSR (pc := 864) hX mw_leaveLeft q1237 q1238 [vA (some x), vI a1, vI a2, vA (some out)] rfl rfl (Nat.le_of_ble_eq_true rfl) (by decide) dL_law_864 (kw_leaveLeft o hc.2.2.2.1 e1 (fun r hr => ⟨_, _, (fwok_leaveLeft hc1 a1 a2 r).choose_spec.1⟩) (fun E hE => by subst hE; exact hag.1)) (fun v' w2 hR => ?_)
  rcases o with E | r
  · obtain ⟨rfl, hth⟩ := hR
    obtain ⟨hE, ht⟩ := hag
    obtain ⟨hc2, hn2⟩ := zLI_th hc1 hth
    have hk : ¬ cd_leaveLeft E = 0 := by
      simp only [List.mem_cons, List.not_mem_nil, or_false] at hE
      rcases hE with rfl
      decide +kernel
    refine j_istore (pc := 867) hX dL_law_867 (by decide) [some (vA (some s)), some (vA (some x)), some (vA (some b)), some (vA (some out)), some (vI i), some (vI (cd_leaveLeft E)), none, none] rfl ?_
    refine j_aload_n (pc := 869) hX dL_law_869 rfl ?_
    refine j_aload_n (pc := 870) hX dL_law_870 rfl ?_
    refine j_iload (pc := 871) hX dL_law_871 rfl ?_
    refine j_iconst (pc := 873) hX (1 : Int32) dL_law_873 rfl ?_
    refine j_iadd (pc := 874) hX dL_law_874 ?_
    refine j_rd (pc := 875) hX hc2.1 hb1 ha1 dL_law_875 ?_
    refine j_aload_n (pc := 876) hX dL_law_876 rfl ?_
    refine j_iload (pc := 877) hX dL_law_877 rfl ?_
    refine j_iconst (pc := 879) hX (2 : Int32) dL_law_879 rfl ?_
    refine j_iadd (pc := 880) hX dL_law_880 ?_
    refine j_rd (pc := 881) hX hc2.1 hb2 ha2 dL_law_881 ?_
    refine zJ_eq hc2.2.2.1 ?_
    refine j_callV (pc := 882) hX (ci := 3) mt_X4_leaveLeft q2580 q2581 q2582 (zIj_isC b w2 M) ⟨_, rfl, rfl⟩ [vI a1, vI a2] rfl rfl (Nat.le_of_ble_eq_true rfl) (by decide) dL_law_882 (k_X4_leaveLeft _ _ e2) ?_
    obtain ⟨hc3, ho3, hn3⟩ := zLI_mem hc2 M1
    refine j_istore (pc := 885) hX dL_law_885 (by decide) [some (vA (some s)), some (vA (some x)), some (vA (some b)), some (vA (some out)), some (vI i), some (vI (cd_leaveLeft E)), some (vI rm), none] rfl ?_
    refine j_aload_n (pc := 887) hX dL_law_887 rfl ?_
    refine j_callV (pc := 888) hX (ci := 3) mt_X4_thrown q2456 q2457 q2458 (zIj_isC b w2 M1) ⟨_, rfl, rfl⟩ [] rfl rfl (Nat.le_of_ble_eq_true rfl) (by decide) dL_law_888 (k_X4_thrown (n := N) _ _ rfl) ?_
    refine j_iload (pc := 891) hX dL_law_891 rfl ?_
    refine j_icmp_eq (pc := 893) hX 898 (A := some ()) (B := some ()) (o := ()) dL_law_893 rfl (by split <;> rfl) (fun _ _ => ?_) (fun h_ _ => absurd ht h_)
    refine j_iload (pc := 898) hX dL_law_898 rfl ?_
    refine j_if_ne (pc := 900) hX 915 (A := some ()) (B := some ()) (o := ()) dL_law_900 rfl (by split <;> rfl) (fun _ _ => ?_) (fun h_ _ => absurd h_ hk)
    refine j_goto (pc := 915) hX 2691 dL_law_915 rfl ?_
    refine j_fg [5, 6] [some (vA (some s)), some (vA (some x)), some (vA (some b)), some (vA (some out)), some (vI i), none, none, none] rfl ?_
    exact kk _ _ hc3 (hnx _ (hn3 _ hn2))
  · obtain ⟨xx, hfw, rfl⟩ := hR
    obtain ⟨w3, e3, hc2, hov, hn2⟩ := fwok_leaveLeft hc1 a1 a2 r
    cases e3.symm.trans hfw
    refine j_istore (pc := 867) hX dL_law_867 (by decide) [some (vA (some s)), some (vA (some x)), some (vA (some b)), some (vA (some out)), some (vI i), some (vI (0 : Int32)), none, none] rfl ?_
    refine j_aload_n (pc := 869) hX dL_law_869 rfl ?_
    refine j_aload_n (pc := 870) hX dL_law_870 rfl ?_
    refine j_iload (pc := 871) hX dL_law_871 rfl ?_
    refine j_iconst (pc := 873) hX (1 : Int32) dL_law_873 rfl ?_
    refine j_iadd (pc := 874) hX dL_law_874 ?_
    refine j_rd (pc := 875) hX hc2.1 hb1 ha1 dL_law_875 ?_
    refine j_aload_n (pc := 876) hX dL_law_876 rfl ?_
    refine j_iload (pc := 877) hX dL_law_877 rfl ?_
    refine j_iconst (pc := 879) hX (2 : Int32) dL_law_879 rfl ?_
    refine j_iadd (pc := 880) hX dL_law_880 ?_
    refine j_rd (pc := 881) hX hc2.1 hb2 ha2 dL_law_881 ?_
    refine zJ_eq hc2.2.2.1 ?_
    refine j_callV (pc := 882) hX (ci := 3) mt_X4_leaveLeft q2580 q2581 q2582 (zIj_isC b w2 M) ⟨_, rfl, rfl⟩ [vI a1, vI a2] rfl rfl (Nat.le_of_ble_eq_true rfl) (by decide) dL_law_882 (k_X4_leaveLeft _ _ e2) ?_
    obtain ⟨hc3, ho3, hn3⟩ := zLI_mem hc2 M1
    refine j_istore (pc := 885) hX dL_law_885 (by decide) [some (vA (some s)), some (vA (some x)), some (vA (some b)), some (vA (some out)), some (vI i), some (vI (0 : Int32)), some (vI rm), none] rfl ?_
    refine j_aload_n (pc := 887) hX dL_law_887 rfl ?_
    refine j_callV (pc := 888) hX (ci := 3) mt_X4_thrown q2456 q2457 q2458 (zIj_isC b w2 M1) ⟨_, rfl, rfl⟩ [] rfl rfl (Nat.le_of_ble_eq_true rfl) (by decide) dL_law_888 (k_X4_thrown (n := N) _ _ rfl) ?_
    have hov : aL (zIj b w2 M1) (some out) 0 = some (Int32.toInt64 r) := (ho3 0).trans hov
    refine j_iload (pc := 891) hX dL_law_891 rfl ?_
    refine j_icmp_eq (pc := 893) hX 898 (A := some ()) (B := some ()) (o := ()) dL_law_893 rfl (by split <;> rfl) (fun _ _ => ?_) (fun h_ _ => absurd hag.1 h_)
    refine j_iload (pc := 898) hX dL_law_898 rfl ?_
    refine j_if_ne (pc := 900) hX 915 (A := some ()) (B := some ()) (o := ()) dL_law_900 rfl (by split <;> rfl) (fun h_ _ => absurd rfl h_) (fun _ _ => ?_)
    refine j_aload_n (pc := 903) hX dL_law_903 rfl ?_
    refine j_iconst (pc := 904) hX (0 : Int32) dL_law_904 rfl ?_
    refine j_ld (pc := 905) hX hov dL_law_905 ?_
    refine j_iload (pc := 906) hX dL_law_906 rfl ?_
    refine j_i2l (pc := 908) hX dL_law_908 ?_
    refine j_lcmp (pc := 909) hX dL_law_909 ?_
    refine j_if_eq (pc := 910) hX 915 (A := some ()) (B := some ()) (o := ()) dL_law_910 rfl (by split <;> rfl) (fun _ _ => ?_) (fun h_ _ => absurd (by rw [hag.2]; exact lg_cmp_self _) h_)
    refine j_goto (pc := 915) hX 2691 dL_law_915 rfl ?_
    refine j_fg [5, 6] [some (vA (some s)), some (vA (some x)), some (vA (some b)), some (vA (some out)), some (vI i), none, none, none] rfl ?_
    exact kk _ _ hc3 (hnx _ (hn3 _ hn2))
def Op_word (N s L x b out : Nat) (xs : Nat → Int32) (S : Nat → zWd → zM → Prop) : Prop := ∀ (n : Nat) (w : zWd) (M : zM) (p1 : Int32) (p2 : Int32) , n < 64 → zLI s L x b out xs w M → S n w M →
  ∃ (o : String ⊕ Int32) (w1 : zWd) (rm : Int32) (M1 : zM), f_X1_word N (some x) p1 p2 w = some (o, w1) ∧ f_X4_word N p1 p2 M = some (rm, M1) ∧ zLI s L x b out xs w1 M ∧ (match o with | .inr r => mI M1 67 = 0 ∧ (Int32.toInt64 r) = (Int32.toInt64 rm) | .inl E => E ∈ ["java/lang/IllegalArgumentException", "java/lang/IllegalStateException"] ∧ mI M1 67 = cd_word E) ∧ ∀ w2, zNx b out w1 w2 → S (n + 1) w2 M1
theorem fwok_word {s L x b out : Nat} {xs : Nat → Int32} {w1 : zWd} {M : zM} (hc : zLI s L x b out xs w1 M) (p1 : Int32) (p2 : Int32) (r : Int32) : ∃ w2, fw_word (some x) p1 p2 (some out) r w1 = some ((0 : Int32), w2) ∧ zLI s L x b out xs w2 M ∧ aL w2 (some out) 0 = some (Int32.toInt64 r) ∧  zNx b out w1 w2 := by
  obtain ⟨w2, e, h1, h2, h3⟩ := zLI_out hc (Int32.toInt64 r)
  refine ⟨w2, ?_, h1, h2, h3⟩
  unfold fw_word
  rw [e]
  rfl
set_option maxHeartbeats 4000000 in
theorem lc_word {X : zX} (hX : zGd X RX0 cL_law 8 ret 24) {s L x b out n N : Nat} {xs : Nat → Int32} {i : Int32} {S : Nat → zWd → zM → Prop} {w : zWd} {M : zM} (hn : n < 64) (hc : zLI s L x b out xs w M) (hS : S n w M) (op : Op_word N s L x b out xs S)
    (hb : ∀ j ∈ [(1 : Int32), 2, 3, 4, 5, 6, 7], ¬ (i + j < 0 ∨ L ≤ (i + j).toNatClampNeg)) (kk : ∀ w' M', zLI s L x b out xs w' M' → S (n + 1) w' M' → zJ X 2691 [some (vA (some s)), some (vA (some x)), some (vA (some b)), some (vA (some out)), some (vI i), none, none, none] [] w') : zJ X 918 [some (vA (some s)), some (vA (some x)), some (vA (some b)), some (vA (some out)), some (vI i), none, none, none] [] w := by
  obtain ⟨a1, ha1⟩ : ∃ v, xs (i + (1 : Int32)).toNatClampNeg = v := ⟨_, rfl⟩
  have hb1 := hb (1 : Int32) (by decide)
  obtain ⟨a2, ha2⟩ : ∃ v, xs (i + (2 : Int32)).toNatClampNeg = v := ⟨_, rfl⟩
  have hb2 := hb (2 : Int32) (by decide)
  obtain ⟨o, w1, rm, M1, e1, e2, hc1, hag, hnx⟩ := op n w M a1 a2 hn hc hS
  refine j_aload_n (pc := 918) hX dL_law_918 rfl ?_
  refine j_aload_n (pc := 919) hX dL_law_919 rfl ?_
  refine j_iload (pc := 920) hX dL_law_920 rfl ?_
  refine j_iconst (pc := 922) hX (1 : Int32) dL_law_922 rfl ?_
  refine j_iadd (pc := 923) hX dL_law_923 ?_
  refine j_rd (pc := 924) hX hc.1 hb1 ha1 dL_law_924 ?_
  refine j_aload_n (pc := 925) hX dL_law_925 rfl ?_
  refine j_iload (pc := 926) hX dL_law_926 rfl ?_
  refine j_iconst (pc := 928) hX (2 : Int32) dL_law_928 rfl ?_
  refine j_iadd (pc := 929) hX dL_law_929 ?_
  refine j_rd (pc := 930) hX hc.1 hb2 ha2 dL_law_930 ?_
  refine j_aload_n (pc := 931) hX dL_law_931 rfl ?_
  refine j_callSR (pc := 932) hX mw_word q1244 q1245 [vA (some x), vI a1, vI a2, vA (some out)] rfl rfl (Nat.le_of_ble_eq_true rfl) (by decide) dL_law_932 (kw_word o hc.2.2.2.1 e1 (fun r hr => ⟨_, _, (fwok_word hc1 a1 a2 r).choose_spec.1⟩) (fun E hE => by subst hE; exact hag.1)) (fun v' w2 hR => ?_)
  rcases o with E | r
  · obtain ⟨rfl, hth⟩ := hR
    obtain ⟨hE, ht⟩ := hag
    obtain ⟨hc2, hn2⟩ := zLI_th hc1 hth
    have hk : ¬ cd_word E = 0 := by
      simp only [List.mem_cons, List.not_mem_nil, or_false] at hE
      rcases hE with rfl | rfl <;> decide +kernel
    refine j_istore (pc := 935) hX dL_law_935 (by decide) [some (vA (some s)), some (vA (some x)), some (vA (some b)), some (vA (some out)), some (vI i), some (vI (cd_word E)), none, none] rfl ?_
    refine j_aload_n (pc := 937) hX dL_law_937 rfl ?_
    refine j_aload_n (pc := 938) hX dL_law_938 rfl ?_
    refine j_iload (pc := 939) hX dL_law_939 rfl ?_
    refine j_iconst (pc := 941) hX (1 : Int32) dL_law_941 rfl ?_
    refine j_iadd (pc := 942) hX dL_law_942 ?_
    refine j_rd (pc := 943) hX hc2.1 hb1 ha1 dL_law_943 ?_
    refine j_aload_n (pc := 944) hX dL_law_944 rfl ?_
    refine j_iload (pc := 945) hX dL_law_945 rfl ?_
    refine j_iconst (pc := 947) hX (2 : Int32) dL_law_947 rfl ?_
    refine j_iadd (pc := 948) hX dL_law_948 ?_
    refine j_rd (pc := 949) hX hc2.1 hb2 ha2 dL_law_949 ?_
    refine zJ_eq hc2.2.2.1 ?_
    refine j_callV (pc := 950) hX (ci := 3) mt_X4_word q2584 q2585 q2586 (zIj_isC b w2 M) ⟨_, rfl, rfl⟩ [vI a1, vI a2] rfl rfl (Nat.le_of_ble_eq_true rfl) (by decide) dL_law_950 (k_X4_word _ _ e2) ?_
    obtain ⟨hc3, ho3, hn3⟩ := zLI_mem hc2 M1
    refine j_istore (pc := 953) hX dL_law_953 (by decide) [some (vA (some s)), some (vA (some x)), some (vA (some b)), some (vA (some out)), some (vI i), some (vI (cd_word E)), some (vI rm), none] rfl ?_
    refine j_aload_n (pc := 955) hX dL_law_955 rfl ?_
    refine j_callV (pc := 956) hX (ci := 3) mt_X4_thrown q2456 q2457 q2458 (zIj_isC b w2 M1) ⟨_, rfl, rfl⟩ [] rfl rfl (Nat.le_of_ble_eq_true rfl) (by decide) dL_law_956 (k_X4_thrown (n := N) _ _ rfl) ?_
    refine j_iload (pc := 959) hX dL_law_959 rfl ?_
    refine j_icmp_eq (pc := 961) hX 966 (A := some ()) (B := some ()) (o := ()) dL_law_961 rfl (by split <;> rfl) (fun _ _ => ?_) (fun h_ _ => absurd ht h_)
    refine j_iload (pc := 966) hX dL_law_966 rfl ?_
    refine j_if_ne (pc := 968) hX 983 (A := some ()) (B := some ()) (o := ()) dL_law_968 rfl (by split <;> rfl) (fun _ _ => ?_) (fun h_ _ => absurd h_ hk)
    refine j_goto (pc := 983) hX 2691 dL_law_983 rfl ?_
    refine j_fg [5, 6] [some (vA (some s)), some (vA (some x)), some (vA (some b)), some (vA (some out)), some (vI i), none, none, none] rfl ?_
    exact kk _ _ hc3 (hnx _ (hn3 _ hn2))
  · obtain ⟨xx, hfw, rfl⟩ := hR
    obtain ⟨w3, e3, hc2, hov, hn2⟩ := fwok_word hc1 a1 a2 r
    cases e3.symm.trans hfw
    refine j_istore (pc := 935) hX dL_law_935 (by decide) [some (vA (some s)), some (vA (some x)), some (vA (some b)), some (vA (some out)), some (vI i), some (vI (0 : Int32)), none, none] rfl ?_
    refine j_aload_n (pc := 937) hX dL_law_937 rfl ?_
    refine j_aload_n (pc := 938) hX dL_law_938 rfl ?_
    refine j_iload (pc := 939) hX dL_law_939 rfl ?_
    refine j_iconst (pc := 941) hX (1 : Int32) dL_law_941 rfl ?_
    refine j_iadd (pc := 942) hX dL_law_942 ?_
    refine j_rd (pc := 943) hX hc2.1 hb1 ha1 dL_law_943 ?_
    refine j_aload_n (pc := 944) hX dL_law_944 rfl ?_
    refine j_iload (pc := 945) hX dL_law_945 rfl ?_
    refine j_iconst (pc := 947) hX (2 : Int32) dL_law_947 rfl ?_
    refine j_iadd (pc := 948) hX dL_law_948 ?_
    refine j_rd (pc := 949) hX hc2.1 hb2 ha2 dL_law_949 ?_
    refine zJ_eq hc2.2.2.1 ?_
    refine j_callV (pc := 950) hX (ci := 3) mt_X4_word q2584 q2585 q2586 (zIj_isC b w2 M) ⟨_, rfl, rfl⟩ [vI a1, vI a2] rfl rfl (Nat.le_of_ble_eq_true rfl) (by decide) dL_law_950 (k_X4_word _ _ e2) ?_
    obtain ⟨hc3, ho3, hn3⟩ := zLI_mem hc2 M1
    refine j_istore (pc := 953) hX dL_law_953 (by decide) [some (vA (some s)), some (vA (some x)), some (vA (some b)), some (vA (some out)), some (vI i), some (vI (0 : Int32)), some (vI rm), none] rfl ?_
    refine j_aload_n (pc := 955) hX dL_law_955 rfl ?_
    refine j_callV (pc := 956) hX (ci := 3) mt_X4_thrown q2456 q2457 q2458 (zIj_isC b w2 M1) ⟨_, rfl, rfl⟩ [] rfl rfl (Nat.le_of_ble_eq_true rfl) (by decide) dL_law_956 (k_X4_thrown (n := N) _ _ rfl) ?_
    have hov : aL (zIj b w2 M1) (some out) 0 = some (Int32.toInt64 r) := (ho3 0).trans hov
    refine j_iload (pc := 959) hX dL_law_959 rfl ?_
    refine j_icmp_eq (pc := 961) hX 966 (A := some ()) (B := some ()) (o := ()) dL_law_961 rfl (by split <;> rfl) (fun _ _ => ?_) (fun h_ _ => absurd hag.1 h_)
    refine j_iload (pc := 966) hX dL_law_966 rfl ?_
    refine j_if_ne (pc := 968) hX 983 (A := some ()) (B := some ()) (o := ()) dL_law_968 rfl (by split <;> rfl) (fun h_ _ => absurd rfl h_) (fun _ _ => ?_)
    refine j_aload_n (pc := 971) hX dL_law_971 rfl ?_
    refine j_iconst (pc := 972) hX (0 : Int32) dL_law_972 rfl ?_
    refine j_ld (pc := 973) hX hov dL_law_973 ?_
    refine j_iload (pc := 974) hX dL_law_974 rfl ?_
    refine j_i2l (pc := 976) hX dL_law_976 ?_
    refine j_lcmp (pc := 977) hX dL_law_977 ?_
    refine j_if_eq (pc := 978) hX 983 (A := some ()) (B := some ()) (o := ()) dL_law_978 rfl (by split <;> rfl) (fun _ _ => ?_) (fun h_ _ => absurd (by rw [hag.2]; exact lg_cmp_self _) h_)
    refine j_goto (pc := 983) hX 2691 dL_law_983 rfl ?_
    refine j_fg [5, 6] [some (vA (some s)), some (vA (some x)), some (vA (some b)), some (vA (some out)), some (vI i), none, none, none] rfl ?_
    exact kk _ _ hc3 (hnx _ (hn3 _ hn2))
def Op_element (N s L x b out : Nat) (xs : Nat → Int32) (S : Nat → zWd → zM → Prop) : Prop := ∀ (n : Nat) (w : zWd) (M : zM) (p1 : Int32) (p2 : Int32) , n < 64 → zLI s L x b out xs w M → S n w M →
  ∃ (o : String ⊕ Int32) (w1 : zWd) (rm : Int32) (M1 : zM), f_X1_element N (some x) p1 p2 w = some (o, w1) ∧ f_X4_element N p1 p2 M = some (rm, M1) ∧ zLI s L x b out xs w1 M ∧ (match o with | .inr r => mI M1 67 = 0 ∧ (Int32.toInt64 r) = (Int32.toInt64 rm) | .inl E => E ∈ ["java/lang/IndexOutOfBoundsException", "java/lang/IllegalArgumentException", "java/lang/IllegalStateException"] ∧ mI M1 67 = cd_element E) ∧ ∀ w2, zNx b out w1 w2 → S (n + 1) w2 M1
theorem fwok_element {s L x b out : Nat} {xs : Nat → Int32} {w1 : zWd} {M : zM} (hc : zLI s L x b out xs w1 M) (p1 : Int32) (p2 : Int32) (r : Int32) : ∃ w2, fw_element (some x) p1 p2 (some out) r w1 = some ((0 : Int32), w2) ∧ zLI s L x b out xs w2 M ∧ aL w2 (some out) 0 = some (Int32.toInt64 r) ∧  zNx b out w1 w2 := by
  obtain ⟨w2, e, h1, h2, h3⟩ := zLI_out hc (Int32.toInt64 r)
  refine ⟨w2, ?_, h1, h2, h3⟩
  unfold fw_element
  rw [e]
  rfl
set_option maxHeartbeats 4000000 in
theorem lc_element {X : zX} (hX : zGd X RX0 cL_law 8 ret 24) {s L x b out n N : Nat} {xs : Nat → Int32} {i : Int32} {S : Nat → zWd → zM → Prop} {w : zWd} {M : zM} (hn : n < 64) (hc : zLI s L x b out xs w M) (hS : S n w M) (op : Op_element N s L x b out xs S)
    (hb : ∀ j ∈ [(1 : Int32), 2, 3, 4, 5, 6, 7], ¬ (i + j < 0 ∨ L ≤ (i + j).toNatClampNeg)) (kk : ∀ w' M', zLI s L x b out xs w' M' → S (n + 1) w' M' → zJ X 2691 [some (vA (some s)), some (vA (some x)), some (vA (some b)), some (vA (some out)), some (vI i), none, none, none] [] w') : zJ X 986 [some (vA (some s)), some (vA (some x)), some (vA (some b)), some (vA (some out)), some (vI i), none, none, none] [] w := by
  obtain ⟨a1, ha1⟩ : ∃ v, xs (i + (1 : Int32)).toNatClampNeg = v := ⟨_, rfl⟩
  have hb1 := hb (1 : Int32) (by decide)
  obtain ⟨a2, ha2⟩ : ∃ v, xs (i + (2 : Int32)).toNatClampNeg = v := ⟨_, rfl⟩
  have hb2 := hb (2 : Int32) (by decide)
  obtain ⟨o, w1, rm, M1, e1, e2, hc1, hag, hnx⟩ := op n w M a1 a2 hn hc hS
  refine j_aload_n (pc := 986) hX dL_law_986 rfl ?_
  refine j_aload_n (pc := 987) hX dL_law_987 rfl ?_
  refine j_iload (pc := 988) hX dL_law_988 rfl ?_
  refine j_iconst (pc := 990) hX (1 : Int32) dL_law_990 rfl ?_
  refine j_iadd (pc := 991) hX dL_law_991 ?_
  refine j_rd (pc := 992) hX hc.1 hb1 ha1 dL_law_992 ?_
  refine j_aload_n (pc := 993) hX dL_law_993 rfl ?_
  refine j_iload (pc := 994) hX dL_law_994 rfl ?_
  refine j_iconst (pc := 996) hX (2 : Int32) dL_law_996 rfl ?_
  refine j_iadd (pc := 997) hX dL_law_997 ?_
  refine j_rd (pc := 998) hX hc.1 hb2 ha2 dL_law_998 ?_
  refine j_aload_n (pc := 999) hX dL_law_999 rfl ?_
  refine j_callSR (pc := 1000) hX mw_element q1300 q1301 [vA (some x), vI a1, vI a2, vA (some out)] rfl rfl (Nat.le_of_ble_eq_true rfl) (by decide) dL_law_1000 (kw_element o hc.2.2.2.1 e1 (fun r hr => ⟨_, _, (fwok_element hc1 a1 a2 r).choose_spec.1⟩) (fun E hE => by subst hE; exact hag.1)) (fun v' w2 hR => ?_)
  rcases o with E | r
  · obtain ⟨rfl, hth⟩ := hR
    obtain ⟨hE, ht⟩ := hag
    obtain ⟨hc2, hn2⟩ := zLI_th hc1 hth
    have hk : ¬ cd_element E = 0 := by
      simp only [List.mem_cons, List.not_mem_nil, or_false] at hE
      rcases hE with rfl | rfl | rfl <;> decide +kernel
    refine j_istore (pc := 1003) hX dL_law_1003 (by decide) [some (vA (some s)), some (vA (some x)), some (vA (some b)), some (vA (some out)), some (vI i), some (vI (cd_element E)), none, none] rfl ?_
    refine j_aload_n (pc := 1005) hX dL_law_1005 rfl ?_
    refine j_aload_n (pc := 1006) hX dL_law_1006 rfl ?_
    refine j_iload (pc := 1007) hX dL_law_1007 rfl ?_
    refine j_iconst (pc := 1009) hX (1 : Int32) dL_law_1009 rfl ?_
    refine j_iadd (pc := 1010) hX dL_law_1010 ?_
    refine j_rd (pc := 1011) hX hc2.1 hb1 ha1 dL_law_1011 ?_
    refine j_aload_n (pc := 1012) hX dL_law_1012 rfl ?_
    refine j_iload (pc := 1013) hX dL_law_1013 rfl ?_
    refine j_iconst (pc := 1015) hX (2 : Int32) dL_law_1015 rfl ?_
    refine j_iadd (pc := 1016) hX dL_law_1016 ?_
    refine j_rd (pc := 1017) hX hc2.1 hb2 ha2 dL_law_1017 ?_
    refine zJ_eq hc2.2.2.1 ?_
    refine j_callV (pc := 1018) hX (ci := 3) mt_X4_element q2594 q2595 q2596 (zIj_isC b w2 M) ⟨_, rfl, rfl⟩ [vI a1, vI a2] rfl rfl (Nat.le_of_ble_eq_true rfl) (by decide) dL_law_1018 (k_X4_element _ _ e2) ?_
    obtain ⟨hc3, ho3, hn3⟩ := zLI_mem hc2 M1
    refine j_istore (pc := 1021) hX dL_law_1021 (by decide) [some (vA (some s)), some (vA (some x)), some (vA (some b)), some (vA (some out)), some (vI i), some (vI (cd_element E)), some (vI rm), none] rfl ?_
    refine j_aload_n (pc := 1023) hX dL_law_1023 rfl ?_
    refine j_callV (pc := 1024) hX (ci := 3) mt_X4_thrown q2456 q2457 q2458 (zIj_isC b w2 M1) ⟨_, rfl, rfl⟩ [] rfl rfl (Nat.le_of_ble_eq_true rfl) (by decide) dL_law_1024 (k_X4_thrown (n := N) _ _ rfl) ?_
    refine j_iload (pc := 1027) hX dL_law_1027 rfl ?_
    refine j_icmp_eq (pc := 1029) hX 1034 (A := some ()) (B := some ()) (o := ()) dL_law_1029 rfl (by split <;> rfl) (fun _ _ => ?_) (fun h_ _ => absurd ht h_)
    refine j_iload (pc := 1034) hX dL_law_1034 rfl ?_
    refine j_if_ne (pc := 1036) hX 1051 (A := some ()) (B := some ()) (o := ()) dL_law_1036 rfl (by split <;> rfl) (fun _ _ => ?_) (fun h_ _ => absurd h_ hk)
    refine j_goto (pc := 1051) hX 2691 dL_law_1051 rfl ?_
    refine j_fg [5, 6] [some (vA (some s)), some (vA (some x)), some (vA (some b)), some (vA (some out)), some (vI i), none, none, none] rfl ?_
    exact kk _ _ hc3 (hnx _ (hn3 _ hn2))
  · obtain ⟨xx, hfw, rfl⟩ := hR
    obtain ⟨w3, e3, hc2, hov, hn2⟩ := fwok_element hc1 a1 a2 r
    cases e3.symm.trans hfw
    refine j_istore (pc := 1003) hX dL_law_1003 (by decide) [some (vA (some s)), some (vA (some x)), some (vA (some b)), some (vA (some out)), some (vI i), some (vI (0 : Int32)), none, none] rfl ?_
    refine j_aload_n (pc := 1005) hX dL_law_1005 rfl ?_
    refine j_aload_n (pc := 1006) hX dL_law_1006 rfl ?_
    refine j_iload (pc := 1007) hX dL_law_1007 rfl ?_
    refine j_iconst (pc := 1009) hX (1 : Int32) dL_law_1009 rfl ?_
    refine j_iadd (pc := 1010) hX dL_law_1010 ?_
    refine j_rd (pc := 1011) hX hc2.1 hb1 ha1 dL_law_1011 ?_
    refine j_aload_n (pc := 1012) hX dL_law_1012 rfl ?_
    refine j_iload (pc := 1013) hX dL_law_1013 rfl ?_
    refine j_iconst (pc := 1015) hX (2 : Int32) dL_law_1015 rfl ?_
    refine j_iadd (pc := 1016) hX dL_law_1016 ?_
    refine j_rd (pc := 1017) hX hc2.1 hb2 ha2 dL_law_1017 ?_
    refine zJ_eq hc2.2.2.1 ?_
    refine j_callV (pc := 1018) hX (ci := 3) mt_X4_element q2594 q2595 q2596 (zIj_isC b w2 M) ⟨_, rfl, rfl⟩ [vI a1, vI a2] rfl rfl (Nat.le_of_ble_eq_true rfl) (by decide) dL_law_1018 (k_X4_element _ _ e2) ?_
    obtain ⟨hc3, ho3, hn3⟩ := zLI_mem hc2 M1
    refine j_istore (pc := 1021) hX dL_law_1021 (by decide) [some (vA (some s)), some (vA (some x)), some (vA (some b)), some (vA (some out)), some (vI i), some (vI (0 : Int32)), some (vI rm), none] rfl ?_
    refine j_aload_n (pc := 1023) hX dL_law_1023 rfl ?_
    refine j_callV (pc := 1024) hX (ci := 3) mt_X4_thrown q2456 q2457 q2458 (zIj_isC b w2 M1) ⟨_, rfl, rfl⟩ [] rfl rfl (Nat.le_of_ble_eq_true rfl) (by decide) dL_law_1024 (k_X4_thrown (n := N) _ _ rfl) ?_
    have hov : aL (zIj b w2 M1) (some out) 0 = some (Int32.toInt64 r) := (ho3 0).trans hov
    refine j_iload (pc := 1027) hX dL_law_1027 rfl ?_
    refine j_icmp_eq (pc := 1029) hX 1034 (A := some ()) (B := some ()) (o := ()) dL_law_1029 rfl (by split <;> rfl) (fun _ _ => ?_) (fun h_ _ => absurd hag.1 h_)
    refine j_iload (pc := 1034) hX dL_law_1034 rfl ?_
    refine j_if_ne (pc := 1036) hX 1051 (A := some ()) (B := some ()) (o := ()) dL_law_1036 rfl (by split <;> rfl) (fun h_ _ => absurd rfl h_) (fun _ _ => ?_)
    refine j_aload_n (pc := 1039) hX dL_law_1039 rfl ?_
    refine j_iconst (pc := 1040) hX (0 : Int32) dL_law_1040 rfl ?_
    refine j_ld (pc := 1041) hX hov dL_law_1041 ?_
    refine j_iload (pc := 1042) hX dL_law_1042 rfl ?_
    refine j_i2l (pc := 1044) hX dL_law_1044 ?_
    refine j_lcmp (pc := 1045) hX dL_law_1045 ?_
    refine j_if_eq (pc := 1046) hX 1051 (A := some ()) (B := some ()) (o := ()) dL_law_1046 rfl (by split <;> rfl) (fun _ _ => ?_) (fun h_ _ => absurd (by rw [hag.2]; exact lg_cmp_self _) h_)
    refine j_goto (pc := 1051) hX 2691 dL_law_1051 rfl ?_
    refine j_fg [5, 6] [some (vA (some s)), some (vA (some x)), some (vA (some b)), some (vA (some out)), some (vI i), none, none, none] rfl ?_
    exact kk _ _ hc3 (hnx _ (hn3 _ hn2))
def Op_order (N s L x b out : Nat) (xs : Nat → Int32) (S : Nat → zWd → zM → Prop) : Prop := ∀ (n : Nat) (w : zWd) (M : zM) (p1 : Int32) , n < 64 → zLI s L x b out xs w M → S n w M →
  ∃ (o : String ⊕ Int32) (w1 : zWd) (rm : Int32) (M1 : zM), f_X1_order N (some x) p1 w = some (o, w1) ∧ f_X4_order N p1 M = some (rm, M1) ∧ zLI s L x b out xs w1 M ∧ (match o with | .inr r => mI M1 67 = 0 ∧ (Int32.toInt64 r) = (Int32.toInt64 rm) | .inl E => E ∈ ["java/lang/IndexOutOfBoundsException"] ∧ mI M1 67 = cd_order E) ∧ ∀ w2, zNx b out w1 w2 → S (n + 1) w2 M1
theorem fwok_order {s L x b out : Nat} {xs : Nat → Int32} {w1 : zWd} {M : zM} (hc : zLI s L x b out xs w1 M) (p1 : Int32) (r : Int32) : ∃ w2, fw_order (some x) p1 (some out) r w1 = some ((0 : Int32), w2) ∧ zLI s L x b out xs w2 M ∧ aL w2 (some out) 0 = some (Int32.toInt64 r) ∧  zNx b out w1 w2 := by
  obtain ⟨w2, e, h1, h2, h3⟩ := zLI_out hc (Int32.toInt64 r)
  refine ⟨w2, ?_, h1, h2, h3⟩
  unfold fw_order
  rw [e]
  rfl
set_option maxHeartbeats 4000000 in
theorem lc_order {X : zX} (hX : zGd X RX0 cL_law 8 ret 24) {s L x b out n N : Nat} {xs : Nat → Int32} {i : Int32} {S : Nat → zWd → zM → Prop} {w : zWd} {M : zM} (hn : n < 64) (hc : zLI s L x b out xs w M) (hS : S n w M) (op : Op_order N s L x b out xs S)
    (hb : ∀ j ∈ [(1 : Int32), 2, 3, 4, 5, 6, 7], ¬ (i + j < 0 ∨ L ≤ (i + j).toNatClampNeg)) (kk : ∀ w' M', zLI s L x b out xs w' M' → S (n + 1) w' M' → zJ X 2691 [some (vA (some s)), some (vA (some x)), some (vA (some b)), some (vA (some out)), some (vI i), none, none, none] [] w') : zJ X 1054 [some (vA (some s)), some (vA (some x)), some (vA (some b)), some (vA (some out)), some (vI i), none, none, none] [] w := by
  obtain ⟨a1, ha1⟩ : ∃ v, xs (i + (1 : Int32)).toNatClampNeg = v := ⟨_, rfl⟩
  have hb1 := hb (1 : Int32) (by decide)
  obtain ⟨o, w1, rm, M1, e1, e2, hc1, hag, hnx⟩ := op n w M a1 hn hc hS
  refine j_aload_n (pc := 1054) hX dL_law_1054 rfl ?_
  refine j_aload_n (pc := 1055) hX dL_law_1055 rfl ?_
  refine j_iload (pc := 1056) hX dL_law_1056 rfl ?_
  refine j_iconst (pc := 1058) hX (1 : Int32) dL_law_1058 rfl ?_
  refine j_iadd (pc := 1059) hX dL_law_1059 ?_
  refine j_rd (pc := 1060) hX hc.1 hb1 ha1 dL_law_1060 ?_
  refine j_aload_n (pc := 1061) hX dL_law_1061 rfl ?_
  refine j_callSR (pc := 1062) hX mw_order q1463 q1464 [vA (some x), vI a1, vA (some out)] rfl rfl (Nat.le_of_ble_eq_true rfl) (by decide) dL_law_1062 (kw_order o hc.2.2.2.1 e1 (fun r hr => ⟨_, _, (fwok_order hc1 a1 r).choose_spec.1⟩) (fun E hE => by subst hE; exact hag.1)) (fun v' w2 hR => ?_)
  rcases o with E | r
  · obtain ⟨rfl, hth⟩ := hR
    obtain ⟨hE, ht⟩ := hag
    obtain ⟨hc2, hn2⟩ := zLI_th hc1 hth
    have hk : ¬ cd_order E = 0 := by
      simp only [List.mem_cons, List.not_mem_nil, or_false] at hE
      rcases hE with rfl
      decide +kernel
    refine j_istore (pc := 1065) hX dL_law_1065 (by decide) [some (vA (some s)), some (vA (some x)), some (vA (some b)), some (vA (some out)), some (vI i), some (vI (cd_order E)), none, none] rfl ?_
    refine j_aload_n (pc := 1067) hX dL_law_1067 rfl ?_
    refine j_aload_n (pc := 1068) hX dL_law_1068 rfl ?_
    refine j_iload (pc := 1069) hX dL_law_1069 rfl ?_
    refine j_iconst (pc := 1071) hX (1 : Int32) dL_law_1071 rfl ?_
    refine j_iadd (pc := 1072) hX dL_law_1072 ?_
    refine j_rd (pc := 1073) hX hc2.1 hb1 ha1 dL_law_1073 ?_
    refine zJ_eq hc2.2.2.1 ?_
    refine j_callV (pc := 1074) hX (ci := 3) mt_X4_order q2611 q2612 q2613 (zIj_isC b w2 M) ⟨_, rfl, rfl⟩ [vI a1] rfl rfl (Nat.le_of_ble_eq_true rfl) (by decide) dL_law_1074 (k_X4_order _ _ e2) ?_
    obtain ⟨hc3, ho3, hn3⟩ := zLI_mem hc2 M1
    refine j_istore (pc := 1077) hX dL_law_1077 (by decide) [some (vA (some s)), some (vA (some x)), some (vA (some b)), some (vA (some out)), some (vI i), some (vI (cd_order E)), some (vI rm), none] rfl ?_
    refine j_aload_n (pc := 1079) hX dL_law_1079 rfl ?_
    refine j_callV (pc := 1080) hX (ci := 3) mt_X4_thrown q2456 q2457 q2458 (zIj_isC b w2 M1) ⟨_, rfl, rfl⟩ [] rfl rfl (Nat.le_of_ble_eq_true rfl) (by decide) dL_law_1080 (k_X4_thrown (n := N) _ _ rfl) ?_
    refine j_iload (pc := 1083) hX dL_law_1083 rfl ?_
    refine j_icmp_eq (pc := 1085) hX 1090 (A := some ()) (B := some ()) (o := ()) dL_law_1085 rfl (by split <;> rfl) (fun _ _ => ?_) (fun h_ _ => absurd ht h_)
    refine j_iload (pc := 1090) hX dL_law_1090 rfl ?_
    refine j_if_ne (pc := 1092) hX 1107 (A := some ()) (B := some ()) (o := ()) dL_law_1092 rfl (by split <;> rfl) (fun _ _ => ?_) (fun h_ _ => absurd h_ hk)
    refine j_goto (pc := 1107) hX 2691 dL_law_1107 rfl ?_
    refine j_fg [5, 6] [some (vA (some s)), some (vA (some x)), some (vA (some b)), some (vA (some out)), some (vI i), none, none, none] rfl ?_
    exact kk _ _ hc3 (hnx _ (hn3 _ hn2))
  · obtain ⟨xx, hfw, rfl⟩ := hR
    obtain ⟨w3, e3, hc2, hov, hn2⟩ := fwok_order hc1 a1 r
    cases e3.symm.trans hfw
    refine j_istore (pc := 1065) hX dL_law_1065 (by decide) [some (vA (some s)), some (vA (some x)), some (vA (some b)), some (vA (some out)), some (vI i), some (vI (0 : Int32)), none, none] rfl ?_
    refine j_aload_n (pc := 1067) hX dL_law_1067 rfl ?_
    refine j_aload_n (pc := 1068) hX dL_law_1068 rfl ?_
    refine j_iload (pc := 1069) hX dL_law_1069 rfl ?_
    refine j_iconst (pc := 1071) hX (1 : Int32) dL_law_1071 rfl ?_
    refine j_iadd (pc := 1072) hX dL_law_1072 ?_
    refine j_rd (pc := 1073) hX hc2.1 hb1 ha1 dL_law_1073 ?_
    refine zJ_eq hc2.2.2.1 ?_
    refine j_callV (pc := 1074) hX (ci := 3) mt_X4_order q2611 q2612 q2613 (zIj_isC b w2 M) ⟨_, rfl, rfl⟩ [vI a1] rfl rfl (Nat.le_of_ble_eq_true rfl) (by decide) dL_law_1074 (k_X4_order _ _ e2) ?_
    obtain ⟨hc3, ho3, hn3⟩ := zLI_mem hc2 M1
    refine j_istore (pc := 1077) hX dL_law_1077 (by decide) [some (vA (some s)), some (vA (some x)), some (vA (some b)), some (vA (some out)), some (vI i), some (vI (0 : Int32)), some (vI rm), none] rfl ?_
    refine j_aload_n (pc := 1079) hX dL_law_1079 rfl ?_
    refine j_callV (pc := 1080) hX (ci := 3) mt_X4_thrown q2456 q2457 q2458 (zIj_isC b w2 M1) ⟨_, rfl, rfl⟩ [] rfl rfl (Nat.le_of_ble_eq_true rfl) (by decide) dL_law_1080 (k_X4_thrown (n := N) _ _ rfl) ?_
    have hov : aL (zIj b w2 M1) (some out) 0 = some (Int32.toInt64 r) := (ho3 0).trans hov
    refine j_iload (pc := 1083) hX dL_law_1083 rfl ?_
    refine j_icmp_eq (pc := 1085) hX 1090 (A := some ()) (B := some ()) (o := ()) dL_law_1085 rfl (by split <;> rfl) (fun _ _ => ?_) (fun h_ _ => absurd hag.1 h_)
    refine j_iload (pc := 1090) hX dL_law_1090 rfl ?_
    refine j_if_ne (pc := 1092) hX 1107 (A := some ()) (B := some ()) (o := ()) dL_law_1092 rfl (by split <;> rfl) (fun h_ _ => absurd rfl h_) (fun _ _ => ?_)
    refine j_aload_n (pc := 1095) hX dL_law_1095 rfl ?_
    refine j_iconst (pc := 1096) hX (0 : Int32) dL_law_1096 rfl ?_
    refine j_ld (pc := 1097) hX hov dL_law_1097 ?_
    refine j_iload (pc := 1098) hX dL_law_1098 rfl ?_
    refine j_i2l (pc := 1100) hX dL_law_1100 ?_
    refine j_lcmp (pc := 1101) hX dL_law_1101 ?_
    refine j_if_eq (pc := 1102) hX 1107 (A := some ()) (B := some ()) (o := ()) dL_law_1102 rfl (by split <;> rfl) (fun _ _ => ?_) (fun h_ _ => absurd (by rw [hag.2]; exact lg_cmp_self _) h_)
    refine j_goto (pc := 1107) hX 2691 dL_law_1107 rfl ?_
    refine j_fg [5, 6] [some (vA (some s)), some (vA (some x)), some (vA (some b)), some (vA (some out)), some (vI i), none, none, none] rfl ?_
    exact kk _ _ hc3 (hnx _ (hn3 _ hn2))
def Op_bonus (N s L x b out : Nat) (xs : Nat → Int32) (S : Nat → zWd → zM → Prop) : Prop := ∀ (n : Nat) (w : zWd) (M : zM) (p1 : Int32) (p2 : Int32) (p3 : Int32) (p4 : Int32) , n < 64 → zLI s L x b out xs w M → S n w M →
  ∃ (o : String ⊕ Int32) (w1 : zWd) (rm : Int32) (M1 : zM), f_X1_bonus N (some x) p1 p2 p3 p4 w = some (o, w1) ∧ f_X4_bonus N p1 p2 p3 p4 M = some (rm, M1) ∧ zLI s L x b out xs w1 M ∧ (match o with | .inr r => mI M1 67 = 0 ∧ (Int32.toInt64 r) = (Int32.toInt64 rm) | .inl E => E ∈ ["java/lang/IndexOutOfBoundsException", "java/lang/IllegalArgumentException"] ∧ mI M1 67 = cd_bonus E) ∧ ∀ w2, zNx b out w1 w2 → S (n + 1) w2 M1
theorem fwok_bonus {s L x b out : Nat} {xs : Nat → Int32} {w1 : zWd} {M : zM} (hc : zLI s L x b out xs w1 M) (p1 : Int32) (p2 : Int32) (p3 : Int32) (p4 : Int32) (r : Int32) : ∃ w2, fw_bonus (some x) p1 p2 p3 p4 (some out) r w1 = some ((0 : Int32), w2) ∧ zLI s L x b out xs w2 M ∧ aL w2 (some out) 0 = some (Int32.toInt64 r) ∧  zNx b out w1 w2 := by
  obtain ⟨w2, e, h1, h2, h3⟩ := zLI_out hc (Int32.toInt64 r)
  refine ⟨w2, ?_, h1, h2, h3⟩
  unfold fw_bonus
  rw [e]
  rfl
set_option maxHeartbeats 4000000 in
theorem lc_bonus {X : zX} (hX : zGd X RX0 cL_law 8 ret 24) {s L x b out n N : Nat} {xs : Nat → Int32} {i : Int32} {S : Nat → zWd → zM → Prop} {w : zWd} {M : zM} (hn : n < 64) (hc : zLI s L x b out xs w M) (hS : S n w M) (op : Op_bonus N s L x b out xs S)
    (hb : ∀ j ∈ [(1 : Int32), 2, 3, 4, 5, 6, 7], ¬ (i + j < 0 ∨ L ≤ (i + j).toNatClampNeg)) (kk : ∀ w' M', zLI s L x b out xs w' M' → S (n + 1) w' M' → zJ X 2691 [some (vA (some s)), some (vA (some x)), some (vA (some b)), some (vA (some out)), some (vI i), none, none, none] [] w') : zJ X 1110 [some (vA (some s)), some (vA (some x)), some (vA (some b)), some (vA (some out)), some (vI i), none, none, none] [] w := by
  obtain ⟨a1, ha1⟩ : ∃ v, xs (i + (1 : Int32)).toNatClampNeg = v := ⟨_, rfl⟩
  have hb1 := hb (1 : Int32) (by decide)
  obtain ⟨a2, ha2⟩ : ∃ v, xs (i + (2 : Int32)).toNatClampNeg = v := ⟨_, rfl⟩
  have hb2 := hb (2 : Int32) (by decide)
  obtain ⟨a3, ha3⟩ : ∃ v, xs (i + (3 : Int32)).toNatClampNeg = v := ⟨_, rfl⟩
  have hb3 := hb (3 : Int32) (by decide)
  obtain ⟨a4, ha4⟩ : ∃ v, xs (i + (4 : Int32)).toNatClampNeg = v := ⟨_, rfl⟩
  have hb4 := hb (4 : Int32) (by decide)
  obtain ⟨o, w1, rm, M1, e1, e2, hc1, hag, hnx⟩ := op n w M a1 a2 a3 a4 hn hc hS
  refine j_aload_n (pc := 1110) hX dL_law_1110 rfl ?_
  refine j_aload_n (pc := 1111) hX dL_law_1111 rfl ?_
  refine j_iload (pc := 1112) hX dL_law_1112 rfl ?_
  refine j_iconst (pc := 1114) hX (1 : Int32) dL_law_1114 rfl ?_
  refine j_iadd (pc := 1115) hX dL_law_1115 ?_
  refine j_rd (pc := 1116) hX hc.1 hb1 ha1 dL_law_1116 ?_
  refine j_aload_n (pc := 1117) hX dL_law_1117 rfl ?_
  refine j_iload (pc := 1118) hX dL_law_1118 rfl ?_
  refine j_iconst (pc := 1120) hX (2 : Int32) dL_law_1120 rfl ?_
  refine j_iadd (pc := 1121) hX dL_law_1121 ?_
  refine j_rd (pc := 1122) hX hc.1 hb2 ha2 dL_law_1122 ?_
  refine j_aload_n (pc := 1123) hX dL_law_1123 rfl ?_
  refine j_iload (pc := 1124) hX dL_law_1124 rfl ?_
  refine j_iconst (pc := 1126) hX (3 : Int32) dL_law_1126 rfl ?_
  refine j_iadd (pc := 1127) hX dL_law_1127 ?_
  refine j_rd (pc := 1128) hX hc.1 hb3 ha3 dL_law_1128 ?_
  refine j_aload_n (pc := 1129) hX dL_law_1129 rfl ?_
  refine j_iload (pc := 1130) hX dL_law_1130 rfl ?_
  refine j_iconst (pc := 1132) hX (4 : Int32) dL_law_1132 rfl ?_
  refine j_iadd (pc := 1133) hX dL_law_1133 ?_
  refine j_rd (pc := 1134) hX hc.1 hb4 ha4 dL_law_1134 ?_
  refine j_aload_n (pc := 1135) hX dL_law_1135 rfl ?_
  refine j_callSR (pc := 1136) hX mw_bonus q1470 q1471 [vA (some x), vI a1, vI a2, vI a3, vI a4, vA (some out)] rfl rfl (Nat.le_of_ble_eq_true rfl) (by decide) dL_law_1136 (kw_bonus o hc.2.2.2.1 e1 (fun r hr => ⟨_, _, (fwok_bonus hc1 a1 a2 a3 a4 r).choose_spec.1⟩) (fun E hE => by subst hE; exact hag.1)) (fun v' w2 hR => ?_)
  rcases o with E | r
  · obtain ⟨rfl, hth⟩ := hR
    obtain ⟨hE, ht⟩ := hag
    obtain ⟨hc2, hn2⟩ := zLI_th hc1 hth
    have hk : ¬ cd_bonus E = 0 := by
      simp only [List.mem_cons, List.not_mem_nil, or_false] at hE
      rcases hE with rfl | rfl <;> decide +kernel
    refine j_istore (pc := 1139) hX dL_law_1139 (by decide) [some (vA (some s)), some (vA (some x)), some (vA (some b)), some (vA (some out)), some (vI i), some (vI (cd_bonus E)), none, none] rfl ?_
    refine j_aload_n (pc := 1141) hX dL_law_1141 rfl ?_
    refine j_aload_n (pc := 1142) hX dL_law_1142 rfl ?_
    refine j_iload (pc := 1143) hX dL_law_1143 rfl ?_
    refine j_iconst (pc := 1145) hX (1 : Int32) dL_law_1145 rfl ?_
    refine j_iadd (pc := 1146) hX dL_law_1146 ?_
    refine j_rd (pc := 1147) hX hc2.1 hb1 ha1 dL_law_1147 ?_
    refine j_aload_n (pc := 1148) hX dL_law_1148 rfl ?_
    refine j_iload (pc := 1149) hX dL_law_1149 rfl ?_
    refine j_iconst (pc := 1151) hX (2 : Int32) dL_law_1151 rfl ?_
    refine j_iadd (pc := 1152) hX dL_law_1152 ?_
    refine j_rd (pc := 1153) hX hc2.1 hb2 ha2 dL_law_1153 ?_
    refine j_aload_n (pc := 1154) hX dL_law_1154 rfl ?_
    refine j_iload (pc := 1155) hX dL_law_1155 rfl ?_
    refine j_iconst (pc := 1157) hX (3 : Int32) dL_law_1157 rfl ?_
    refine j_iadd (pc := 1158) hX dL_law_1158 ?_
    refine j_rd (pc := 1159) hX hc2.1 hb3 ha3 dL_law_1159 ?_
    refine j_aload_n (pc := 1160) hX dL_law_1160 rfl ?_
    refine j_iload (pc := 1161) hX dL_law_1161 rfl ?_
    refine j_iconst (pc := 1163) hX (4 : Int32) dL_law_1163 rfl ?_
    refine j_iadd (pc := 1164) hX dL_law_1164 ?_
    refine j_rd (pc := 1165) hX hc2.1 hb4 ha4 dL_law_1165 ?_
    refine zJ_eq hc2.2.2.1 ?_
    refine j_callV (pc := 1166) hX (ci := 3) mt_X4_bonus q2615 q2616 q2617 (zIj_isC b w2 M) ⟨_, rfl, rfl⟩ [vI a1, vI a2, vI a3, vI a4] rfl rfl (Nat.le_of_ble_eq_true rfl) (by decide) dL_law_1166 (k_X4_bonus _ _ e2) ?_
    obtain ⟨hc3, ho3, hn3⟩ := zLI_mem hc2 M1
    refine j_istore (pc := 1169) hX dL_law_1169 (by decide) [some (vA (some s)), some (vA (some x)), some (vA (some b)), some (vA (some out)), some (vI i), some (vI (cd_bonus E)), some (vI rm), none] rfl ?_
    refine j_aload_n (pc := 1171) hX dL_law_1171 rfl ?_
    refine j_callV (pc := 1172) hX (ci := 3) mt_X4_thrown q2456 q2457 q2458 (zIj_isC b w2 M1) ⟨_, rfl, rfl⟩ [] rfl rfl (Nat.le_of_ble_eq_true rfl) (by decide) dL_law_1172 (k_X4_thrown (n := N) _ _ rfl) ?_
    refine j_iload (pc := 1175) hX dL_law_1175 rfl ?_
    refine j_icmp_eq (pc := 1177) hX 1182 (A := some ()) (B := some ()) (o := ()) dL_law_1177 rfl (by split <;> rfl) (fun _ _ => ?_) (fun h_ _ => absurd ht h_)
    refine j_iload (pc := 1182) hX dL_law_1182 rfl ?_
    refine j_if_ne (pc := 1184) hX 1199 (A := some ()) (B := some ()) (o := ()) dL_law_1184 rfl (by split <;> rfl) (fun _ _ => ?_) (fun h_ _ => absurd h_ hk)
    refine j_goto (pc := 1199) hX 2691 dL_law_1199 rfl ?_
    refine j_fg [5, 6] [some (vA (some s)), some (vA (some x)), some (vA (some b)), some (vA (some out)), some (vI i), none, none, none] rfl ?_
    exact kk _ _ hc3 (hnx _ (hn3 _ hn2))
  · obtain ⟨xx, hfw, rfl⟩ := hR
    obtain ⟨w3, e3, hc2, hov, hn2⟩ := fwok_bonus hc1 a1 a2 a3 a4 r
    cases e3.symm.trans hfw
    refine j_istore (pc := 1139) hX dL_law_1139 (by decide) [some (vA (some s)), some (vA (some x)), some (vA (some b)), some (vA (some out)), some (vI i), some (vI (0 : Int32)), none, none] rfl ?_
    refine j_aload_n (pc := 1141) hX dL_law_1141 rfl ?_
    refine j_aload_n (pc := 1142) hX dL_law_1142 rfl ?_
    refine j_iload (pc := 1143) hX dL_law_1143 rfl ?_
    refine j_iconst (pc := 1145) hX (1 : Int32) dL_law_1145 rfl ?_
    refine j_iadd (pc := 1146) hX dL_law_1146 ?_
    refine j_rd (pc := 1147) hX hc2.1 hb1 ha1 dL_law_1147 ?_
    refine j_aload_n (pc := 1148) hX dL_law_1148 rfl ?_
    refine j_iload (pc := 1149) hX dL_law_1149 rfl ?_
    refine j_iconst (pc := 1151) hX (2 : Int32) dL_law_1151 rfl ?_
    refine j_iadd (pc := 1152) hX dL_law_1152 ?_
    refine j_rd (pc := 1153) hX hc2.1 hb2 ha2 dL_law_1153 ?_
    refine j_aload_n (pc := 1154) hX dL_law_1154 rfl ?_
    refine j_iload (pc := 1155) hX dL_law_1155 rfl ?_
    refine j_iconst (pc := 1157) hX (3 : Int32) dL_law_1157 rfl ?_
    refine j_iadd (pc := 1158) hX dL_law_1158 ?_
    refine j_rd (pc := 1159) hX hc2.1 hb3 ha3 dL_law_1159 ?_
    refine j_aload_n (pc := 1160) hX dL_law_1160 rfl ?_
    refine j_iload (pc := 1161) hX dL_law_1161 rfl ?_
    refine j_iconst (pc := 1163) hX (4 : Int32) dL_law_1163 rfl ?_
    refine j_iadd (pc := 1164) hX dL_law_1164 ?_
    refine j_rd (pc := 1165) hX hc2.1 hb4 ha4 dL_law_1165 ?_
    refine zJ_eq hc2.2.2.1 ?_
    refine j_callV (pc := 1166) hX (ci := 3) mt_X4_bonus q2615 q2616 q2617 (zIj_isC b w2 M) ⟨_, rfl, rfl⟩ [vI a1, vI a2, vI a3, vI a4] rfl rfl (Nat.le_of_ble_eq_true rfl) (by decide) dL_law_1166 (k_X4_bonus _ _ e2) ?_
    obtain ⟨hc3, ho3, hn3⟩ := zLI_mem hc2 M1
    refine j_istore (pc := 1169) hX dL_law_1169 (by decide) [some (vA (some s)), some (vA (some x)), some (vA (some b)), some (vA (some out)), some (vI i), some (vI (0 : Int32)), some (vI rm), none] rfl ?_
    refine j_aload_n (pc := 1171) hX dL_law_1171 rfl ?_
    refine j_callV (pc := 1172) hX (ci := 3) mt_X4_thrown q2456 q2457 q2458 (zIj_isC b w2 M1) ⟨_, rfl, rfl⟩ [] rfl rfl (Nat.le_of_ble_eq_true rfl) (by decide) dL_law_1172 (k_X4_thrown (n := N) _ _ rfl) ?_
    have hov : aL (zIj b w2 M1) (some out) 0 = some (Int32.toInt64 r) := (ho3 0).trans hov
    refine j_iload (pc := 1175) hX dL_law_1175 rfl ?_
    refine j_icmp_eq (pc := 1177) hX 1182 (A := some ()) (B := some ()) (o := ()) dL_law_1177 rfl (by split <;> rfl) (fun _ _ => ?_) (fun h_ _ => absurd hag.1 h_)
    refine j_iload (pc := 1182) hX dL_law_1182 rfl ?_
    refine j_if_ne (pc := 1184) hX 1199 (A := some ()) (B := some ()) (o := ()) dL_law_1184 rfl (by split <;> rfl) (fun h_ _ => absurd rfl h_) (fun _ _ => ?_)
    refine j_aload_n (pc := 1187) hX dL_law_1187 rfl ?_
    refine j_iconst (pc := 1188) hX (0 : Int32) dL_law_1188 rfl ?_
    refine j_ld (pc := 1189) hX hov dL_law_1189 ?_
    refine j_iload (pc := 1190) hX dL_law_1190 rfl ?_
    refine j_i2l (pc := 1192) hX dL_law_1192 ?_
    refine j_lcmp (pc := 1193) hX dL_law_1193 ?_
    refine j_if_eq (pc := 1194) hX 1199 (A := some ()) (B := some ()) (o := ()) dL_law_1194 rfl (by split <;> rfl) (fun _ _ => ?_) (fun h_ _ => absurd (by rw [hag.2]; exact lg_cmp_self _) h_)
    refine j_goto (pc := 1199) hX 2691 dL_law_1199 rfl ?_
    refine j_fg [5, 6] [some (vA (some s)), some (vA (some x)), some (vA (some b)), some (vA (some out)), some (vI i), none, none, none] rfl ?_
    exact kk _ _ hc3 (hnx _ (hn3 _ hn2))
def Op_contribution (N s L x b out : Nat) (xs : Nat → Int32) (S : Nat → zWd → zM → Prop) : Prop := ∀ (n : Nat) (w : zWd) (M : zM) (p1 : Int32) (p2 : Int32) (p3 : Int32) (p4 : Int32) , n < 64 → zLI s L x b out xs w M → S n w M →
  ∃ (o : String ⊕ Unit) (w1 : zWd) (M1 : zM), f_X1_contribution N (some x) p1 p2 p3 p4 w = some (o, w1) ∧ f_X4_contribution N p1 p2 p3 p4 M = some M1 ∧ zLI s L x b out xs w1 M ∧ (match o with | .inr _ => mI M1 67 = 0 | .inl E => E ∈ ["java/lang/IndexOutOfBoundsException", "java/lang/IllegalArgumentException"] ∧ mI M1 67 = cd_contribution E) ∧ ∀ w2, zNx b out w1 w2 → S (n + 1) w2 M1
theorem fwok_contribution {s L x b out : Nat} {xs : Nat → Int32} {w1 : zWd} {M : zM} (hc : zLI s L x b out xs w1 M) (p1 : Int32) (p2 : Int32) (p3 : Int32) (p4 : Int32) (r : Unit) : ∃ w2, fw_contribution (some x) p1 p2 p3 p4 r w1 = some ((0 : Int32), w2) ∧ zLI s L x b out xs w2 M ∧ True ∧  zNx b out w1 w2 := by
  exact ⟨w1, rfl, hc, trivial, fun _ _ _ => rfl, Nat.le_refl _, Nat.le_succ _, Nat.le_add_right _ 6, rfl⟩
set_option maxHeartbeats 4000000 in
theorem lc_contribution {X : zX} (hX : zGd X RX0 cL_law 8 ret 24) {s L x b out n N : Nat} {xs : Nat → Int32} {i : Int32} {S : Nat → zWd → zM → Prop} {w : zWd} {M : zM} (hn : n < 64) (hc : zLI s L x b out xs w M) (hS : S n w M) (op : Op_contribution N s L x b out xs S)
    (hb : ∀ j ∈ [(1 : Int32), 2, 3, 4, 5, 6, 7], ¬ (i + j < 0 ∨ L ≤ (i + j).toNatClampNeg)) (kk : ∀ w' M', zLI s L x b out xs w' M' → S (n + 1) w' M' → zJ X 2691 [some (vA (some s)), some (vA (some x)), some (vA (some b)), some (vA (some out)), some (vI i), none, none, none] [] w') : zJ X 1202 [some (vA (some s)), some (vA (some x)), some (vA (some b)), some (vA (some out)), some (vI i), none, none, none] [] w := by
  obtain ⟨a1, ha1⟩ : ∃ v, xs (i + (1 : Int32)).toNatClampNeg = v := ⟨_, rfl⟩
  have hb1 := hb (1 : Int32) (by decide)
  obtain ⟨a2, ha2⟩ : ∃ v, xs (i + (2 : Int32)).toNatClampNeg = v := ⟨_, rfl⟩
  have hb2 := hb (2 : Int32) (by decide)
  obtain ⟨a3, ha3⟩ : ∃ v, xs (i + (3 : Int32)).toNatClampNeg = v := ⟨_, rfl⟩
  have hb3 := hb (3 : Int32) (by decide)
  obtain ⟨a4, ha4⟩ : ∃ v, xs (i + (4 : Int32)).toNatClampNeg = v := ⟨_, rfl⟩
  have hb4 := hb (4 : Int32) (by decide)
  obtain ⟨o, w1,  M1, e1, e2, hc1, hag, hnx⟩ := op n w M a1 a2 a3 a4 hn hc hS
  refine j_aload_n (pc := 1202) hX dL_law_1202 rfl ?_
  refine j_aload_n (pc := 1203) hX dL_law_1203 rfl ?_
  refine j_iload (pc := 1204) hX dL_law_1204 rfl ?_
  refine j_iconst (pc := 1206) hX (1 : Int32) dL_law_1206 rfl ?_
  refine j_iadd (pc := 1207) hX dL_law_1207 ?_
  refine j_rd (pc := 1208) hX hc.1 hb1 ha1 dL_law_1208 ?_
  refine j_aload_n (pc := 1209) hX dL_law_1209 rfl ?_
  refine j_iload (pc := 1210) hX dL_law_1210 rfl ?_
  refine j_iconst (pc := 1212) hX (2 : Int32) dL_law_1212 rfl ?_
  refine j_iadd (pc := 1213) hX dL_law_1213 ?_
  refine j_rd (pc := 1214) hX hc.1 hb2 ha2 dL_law_1214 ?_
  refine j_aload_n (pc := 1215) hX dL_law_1215 rfl ?_
  refine j_iload (pc := 1216) hX dL_law_1216 rfl ?_
  refine j_iconst (pc := 1218) hX (3 : Int32) dL_law_1218 rfl ?_
  refine j_iadd (pc := 1219) hX dL_law_1219 ?_
  refine j_rd (pc := 1220) hX hc.1 hb3 ha3 dL_law_1220 ?_
  refine j_aload_n (pc := 1221) hX dL_law_1221 rfl ?_
  refine j_iload (pc := 1222) hX dL_law_1222 rfl ?_
  refine j_iconst (pc := 1224) hX (4 : Int32) dL_law_1224 rfl ?_
  refine j_iadd (pc := 1225) hX dL_law_1225 ?_
  refine j_rd (pc := 1226) hX hc.1 hb4 ha4 dL_law_1226 ?_
  refine j_callSR (pc := 1227) hX mw_contribution q1479 q1480 [vA (some x), vI a1, vI a2, vI a3, vI a4] rfl rfl (Nat.le_of_ble_eq_true rfl) (by decide) dL_law_1227 (kw_contribution o hc.2.2.2.1 e1 (fun r hr => ⟨_, _, (fwok_contribution hc1 a1 a2 a3 a4 r).choose_spec.1⟩) (fun E hE => by subst hE; exact hag.1)) (fun v' w2 hR => ?_)
  rcases o with E | r
  · obtain ⟨rfl, hth⟩ := hR
    obtain ⟨hE, ht⟩ := hag
    obtain ⟨hc2, hn2⟩ := zLI_th hc1 hth
    have hk : ¬ cd_contribution E = 0 := by
      simp only [List.mem_cons, List.not_mem_nil, or_false] at hE
      rcases hE with rfl | rfl <;> decide +kernel
    refine j_istore (pc := 1230) hX dL_law_1230 (by decide) [some (vA (some s)), some (vA (some x)), some (vA (some b)), some (vA (some out)), some (vI i), some (vI (cd_contribution E)), none, none] rfl ?_
    refine j_aload_n (pc := 1232) hX dL_law_1232 rfl ?_
    refine j_aload_n (pc := 1233) hX dL_law_1233 rfl ?_
    refine j_iload (pc := 1234) hX dL_law_1234 rfl ?_
    refine j_iconst (pc := 1236) hX (1 : Int32) dL_law_1236 rfl ?_
    refine j_iadd (pc := 1237) hX dL_law_1237 ?_
    refine j_rd (pc := 1238) hX hc2.1 hb1 ha1 dL_law_1238 ?_
    refine j_aload_n (pc := 1239) hX dL_law_1239 rfl ?_
    refine j_iload (pc := 1240) hX dL_law_1240 rfl ?_
    refine j_iconst (pc := 1242) hX (2 : Int32) dL_law_1242 rfl ?_
    refine j_iadd (pc := 1243) hX dL_law_1243 ?_
    refine j_rd (pc := 1244) hX hc2.1 hb2 ha2 dL_law_1244 ?_
    refine j_aload_n (pc := 1245) hX dL_law_1245 rfl ?_
    refine j_iload (pc := 1246) hX dL_law_1246 rfl ?_
    refine j_iconst (pc := 1248) hX (3 : Int32) dL_law_1248 rfl ?_
    refine j_iadd (pc := 1249) hX dL_law_1249 ?_
    refine j_rd (pc := 1250) hX hc2.1 hb3 ha3 dL_law_1250 ?_
    refine j_aload_n (pc := 1251) hX dL_law_1251 rfl ?_
    refine j_iload (pc := 1252) hX dL_law_1252 rfl ?_
    refine j_iconst (pc := 1254) hX (4 : Int32) dL_law_1254 rfl ?_
    refine j_iadd (pc := 1255) hX dL_law_1255 ?_
    refine j_rd (pc := 1256) hX hc2.1 hb4 ha4 dL_law_1256 ?_
    refine zJ_eq hc2.2.2.1 ?_
    refine j_callV (pc := 1257) hX (ci := 3) mt_X4_contribution q2621 q2622 q2623 (zIj_isC b w2 M) ⟨_, rfl, rfl⟩ [vI a1, vI a2, vI a3, vI a4] rfl rfl (Nat.le_of_ble_eq_true rfl) (by decide) dL_law_1257 (k_X4_contribution () _ e2) ?_
    obtain ⟨hc3, ho3, hn3⟩ := zLI_mem hc2 M1
    refine j_aload_n (pc := 1260) hX dL_law_1260 rfl ?_
    refine j_callV (pc := 1261) hX (ci := 3) mt_X4_thrown q2456 q2457 q2458 (zIj_isC b w2 M1) ⟨_, rfl, rfl⟩ [] rfl rfl (Nat.le_of_ble_eq_true rfl) (by decide) dL_law_1261 (k_X4_thrown (n := N) _ _ rfl) ?_
    refine j_iload (pc := 1264) hX dL_law_1264 rfl ?_
    refine j_icmp_eq (pc := 1266) hX 1271 (A := some ()) (B := some ()) (o := ()) dL_law_1266 rfl (by split <;> rfl) (fun _ _ => ?_) (fun h_ _ => absurd ht h_)
    refine j_goto (pc := 1271) hX 2691 dL_law_1271 rfl ?_
    refine j_fg [5] [some (vA (some s)), some (vA (some x)), some (vA (some b)), some (vA (some out)), some (vI i), none, none, none] rfl ?_
    exact kk _ _ hc3 (hnx _ (hn3 _ hn2))
  · obtain ⟨xx, hfw, rfl⟩ := hR
    obtain ⟨w3, e3, hc2, hov, hn2⟩ := fwok_contribution hc1 a1 a2 a3 a4 r
    cases e3.symm.trans hfw
    refine j_istore (pc := 1230) hX dL_law_1230 (by decide) [some (vA (some s)), some (vA (some x)), some (vA (some b)), some (vA (some out)), some (vI i), some (vI (0 : Int32)), none, none] rfl ?_
    refine j_aload_n (pc := 1232) hX dL_law_1232 rfl ?_
    refine j_aload_n (pc := 1233) hX dL_law_1233 rfl ?_
    refine j_iload (pc := 1234) hX dL_law_1234 rfl ?_
    refine j_iconst (pc := 1236) hX (1 : Int32) dL_law_1236 rfl ?_
    refine j_iadd (pc := 1237) hX dL_law_1237 ?_
    refine j_rd (pc := 1238) hX hc2.1 hb1 ha1 dL_law_1238 ?_
    refine j_aload_n (pc := 1239) hX dL_law_1239 rfl ?_
    refine j_iload (pc := 1240) hX dL_law_1240 rfl ?_
    refine j_iconst (pc := 1242) hX (2 : Int32) dL_law_1242 rfl ?_
    refine j_iadd (pc := 1243) hX dL_law_1243 ?_
    refine j_rd (pc := 1244) hX hc2.1 hb2 ha2 dL_law_1244 ?_
    refine j_aload_n (pc := 1245) hX dL_law_1245 rfl ?_
    refine j_iload (pc := 1246) hX dL_law_1246 rfl ?_
    refine j_iconst (pc := 1248) hX (3 : Int32) dL_law_1248 rfl ?_
    refine j_iadd (pc := 1249) hX dL_law_1249 ?_
    refine j_rd (pc := 1250) hX hc2.1 hb3 ha3 dL_law_1250 ?_
    refine j_aload_n (pc := 1251) hX dL_law_1251 rfl ?_
    refine j_iload (pc := 1252) hX dL_law_1252 rfl ?_
    refine j_iconst (pc := 1254) hX (4 : Int32) dL_law_1254 rfl ?_
    refine j_iadd (pc := 1255) hX dL_law_1255 ?_
    refine j_rd (pc := 1256) hX hc2.1 hb4 ha4 dL_law_1256 ?_
    refine zJ_eq hc2.2.2.1 ?_
    refine j_callV (pc := 1257) hX (ci := 3) mt_X4_contribution q2621 q2622 q2623 (zIj_isC b w2 M) ⟨_, rfl, rfl⟩ [vI a1, vI a2, vI a3, vI a4] rfl rfl (Nat.le_of_ble_eq_true rfl) (by decide) dL_law_1257 (k_X4_contribution () _ e2) ?_
    obtain ⟨hc3, ho3, hn3⟩ := zLI_mem hc2 M1
    refine j_aload_n (pc := 1260) hX dL_law_1260 rfl ?_
    refine j_callV (pc := 1261) hX (ci := 3) mt_X4_thrown q2456 q2457 q2458 (zIj_isC b w2 M1) ⟨_, rfl, rfl⟩ [] rfl rfl (Nat.le_of_ble_eq_true rfl) (by decide) dL_law_1261 (k_X4_thrown (n := N) _ _ rfl) ?_
    refine j_iload (pc := 1264) hX dL_law_1264 rfl ?_
    refine j_icmp_eq (pc := 1266) hX 1271 (A := some ()) (B := some ()) (o := ()) dL_law_1266 rfl (by split <;> rfl) (fun _ _ => ?_) (fun h_ _ => absurd hag h_)
    refine j_goto (pc := 1271) hX 2691 dL_law_1271 rfl ?_
    refine j_fg [5] [some (vA (some s)), some (vA (some x)), some (vA (some b)), some (vA (some out)), some (vI i), none, none, none] rfl ?_
    exact kk _ _ hc3 (hnx _ (hn3 _ hn2))
def Op_bracket (N s L x b out : Nat) (xs : Nat → Int32) (S : Nat → zWd → zM → Prop) : Prop := ∀ (n : Nat) (w : zWd) (M : zM) (p1 : Int32) (p2 : Int32) (p3 : Int32) (p4 : Int32) (p5 : Int32) , n < 64 → zLI s L x b out xs w M → S n w M →
  ∃ (o : String ⊕ Int32) (w1 : zWd) (rm : Int32) (M1 : zM), f_X1_bracket N (some x) p1 p2 p3 p4 p5 w = some (o, w1) ∧ f_X4_bracket N p1 p2 p3 p4 p5 M = some (rm, M1) ∧ zLI s L x b out xs w1 M ∧ (match o with | .inr r => mI M1 67 = 0 ∧ (Int32.toInt64 r) = (Int32.toInt64 rm) | .inl E => E ∈ ["java/lang/IndexOutOfBoundsException", "java/lang/IllegalArgumentException", "java/lang/IllegalStateException"] ∧ mI M1 67 = cd_bracket E) ∧ ∀ w2, zNx b out w1 w2 → S (n + 1) w2 M1
theorem fwok_bracket {s L x b out : Nat} {xs : Nat → Int32} {w1 : zWd} {M : zM} (hc : zLI s L x b out xs w1 M) (p1 : Int32) (p2 : Int32) (p3 : Int32) (p4 : Int32) (p5 : Int32) (r : Int32) : ∃ w2, fw_bracket (some x) p1 p2 p3 p4 p5 (some out) r w1 = some ((0 : Int32), w2) ∧ zLI s L x b out xs w2 M ∧ aL w2 (some out) 0 = some (Int32.toInt64 r) ∧  zNx b out w1 w2 := by
  obtain ⟨w2, e, h1, h2, h3⟩ := zLI_out hc (Int32.toInt64 r)
  refine ⟨w2, ?_, h1, h2, h3⟩
  unfold fw_bracket
  rw [e]
  rfl
set_option maxHeartbeats 4000000 in
theorem lc_bracket {X : zX} (hX : zGd X RX0 cL_law 8 ret 24) {s L x b out n N : Nat} {xs : Nat → Int32} {i : Int32} {S : Nat → zWd → zM → Prop} {w : zWd} {M : zM} (hn : n < 64) (hc : zLI s L x b out xs w M) (hS : S n w M) (op : Op_bracket N s L x b out xs S)
    (hb : ∀ j ∈ [(1 : Int32), 2, 3, 4, 5, 6, 7], ¬ (i + j < 0 ∨ L ≤ (i + j).toNatClampNeg)) (kk : ∀ w' M', zLI s L x b out xs w' M' → S (n + 1) w' M' → zJ X 2691 [some (vA (some s)), some (vA (some x)), some (vA (some b)), some (vA (some out)), some (vI i), none, none, none] [] w') : zJ X 1274 [some (vA (some s)), some (vA (some x)), some (vA (some b)), some (vA (some out)), some (vI i), none, none, none] [] w := by
  obtain ⟨a1, ha1⟩ : ∃ v, xs (i + (1 : Int32)).toNatClampNeg = v := ⟨_, rfl⟩
  have hb1 := hb (1 : Int32) (by decide)
  obtain ⟨a2, ha2⟩ : ∃ v, xs (i + (2 : Int32)).toNatClampNeg = v := ⟨_, rfl⟩
  have hb2 := hb (2 : Int32) (by decide)
  obtain ⟨a3, ha3⟩ : ∃ v, xs (i + (3 : Int32)).toNatClampNeg = v := ⟨_, rfl⟩
  have hb3 := hb (3 : Int32) (by decide)
  obtain ⟨a4, ha4⟩ : ∃ v, xs (i + (4 : Int32)).toNatClampNeg = v := ⟨_, rfl⟩
  have hb4 := hb (4 : Int32) (by decide)
  obtain ⟨a5, ha5⟩ : ∃ v, xs (i + (5 : Int32)).toNatClampNeg = v := ⟨_, rfl⟩
  have hb5 := hb (5 : Int32) (by decide)
  obtain ⟨o, w1, rm, M1, e1, e2, hc1, hag, hnx⟩ := op n w M a1 a2 a3 a4 a5 hn hc hS
  refine j_aload_n (pc := 1274) hX dL_law_1274 rfl ?_
  refine j_aload_n (pc := 1275) hX dL_law_1275 rfl ?_
  refine j_iload (pc := 1276) hX dL_law_1276 rfl ?_
  refine j_iconst (pc := 1278) hX (1 : Int32) dL_law_1278 rfl ?_
  refine j_iadd (pc := 1279) hX dL_law_1279 ?_
  refine j_rd (pc := 1280) hX hc.1 hb1 ha1 dL_law_1280 ?_
  refine j_aload_n (pc := 1281) hX dL_law_1281 rfl ?_
  refine j_iload (pc := 1282) hX dL_law_1282 rfl ?_
  refine j_iconst (pc := 1284) hX (2 : Int32) dL_law_1284 rfl ?_
  refine j_iadd (pc := 1285) hX dL_law_1285 ?_
  refine j_rd (pc := 1286) hX hc.1 hb2 ha2 dL_law_1286 ?_
  refine j_aload_n (pc := 1287) hX dL_law_1287 rfl ?_
  refine j_iload (pc := 1288) hX dL_law_1288 rfl ?_
  refine j_iconst (pc := 1290) hX (3 : Int32) dL_law_1290 rfl ?_
  refine j_iadd (pc := 1291) hX dL_law_1291 ?_
  refine j_rd (pc := 1292) hX hc.1 hb3 ha3 dL_law_1292 ?_
  refine j_aload_n (pc := 1293) hX dL_law_1293 rfl ?_
  refine j_iload (pc := 1294) hX dL_law_1294 rfl ?_
  refine j_iconst (pc := 1296) hX (4 : Int32) dL_law_1296 rfl ?_
  refine j_iadd (pc := 1297) hX dL_law_1297 ?_
  refine j_rd (pc := 1298) hX hc.1 hb4 ha4 dL_law_1298 ?_
  refine j_aload_n (pc := 1299) hX dL_law_1299 rfl ?_
  refine j_iload (pc := 1300) hX dL_law_1300 rfl ?_
  refine j_iconst (pc := 1302) hX (5 : Int32) dL_law_1302 rfl ?_
  refine j_iadd (pc := 1303) hX dL_law_1303 ?_
  refine j_rd (pc := 1304) hX hc.1 hb5 ha5 dL_law_1304 ?_
  refine j_aload_n (pc := 1305) hX dL_law_1305 rfl ?_
  refine j_callSR (pc := 1306) hX mw_bracket q1493 q1494 [vA (some x), vI a1, vI a2, vI a3, vI a4, vI a5, vA (some out)] rfl rfl (Nat.le_of_ble_eq_true rfl) (by decide) dL_law_1306 (kw_bracket o hc.2.2.2.1 e1 (fun r hr => ⟨_, _, (fwok_bracket hc1 a1 a2 a3 a4 a5 r).choose_spec.1⟩) (fun E hE => by subst hE; exact hag.1)) (fun v' w2 hR => ?_)
  rcases o with E | r
  · obtain ⟨rfl, hth⟩ := hR
    obtain ⟨hE, ht⟩ := hag
    obtain ⟨hc2, hn2⟩ := zLI_th hc1 hth
    have hk : ¬ cd_bracket E = 0 := by
      simp only [List.mem_cons, List.not_mem_nil, or_false] at hE
      rcases hE with rfl | rfl | rfl <;> decide +kernel
    refine j_istore (pc := 1309) hX dL_law_1309 (by decide) [some (vA (some s)), some (vA (some x)), some (vA (some b)), some (vA (some out)), some (vI i), some (vI (cd_bracket E)), none, none] rfl ?_
    refine j_aload_n (pc := 1311) hX dL_law_1311 rfl ?_
    refine j_aload_n (pc := 1312) hX dL_law_1312 rfl ?_
    refine j_iload (pc := 1313) hX dL_law_1313 rfl ?_
    refine j_iconst (pc := 1315) hX (1 : Int32) dL_law_1315 rfl ?_
    refine j_iadd (pc := 1316) hX dL_law_1316 ?_
    refine j_rd (pc := 1317) hX hc2.1 hb1 ha1 dL_law_1317 ?_
    refine j_aload_n (pc := 1318) hX dL_law_1318 rfl ?_
    refine j_iload (pc := 1319) hX dL_law_1319 rfl ?_
    refine j_iconst (pc := 1321) hX (2 : Int32) dL_law_1321 rfl ?_
    refine j_iadd (pc := 1322) hX dL_law_1322 ?_
    refine j_rd (pc := 1323) hX hc2.1 hb2 ha2 dL_law_1323 ?_
    refine j_aload_n (pc := 1324) hX dL_law_1324 rfl ?_
    refine j_iload (pc := 1325) hX dL_law_1325 rfl ?_
    refine j_iconst (pc := 1327) hX (3 : Int32) dL_law_1327 rfl ?_
    refine j_iadd (pc := 1328) hX dL_law_1328 ?_
    refine j_rd (pc := 1329) hX hc2.1 hb3 ha3 dL_law_1329 ?_
    refine j_aload_n (pc := 1330) hX dL_law_1330 rfl ?_
    refine j_iload (pc := 1331) hX dL_law_1331 rfl ?_
    refine j_iconst (pc := 1333) hX (4 : Int32) dL_law_1333 rfl ?_
    refine j_iadd (pc := 1334) hX dL_law_1334 ?_
    refine j_rd (pc := 1335) hX hc2.1 hb4 ha4 dL_law_1335 ?_
    refine j_aload_n (pc := 1336) hX dL_law_1336 rfl ?_
    refine j_iload (pc := 1337) hX dL_law_1337 rfl ?_
    refine j_iconst (pc := 1339) hX (5 : Int32) dL_law_1339 rfl ?_
    refine j_iadd (pc := 1340) hX dL_law_1340 ?_
    refine j_rd (pc := 1341) hX hc2.1 hb5 ha5 dL_law_1341 ?_
    refine zJ_eq hc2.2.2.1 ?_
    refine j_callV (pc := 1342) hX (ci := 3) mt_X4_bracket q2626 q2627 q2628 (zIj_isC b w2 M) ⟨_, rfl, rfl⟩ [vI a1, vI a2, vI a3, vI a4, vI a5] rfl rfl (Nat.le_of_ble_eq_true rfl) (by decide) dL_law_1342 (k_X4_bracket _ _ e2) ?_
    obtain ⟨hc3, ho3, hn3⟩ := zLI_mem hc2 M1
    refine j_istore (pc := 1345) hX dL_law_1345 (by decide) [some (vA (some s)), some (vA (some x)), some (vA (some b)), some (vA (some out)), some (vI i), some (vI (cd_bracket E)), some (vI rm), none] rfl ?_
    refine j_aload_n (pc := 1347) hX dL_law_1347 rfl ?_
    refine j_callV (pc := 1348) hX (ci := 3) mt_X4_thrown q2456 q2457 q2458 (zIj_isC b w2 M1) ⟨_, rfl, rfl⟩ [] rfl rfl (Nat.le_of_ble_eq_true rfl) (by decide) dL_law_1348 (k_X4_thrown (n := N) _ _ rfl) ?_
    refine j_iload (pc := 1351) hX dL_law_1351 rfl ?_
    refine j_icmp_eq (pc := 1353) hX 1358 (A := some ()) (B := some ()) (o := ()) dL_law_1353 rfl (by split <;> rfl) (fun _ _ => ?_) (fun h_ _ => absurd ht h_)
    refine j_iload (pc := 1358) hX dL_law_1358 rfl ?_
    refine j_if_ne (pc := 1360) hX 1375 (A := some ()) (B := some ()) (o := ()) dL_law_1360 rfl (by split <;> rfl) (fun _ _ => ?_) (fun h_ _ => absurd h_ hk)
    refine j_goto (pc := 1375) hX 2691 dL_law_1375 rfl ?_
    refine j_fg [5, 6] [some (vA (some s)), some (vA (some x)), some (vA (some b)), some (vA (some out)), some (vI i), none, none, none] rfl ?_
    exact kk _ _ hc3 (hnx _ (hn3 _ hn2))
  · obtain ⟨xx, hfw, rfl⟩ := hR
    obtain ⟨w3, e3, hc2, hov, hn2⟩ := fwok_bracket hc1 a1 a2 a3 a4 a5 r
    cases e3.symm.trans hfw
    refine j_istore (pc := 1309) hX dL_law_1309 (by decide) [some (vA (some s)), some (vA (some x)), some (vA (some b)), some (vA (some out)), some (vI i), some (vI (0 : Int32)), none, none] rfl ?_
    refine j_aload_n (pc := 1311) hX dL_law_1311 rfl ?_
    refine j_aload_n (pc := 1312) hX dL_law_1312 rfl ?_
    refine j_iload (pc := 1313) hX dL_law_1313 rfl ?_
    refine j_iconst (pc := 1315) hX (1 : Int32) dL_law_1315 rfl ?_
    refine j_iadd (pc := 1316) hX dL_law_1316 ?_
    refine j_rd (pc := 1317) hX hc2.1 hb1 ha1 dL_law_1317 ?_
    refine j_aload_n (pc := 1318) hX dL_law_1318 rfl ?_
    refine j_iload (pc := 1319) hX dL_law_1319 rfl ?_
    refine j_iconst (pc := 1321) hX (2 : Int32) dL_law_1321 rfl ?_
    refine j_iadd (pc := 1322) hX dL_law_1322 ?_
    refine j_rd (pc := 1323) hX hc2.1 hb2 ha2 dL_law_1323 ?_
    refine j_aload_n (pc := 1324) hX dL_law_1324 rfl ?_
    refine j_iload (pc := 1325) hX dL_law_1325 rfl ?_
    refine j_iconst (pc := 1327) hX (3 : Int32) dL_law_1327 rfl ?_
    refine j_iadd (pc := 1328) hX dL_law_1328 ?_
    refine j_rd (pc := 1329) hX hc2.1 hb3 ha3 dL_law_1329 ?_
    refine j_aload_n (pc := 1330) hX dL_law_1330 rfl ?_
    refine j_iload (pc := 1331) hX dL_law_1331 rfl ?_
    refine j_iconst (pc := 1333) hX (4 : Int32) dL_law_1333 rfl ?_
    refine j_iadd (pc := 1334) hX dL_law_1334 ?_
    refine j_rd (pc := 1335) hX hc2.1 hb4 ha4 dL_law_1335 ?_
    refine j_aload_n (pc := 1336) hX dL_law_1336 rfl ?_
    refine j_iload (pc := 1337) hX dL_law_1337 rfl ?_
    refine j_iconst (pc := 1339) hX (5 : Int32) dL_law_1339 rfl ?_
    refine j_iadd (pc := 1340) hX dL_law_1340 ?_
    refine j_rd (pc := 1341) hX hc2.1 hb5 ha5 dL_law_1341 ?_
    refine zJ_eq hc2.2.2.1 ?_
    refine j_callV (pc := 1342) hX (ci := 3) mt_X4_bracket q2626 q2627 q2628 (zIj_isC b w2 M) ⟨_, rfl, rfl⟩ [vI a1, vI a2, vI a3, vI a4, vI a5] rfl rfl (Nat.le_of_ble_eq_true rfl) (by decide) dL_law_1342 (k_X4_bracket _ _ e2) ?_
    obtain ⟨hc3, ho3, hn3⟩ := zLI_mem hc2 M1
    refine j_istore (pc := 1345) hX dL_law_1345 (by decide) [some (vA (some s)), some (vA (some x)), some (vA (some b)), some (vA (some out)), some (vI i), some (vI (0 : Int32)), some (vI rm), none] rfl ?_
    refine j_aload_n (pc := 1347) hX dL_law_1347 rfl ?_
    refine j_callV (pc := 1348) hX (ci := 3) mt_X4_thrown q2456 q2457 q2458 (zIj_isC b w2 M1) ⟨_, rfl, rfl⟩ [] rfl rfl (Nat.le_of_ble_eq_true rfl) (by decide) dL_law_1348 (k_X4_thrown (n := N) _ _ rfl) ?_
    have hov : aL (zIj b w2 M1) (some out) 0 = some (Int32.toInt64 r) := (ho3 0).trans hov
    refine j_iload (pc := 1351) hX dL_law_1351 rfl ?_
    refine j_icmp_eq (pc := 1353) hX 1358 (A := some ()) (B := some ()) (o := ()) dL_law_1353 rfl (by split <;> rfl) (fun _ _ => ?_) (fun h_ _ => absurd hag.1 h_)
    refine j_iload (pc := 1358) hX dL_law_1358 rfl ?_
    refine j_if_ne (pc := 1360) hX 1375 (A := some ()) (B := some ()) (o := ()) dL_law_1360 rfl (by split <;> rfl) (fun h_ _ => absurd rfl h_) (fun _ _ => ?_)
    refine j_aload_n (pc := 1363) hX dL_law_1363 rfl ?_
    refine j_iconst (pc := 1364) hX (0 : Int32) dL_law_1364 rfl ?_
    refine j_ld (pc := 1365) hX hov dL_law_1365 ?_
    refine j_iload (pc := 1366) hX dL_law_1366 rfl ?_
    refine j_i2l (pc := 1368) hX dL_law_1368 ?_
    refine j_lcmp (pc := 1369) hX dL_law_1369 ?_
    refine j_if_eq (pc := 1370) hX 1375 (A := some ()) (B := some ()) (o := ()) dL_law_1370 rfl (by split <;> rfl) (fun _ _ => ?_) (fun h_ _ => absurd (by rw [hag.2]; exact lg_cmp_self _) h_)
    refine j_goto (pc := 1375) hX 2691 dL_law_1375 rfl ?_
    refine j_fg [5, 6] [some (vA (some s)), some (vA (some x)), some (vA (some b)), some (vA (some out)), some (vI i), none, none, none] rfl ?_
    exact kk _ _ hc3 (hnx _ (hn3 _ hn2))
def Op_state (N s L x b out : Nat) (xs : Nat → Int32) (S : Nat → zWd → zM → Prop) : Prop := ∀ (n : Nat) (w : zWd) (M : zM) (p1 : Int32) (p2 : Int32) (p3 : Int32) , n < 64 → zLI s L x b out xs w M → S n w M →
  ∃ (o : String ⊕ Unit) (w1 : zWd) (M1 : zM), f_X1_state N (some x) p1 p2 p3 w = some (o, w1) ∧ f_X4_state N p1 p2 p3 M = some M1 ∧ zLI s L x b out xs w1 M ∧ (match o with | .inr _ => mI M1 67 = 0 | .inl E => E ∈ ["java/lang/IndexOutOfBoundsException", "java/lang/IllegalArgumentException"] ∧ mI M1 67 = cd_state E) ∧ ∀ w2, zNx b out w1 w2 → S (n + 1) w2 M1
theorem fwok_state {s L x b out : Nat} {xs : Nat → Int32} {w1 : zWd} {M : zM} (hc : zLI s L x b out xs w1 M) (p1 : Int32) (p2 : Int32) (p3 : Int32) (r : Unit) : ∃ w2, fw_state (some x) p1 p2 p3 r w1 = some ((0 : Int32), w2) ∧ zLI s L x b out xs w2 M ∧ True ∧  zNx b out w1 w2 := by
  exact ⟨w1, rfl, hc, trivial, fun _ _ _ => rfl, Nat.le_refl _, Nat.le_succ _, Nat.le_add_right _ 6, rfl⟩
set_option maxHeartbeats 4000000 in
theorem lc_state {X : zX} (hX : zGd X RX0 cL_law 8 ret 24) {s L x b out n N : Nat} {xs : Nat → Int32} {i : Int32} {S : Nat → zWd → zM → Prop} {w : zWd} {M : zM} (hn : n < 64) (hc : zLI s L x b out xs w M) (hS : S n w M) (op : Op_state N s L x b out xs S)
    (hb : ∀ j ∈ [(1 : Int32), 2, 3, 4, 5, 6, 7], ¬ (i + j < 0 ∨ L ≤ (i + j).toNatClampNeg)) (kk : ∀ w' M', zLI s L x b out xs w' M' → S (n + 1) w' M' → zJ X 2691 [some (vA (some s)), some (vA (some x)), some (vA (some b)), some (vA (some out)), some (vI i), none, none, none] [] w') : zJ X 1378 [some (vA (some s)), some (vA (some x)), some (vA (some b)), some (vA (some out)), some (vI i), none, none, none] [] w := by
  obtain ⟨a1, ha1⟩ : ∃ v, xs (i + (1 : Int32)).toNatClampNeg = v := ⟨_, rfl⟩
  have hb1 := hb (1 : Int32) (by decide)
  obtain ⟨a2, ha2⟩ : ∃ v, xs (i + (2 : Int32)).toNatClampNeg = v := ⟨_, rfl⟩
  have hb2 := hb (2 : Int32) (by decide)
  obtain ⟨a3, ha3⟩ : ∃ v, xs (i + (3 : Int32)).toNatClampNeg = v := ⟨_, rfl⟩
  have hb3 := hb (3 : Int32) (by decide)
  obtain ⟨o, w1,  M1, e1, e2, hc1, hag, hnx⟩ := op n w M a1 a2 a3 hn hc hS
  refine j_aload_n (pc := 1378) hX dL_law_1378 rfl ?_
  refine j_aload_n (pc := 1379) hX dL_law_1379 rfl ?_
  refine j_iload (pc := 1380) hX dL_law_1380 rfl ?_
  refine j_iconst (pc := 1382) hX (1 : Int32) dL_law_1382 rfl ?_
  refine j_iadd (pc := 1383) hX dL_law_1383 ?_
  refine j_rd (pc := 1384) hX hc.1 hb1 ha1 dL_law_1384 ?_
  refine j_aload_n (pc := 1385) hX dL_law_1385 rfl ?_
  refine j_iload (pc := 1386) hX dL_law_1386 rfl ?_
  refine j_iconst (pc := 1388) hX (2 : Int32) dL_law_1388 rfl ?_
  refine j_iadd (pc := 1389) hX dL_law_1389 ?_
  refine j_rd (pc := 1390) hX hc.1 hb2 ha2 dL_law_1390 ?_
  refine j_aload_n (pc := 1391) hX dL_law_1391 rfl ?_
  refine j_iload (pc := 1392) hX dL_law_1392 rfl ?_
  refine j_iconst (pc := 1394) hX (3 : Int32) dL_law_1394 rfl ?_
  refine j_iadd (pc := 1395) hX dL_law_1395 ?_
  refine j_rd (pc := 1396) hX hc.1 hb3 ha3 dL_law_1396 ?_
  refine j_callSR (pc := 1397) hX mw_state q1524 q1525 [vA (some x), vI a1, vI a2, vI a3] rfl rfl (Nat.le_of_ble_eq_true rfl) (by decide) dL_law_1397 (kw_state o hc.2.2.2.1 e1 (fun r hr => ⟨_, _, (fwok_state hc1 a1 a2 a3 r).choose_spec.1⟩) (fun E hE => by subst hE; exact hag.1)) (fun v' w2 hR => ?_)
  rcases o with E | r
  · obtain ⟨rfl, hth⟩ := hR
    obtain ⟨hE, ht⟩ := hag
    obtain ⟨hc2, hn2⟩ := zLI_th hc1 hth
    have hk : ¬ cd_state E = 0 := by
      simp only [List.mem_cons, List.not_mem_nil, or_false] at hE
      rcases hE with rfl | rfl <;> decide +kernel
    refine j_istore (pc := 1400) hX dL_law_1400 (by decide) [some (vA (some s)), some (vA (some x)), some (vA (some b)), some (vA (some out)), some (vI i), some (vI (cd_state E)), none, none] rfl ?_
    refine j_aload_n (pc := 1402) hX dL_law_1402 rfl ?_
    refine j_aload_n (pc := 1403) hX dL_law_1403 rfl ?_
    refine j_iload (pc := 1404) hX dL_law_1404 rfl ?_
    refine j_iconst (pc := 1406) hX (1 : Int32) dL_law_1406 rfl ?_
    refine j_iadd (pc := 1407) hX dL_law_1407 ?_
    refine j_rd (pc := 1408) hX hc2.1 hb1 ha1 dL_law_1408 ?_
    refine j_aload_n (pc := 1409) hX dL_law_1409 rfl ?_
    refine j_iload (pc := 1410) hX dL_law_1410 rfl ?_
    refine j_iconst (pc := 1412) hX (2 : Int32) dL_law_1412 rfl ?_
    refine j_iadd (pc := 1413) hX dL_law_1413 ?_
    refine j_rd (pc := 1414) hX hc2.1 hb2 ha2 dL_law_1414 ?_
    refine j_aload_n (pc := 1415) hX dL_law_1415 rfl ?_
    refine j_iload (pc := 1416) hX dL_law_1416 rfl ?_
    refine j_iconst (pc := 1418) hX (3 : Int32) dL_law_1418 rfl ?_
    refine j_iadd (pc := 1419) hX dL_law_1419 ?_
    refine j_rd (pc := 1420) hX hc2.1 hb3 ha3 dL_law_1420 ?_
    refine zJ_eq hc2.2.2.1 ?_
    refine j_callV (pc := 1421) hX (ci := 3) mt_X4_state q2632 q2633 q2634 (zIj_isC b w2 M) ⟨_, rfl, rfl⟩ [vI a1, vI a2, vI a3] rfl rfl (Nat.le_of_ble_eq_true rfl) (by decide) dL_law_1421 (k_X4_state () _ e2) ?_
    obtain ⟨hc3, ho3, hn3⟩ := zLI_mem hc2 M1
    refine j_aload_n (pc := 1424) hX dL_law_1424 rfl ?_
    refine j_callV (pc := 1425) hX (ci := 3) mt_X4_thrown q2456 q2457 q2458 (zIj_isC b w2 M1) ⟨_, rfl, rfl⟩ [] rfl rfl (Nat.le_of_ble_eq_true rfl) (by decide) dL_law_1425 (k_X4_thrown (n := N) _ _ rfl) ?_
    refine j_iload (pc := 1428) hX dL_law_1428 rfl ?_
    refine j_icmp_eq (pc := 1430) hX 1435 (A := some ()) (B := some ()) (o := ()) dL_law_1430 rfl (by split <;> rfl) (fun _ _ => ?_) (fun h_ _ => absurd ht h_)
    refine j_goto (pc := 1435) hX 2691 dL_law_1435 rfl ?_
    refine j_fg [5] [some (vA (some s)), some (vA (some x)), some (vA (some b)), some (vA (some out)), some (vI i), none, none, none] rfl ?_
    exact kk _ _ hc3 (hnx _ (hn3 _ hn2))
  · obtain ⟨xx, hfw, rfl⟩ := hR
    obtain ⟨w3, e3, hc2, hov, hn2⟩ := fwok_state hc1 a1 a2 a3 r
    cases e3.symm.trans hfw
    refine j_istore (pc := 1400) hX dL_law_1400 (by decide) [some (vA (some s)), some (vA (some x)), some (vA (some b)), some (vA (some out)), some (vI i), some (vI (0 : Int32)), none, none] rfl ?_
    refine j_aload_n (pc := 1402) hX dL_law_1402 rfl ?_
    refine j_aload_n (pc := 1403) hX dL_law_1403 rfl ?_
    refine j_iload (pc := 1404) hX dL_law_1404 rfl ?_
    refine j_iconst (pc := 1406) hX (1 : Int32) dL_law_1406 rfl ?_
    refine j_iadd (pc := 1407) hX dL_law_1407 ?_
    refine j_rd (pc := 1408) hX hc2.1 hb1 ha1 dL_law_1408 ?_
    refine j_aload_n (pc := 1409) hX dL_law_1409 rfl ?_
    refine j_iload (pc := 1410) hX dL_law_1410 rfl ?_
    refine j_iconst (pc := 1412) hX (2 : Int32) dL_law_1412 rfl ?_
    refine j_iadd (pc := 1413) hX dL_law_1413 ?_
    refine j_rd (pc := 1414) hX hc2.1 hb2 ha2 dL_law_1414 ?_
    refine j_aload_n (pc := 1415) hX dL_law_1415 rfl ?_
    refine j_iload (pc := 1416) hX dL_law_1416 rfl ?_
    refine j_iconst (pc := 1418) hX (3 : Int32) dL_law_1418 rfl ?_
    refine j_iadd (pc := 1419) hX dL_law_1419 ?_
    refine j_rd (pc := 1420) hX hc2.1 hb3 ha3 dL_law_1420 ?_
    refine zJ_eq hc2.2.2.1 ?_
    refine j_callV (pc := 1421) hX (ci := 3) mt_X4_state q2632 q2633 q2634 (zIj_isC b w2 M) ⟨_, rfl, rfl⟩ [vI a1, vI a2, vI a3] rfl rfl (Nat.le_of_ble_eq_true rfl) (by decide) dL_law_1421 (k_X4_state () _ e2) ?_
    obtain ⟨hc3, ho3, hn3⟩ := zLI_mem hc2 M1
    refine j_aload_n (pc := 1424) hX dL_law_1424 rfl ?_
    refine j_callV (pc := 1425) hX (ci := 3) mt_X4_thrown q2456 q2457 q2458 (zIj_isC b w2 M1) ⟨_, rfl, rfl⟩ [] rfl rfl (Nat.le_of_ble_eq_true rfl) (by decide) dL_law_1425 (k_X4_thrown (n := N) _ _ rfl) ?_
    refine j_iload (pc := 1428) hX dL_law_1428 rfl ?_
    refine j_icmp_eq (pc := 1430) hX 1435 (A := some ()) (B := some ()) (o := ()) dL_law_1430 rfl (by split <;> rfl) (fun _ _ => ?_) (fun h_ _ => absurd hag h_)
    refine j_goto (pc := 1435) hX 2691 dL_law_1435 rfl ?_
    refine j_fg [5] [some (vA (some s)), some (vA (some x)), some (vA (some b)), some (vA (some out)), some (vI i), none, none, none] rfl ?_
    exact kk _ _ hc3 (hnx _ (hn3 _ hn2))
def Op_pension (N s L x b out : Nat) (xs : Nat → Int32) (S : Nat → zWd → zM → Prop) : Prop := ∀ (n : Nat) (w : zWd) (M : zM) (p1 : Int32) (p2 : Int32) (p3 : Int32) , n < 64 → zLI s L x b out xs w M → S n w M →
  ∃ (o : String ⊕ Unit) (w1 : zWd) (M1 : zM), f_X1_pension N (some x) p1 p2 p3 w = some (o, w1) ∧ f_X4_pension N p1 p2 p3 M = some M1 ∧ zLI s L x b out xs w1 M ∧ (match o with | .inr _ => mI M1 67 = 0 | .inl E => E ∈ ["java/lang/IndexOutOfBoundsException", "java/lang/IllegalArgumentException"] ∧ mI M1 67 = cd_pension E) ∧ ∀ w2, zNx b out w1 w2 → S (n + 1) w2 M1
theorem fwok_pension {s L x b out : Nat} {xs : Nat → Int32} {w1 : zWd} {M : zM} (hc : zLI s L x b out xs w1 M) (p1 : Int32) (p2 : Int32) (p3 : Int32) (r : Unit) : ∃ w2, fw_pension (some x) p1 p2 p3 r w1 = some ((0 : Int32), w2) ∧ zLI s L x b out xs w2 M ∧ True ∧  zNx b out w1 w2 := by
  exact ⟨w1, rfl, hc, trivial, fun _ _ _ => rfl, Nat.le_refl _, Nat.le_succ _, Nat.le_add_right _ 6, rfl⟩
set_option maxHeartbeats 4000000 in
theorem lc_pension {X : zX} (hX : zGd X RX0 cL_law 8 ret 24) {s L x b out n N : Nat} {xs : Nat → Int32} {i : Int32} {S : Nat → zWd → zM → Prop} {w : zWd} {M : zM} (hn : n < 64) (hc : zLI s L x b out xs w M) (hS : S n w M) (op : Op_pension N s L x b out xs S)
    (hb : ∀ j ∈ [(1 : Int32), 2, 3, 4, 5, 6, 7], ¬ (i + j < 0 ∨ L ≤ (i + j).toNatClampNeg)) (kk : ∀ w' M', zLI s L x b out xs w' M' → S (n + 1) w' M' → zJ X 2691 [some (vA (some s)), some (vA (some x)), some (vA (some b)), some (vA (some out)), some (vI i), none, none, none] [] w') : zJ X 1438 [some (vA (some s)), some (vA (some x)), some (vA (some b)), some (vA (some out)), some (vI i), none, none, none] [] w := by
  obtain ⟨a1, ha1⟩ : ∃ v, xs (i + (1 : Int32)).toNatClampNeg = v := ⟨_, rfl⟩
  have hb1 := hb (1 : Int32) (by decide)
  obtain ⟨a2, ha2⟩ : ∃ v, xs (i + (2 : Int32)).toNatClampNeg = v := ⟨_, rfl⟩
  have hb2 := hb (2 : Int32) (by decide)
  obtain ⟨a3, ha3⟩ : ∃ v, xs (i + (3 : Int32)).toNatClampNeg = v := ⟨_, rfl⟩
  have hb3 := hb (3 : Int32) (by decide)
  obtain ⟨o, w1,  M1, e1, e2, hc1, hag, hnx⟩ := op n w M a1 a2 a3 hn hc hS
  refine j_aload_n (pc := 1438) hX dL_law_1438 rfl ?_
  refine j_aload_n (pc := 1439) hX dL_law_1439 rfl ?_
  refine j_iload (pc := 1440) hX dL_law_1440 rfl ?_
  refine j_iconst (pc := 1442) hX (1 : Int32) dL_law_1442 rfl ?_
  refine j_iadd (pc := 1443) hX dL_law_1443 ?_
  refine j_rd (pc := 1444) hX hc.1 hb1 ha1 dL_law_1444 ?_
  refine j_aload_n (pc := 1445) hX dL_law_1445 rfl ?_
  refine j_iload (pc := 1446) hX dL_law_1446 rfl ?_
  refine j_iconst (pc := 1448) hX (2 : Int32) dL_law_1448 rfl ?_
  refine j_iadd (pc := 1449) hX dL_law_1449 ?_
  refine j_rd (pc := 1450) hX hc.1 hb2 ha2 dL_law_1450 ?_
  refine j_aload_n (pc := 1451) hX dL_law_1451 rfl ?_
  refine j_iload (pc := 1452) hX dL_law_1452 rfl ?_
  refine j_iconst (pc := 1454) hX (3 : Int32) dL_law_1454 rfl ?_
  refine j_iadd (pc := 1455) hX dL_law_1455 ?_
  refine j_rd (pc := 1456) hX hc.1 hb3 ha3 dL_law_1456 ?_
  refine j_callSR (pc := 1457) hX mw_pension q1531 q1532 [vA (some x), vI a1, vI a2, vI a3] rfl rfl (Nat.le_of_ble_eq_true rfl) (by decide) dL_law_1457 (kw_pension o hc.2.2.2.1 e1 (fun r hr => ⟨_, _, (fwok_pension hc1 a1 a2 a3 r).choose_spec.1⟩) (fun E hE => by subst hE; exact hag.1)) (fun v' w2 hR => ?_)
  rcases o with E | r
  · obtain ⟨rfl, hth⟩ := hR
    obtain ⟨hE, ht⟩ := hag
    obtain ⟨hc2, hn2⟩ := zLI_th hc1 hth
    have hk : ¬ cd_pension E = 0 := by
      simp only [List.mem_cons, List.not_mem_nil, or_false] at hE
      rcases hE with rfl | rfl <;> decide +kernel
    refine j_istore (pc := 1460) hX dL_law_1460 (by decide) [some (vA (some s)), some (vA (some x)), some (vA (some b)), some (vA (some out)), some (vI i), some (vI (cd_pension E)), none, none] rfl ?_
    refine j_aload_n (pc := 1462) hX dL_law_1462 rfl ?_
    refine j_aload_n (pc := 1463) hX dL_law_1463 rfl ?_
    refine j_iload (pc := 1464) hX dL_law_1464 rfl ?_
    refine j_iconst (pc := 1466) hX (1 : Int32) dL_law_1466 rfl ?_
    refine j_iadd (pc := 1467) hX dL_law_1467 ?_
    refine j_rd (pc := 1468) hX hc2.1 hb1 ha1 dL_law_1468 ?_
    refine j_aload_n (pc := 1469) hX dL_law_1469 rfl ?_
    refine j_iload (pc := 1470) hX dL_law_1470 rfl ?_
    refine j_iconst (pc := 1472) hX (2 : Int32) dL_law_1472 rfl ?_
    refine j_iadd (pc := 1473) hX dL_law_1473 ?_
    refine j_rd (pc := 1474) hX hc2.1 hb2 ha2 dL_law_1474 ?_
    refine j_aload_n (pc := 1475) hX dL_law_1475 rfl ?_
    refine j_iload (pc := 1476) hX dL_law_1476 rfl ?_
    refine j_iconst (pc := 1478) hX (3 : Int32) dL_law_1478 rfl ?_
    refine j_iadd (pc := 1479) hX dL_law_1479 ?_
    refine j_rd (pc := 1480) hX hc2.1 hb3 ha3 dL_law_1480 ?_
    refine zJ_eq hc2.2.2.1 ?_
    refine j_callV (pc := 1481) hX (ci := 3) mt_X4_pension q2636 q2637 q2638 (zIj_isC b w2 M) ⟨_, rfl, rfl⟩ [vI a1, vI a2, vI a3] rfl rfl (Nat.le_of_ble_eq_true rfl) (by decide) dL_law_1481 (k_X4_pension () _ e2) ?_
    obtain ⟨hc3, ho3, hn3⟩ := zLI_mem hc2 M1
    refine j_aload_n (pc := 1484) hX dL_law_1484 rfl ?_
    refine j_callV (pc := 1485) hX (ci := 3) mt_X4_thrown q2456 q2457 q2458 (zIj_isC b w2 M1) ⟨_, rfl, rfl⟩ [] rfl rfl (Nat.le_of_ble_eq_true rfl) (by decide) dL_law_1485 (k_X4_thrown (n := N) _ _ rfl) ?_
    refine j_iload (pc := 1488) hX dL_law_1488 rfl ?_
    refine j_icmp_eq (pc := 1490) hX 1495 (A := some ()) (B := some ()) (o := ()) dL_law_1490 rfl (by split <;> rfl) (fun _ _ => ?_) (fun h_ _ => absurd ht h_)
    refine j_goto (pc := 1495) hX 2691 dL_law_1495 rfl ?_
    refine j_fg [5] [some (vA (some s)), some (vA (some x)), some (vA (some b)), some (vA (some out)), some (vI i), none, none, none] rfl ?_
    exact kk _ _ hc3 (hnx _ (hn3 _ hn2))
  · obtain ⟨xx, hfw, rfl⟩ := hR
    obtain ⟨w3, e3, hc2, hov, hn2⟩ := fwok_pension hc1 a1 a2 a3 r
    cases e3.symm.trans hfw
    refine j_istore (pc := 1460) hX dL_law_1460 (by decide) [some (vA (some s)), some (vA (some x)), some (vA (some b)), some (vA (some out)), some (vI i), some (vI (0 : Int32)), none, none] rfl ?_
    refine j_aload_n (pc := 1462) hX dL_law_1462 rfl ?_
    refine j_aload_n (pc := 1463) hX dL_law_1463 rfl ?_
    refine j_iload (pc := 1464) hX dL_law_1464 rfl ?_
    refine j_iconst (pc := 1466) hX (1 : Int32) dL_law_1466 rfl ?_
    refine j_iadd (pc := 1467) hX dL_law_1467 ?_
    refine j_rd (pc := 1468) hX hc2.1 hb1 ha1 dL_law_1468 ?_
    refine j_aload_n (pc := 1469) hX dL_law_1469 rfl ?_
    refine j_iload (pc := 1470) hX dL_law_1470 rfl ?_
    refine j_iconst (pc := 1472) hX (2 : Int32) dL_law_1472 rfl ?_
    refine j_iadd (pc := 1473) hX dL_law_1473 ?_
    refine j_rd (pc := 1474) hX hc2.1 hb2 ha2 dL_law_1474 ?_
    refine j_aload_n (pc := 1475) hX dL_law_1475 rfl ?_
    refine j_iload (pc := 1476) hX dL_law_1476 rfl ?_
    refine j_iconst (pc := 1478) hX (3 : Int32) dL_law_1478 rfl ?_
    refine j_iadd (pc := 1479) hX dL_law_1479 ?_
    refine j_rd (pc := 1480) hX hc2.1 hb3 ha3 dL_law_1480 ?_
    refine zJ_eq hc2.2.2.1 ?_
    refine j_callV (pc := 1481) hX (ci := 3) mt_X4_pension q2636 q2637 q2638 (zIj_isC b w2 M) ⟨_, rfl, rfl⟩ [vI a1, vI a2, vI a3] rfl rfl (Nat.le_of_ble_eq_true rfl) (by decide) dL_law_1481 (k_X4_pension () _ e2) ?_
    obtain ⟨hc3, ho3, hn3⟩ := zLI_mem hc2 M1
    refine j_aload_n (pc := 1484) hX dL_law_1484 rfl ?_
    refine j_callV (pc := 1485) hX (ci := 3) mt_X4_thrown q2456 q2457 q2458 (zIj_isC b w2 M1) ⟨_, rfl, rfl⟩ [] rfl rfl (Nat.le_of_ble_eq_true rfl) (by decide) dL_law_1485 (k_X4_thrown (n := N) _ _ rfl) ?_
    refine j_iload (pc := 1488) hX dL_law_1488 rfl ?_
    refine j_icmp_eq (pc := 1490) hX 1495 (A := some ()) (B := some ()) (o := ()) dL_law_1490 rfl (by split <;> rfl) (fun _ _ => ?_) (fun h_ _ => absurd hag h_)
    refine j_goto (pc := 1495) hX 2691 dL_law_1495 rfl ?_
    refine j_fg [5] [some (vA (some s)), some (vA (some x)), some (vA (some b)), some (vA (some out)), some (vI i), none, none, none] rfl ?_
    exact kk _ _ hc3 (hnx _ (hn3 _ hn2))
def Op_yearTax (N s L x b out : Nat) (xs : Nat → Int32) (S : Nat → zWd → zM → Prop) : Prop := ∀ (n : Nat) (w : zWd) (M : zM) (p1 : Int32) (p2 : Int32) (p3 : Int32) (p4 : Int64) , n < 64 → zLI s L x b out xs w M → S n w M →
  ∃ (o : String ⊕ Int64) (w1 : zWd) (rm : Int64) (M1 : zM), f_X1_yearTax N (some x) p1 p2 p3 p4 w = some (o, w1) ∧ f_X4_yearTax N p1 p2 p3 p4 M = some (rm, M1) ∧ zLI s L x b out xs w1 M ∧ (match o with | .inr r => mI M1 67 = 0 ∧ r = rm | .inl E => E ∈ ["java/lang/IndexOutOfBoundsException", "java/lang/IllegalArgumentException"] ∧ mI M1 67 = cd_yearTax E) ∧ ∀ w2, zNx b out w1 w2 → S (n + 1) w2 M1
theorem fwok_yearTax {s L x b out : Nat} {xs : Nat → Int32} {w1 : zWd} {M : zM} (hc : zLI s L x b out xs w1 M) (p1 : Int32) (p2 : Int32) (p3 : Int32) (p4 : Int64) (r : Int64) : ∃ w2, fw_yearTax (some x) p1 p2 p3 p4 (some out) r w1 = some ((0 : Int32), w2) ∧ zLI s L x b out xs w2 M ∧ aL w2 (some out) 0 = some r ∧  zNx b out w1 w2 := by
  obtain ⟨w2, e, h1, h2, h3⟩ := zLI_out hc r
  refine ⟨w2, ?_, h1, h2, h3⟩
  unfold fw_yearTax
  rw [e]
  rfl
set_option maxHeartbeats 4000000 in
theorem lc_yearTax {X : zX} (hX : zGd X RX0 cL_law 8 ret 24) {s L x b out n N : Nat} {xs : Nat → Int32} {i : Int32} {S : Nat → zWd → zM → Prop} {w : zWd} {M : zM} (hn : n < 64) (hc : zLI s L x b out xs w M) (hS : S n w M) (op : Op_yearTax N s L x b out xs S)
    (hb : ∀ j ∈ [(1 : Int32), 2, 3, 4, 5, 6, 7], ¬ (i + j < 0 ∨ L ≤ (i + j).toNatClampNeg)) (kk : ∀ w' M', zLI s L x b out xs w' M' → S (n + 1) w' M' → zJ X 2691 [some (vA (some s)), some (vA (some x)), some (vA (some b)), some (vA (some out)), some (vI i), none, none, none] [] w') : zJ X 1498 [some (vA (some s)), some (vA (some x)), some (vA (some b)), some (vA (some out)), some (vI i), none, none, none] [] w := by
  obtain ⟨a1, ha1⟩ : ∃ v, xs (i + (1 : Int32)).toNatClampNeg = v := ⟨_, rfl⟩
  have hb1 := hb (1 : Int32) (by decide)
  obtain ⟨a2, ha2⟩ : ∃ v, xs (i + (2 : Int32)).toNatClampNeg = v := ⟨_, rfl⟩
  have hb2 := hb (2 : Int32) (by decide)
  obtain ⟨a3, ha3⟩ : ∃ v, xs (i + (3 : Int32)).toNatClampNeg = v := ⟨_, rfl⟩
  have hb3 := hb (3 : Int32) (by decide)
  obtain ⟨a4, ha4⟩ : ∃ v, xs (i + (4 : Int32)).toNatClampNeg = v := ⟨_, rfl⟩
  have hb4 := hb (4 : Int32) (by decide)
  obtain ⟨a5, ha5⟩ : ∃ v, xs (i + (5 : Int32)).toNatClampNeg = v := ⟨_, rfl⟩
  have hb5 := hb (5 : Int32) (by decide)
  obtain ⟨o, w1, rm, M1, e1, e2, hc1, hag, hnx⟩ := op n w M a1 a2 a3 (((Int32.toInt64 a4) <<< ((32 : Int32).toInt64 &&& 63)) ||| ((Int32.toInt64 a5) &&& (4294967295 : Int64))) hn hc hS
  refine j_aload_n (pc := 1498) hX dL_law_1498 rfl ?_
  refine j_aload_n (pc := 1499) hX dL_law_1499 rfl ?_
  refine j_iload (pc := 1500) hX dL_law_1500 rfl ?_
  refine j_iconst (pc := 1502) hX (1 : Int32) dL_law_1502 rfl ?_
  refine j_iadd (pc := 1503) hX dL_law_1503 ?_
  refine j_rd (pc := 1504) hX hc.1 hb1 ha1 dL_law_1504 ?_
  refine j_aload_n (pc := 1505) hX dL_law_1505 rfl ?_
  refine j_iload (pc := 1506) hX dL_law_1506 rfl ?_
  refine j_iconst (pc := 1508) hX (2 : Int32) dL_law_1508 rfl ?_
  refine j_iadd (pc := 1509) hX dL_law_1509 ?_
  refine j_rd (pc := 1510) hX hc.1 hb2 ha2 dL_law_1510 ?_
  refine j_aload_n (pc := 1511) hX dL_law_1511 rfl ?_
  refine j_iload (pc := 1512) hX dL_law_1512 rfl ?_
  refine j_iconst (pc := 1514) hX (3 : Int32) dL_law_1514 rfl ?_
  refine j_iadd (pc := 1515) hX dL_law_1515 ?_
  refine j_rd (pc := 1516) hX hc.1 hb3 ha3 dL_law_1516 ?_
  refine j_aload_n (pc := 1517) hX dL_law_1517 rfl ?_
  refine j_iload (pc := 1518) hX dL_law_1518 rfl ?_
  refine j_iconst (pc := 1520) hX (4 : Int32) dL_law_1520 rfl ?_
  refine j_iadd (pc := 1521) hX dL_law_1521 ?_
  refine j_rd (pc := 1522) hX hc.1 hb4 ha4 dL_law_1522 ?_
  refine j_i2l (pc := 1523) hX dL_law_1523 ?_
  refine j_bipush (pc := 1524) hX (32 : Int32) dL_law_1524 (by decide +kernel) ?_
  refine j_lshl (pc := 1526) hX dL_law_1526 ?_
  refine j_aload_n (pc := 1527) hX dL_law_1527 rfl ?_
  refine j_iload (pc := 1528) hX dL_law_1528 rfl ?_
  refine j_iconst (pc := 1530) hX (5 : Int32) dL_law_1530 rfl ?_
  refine j_iadd (pc := 1531) hX dL_law_1531 ?_
  refine j_rd (pc := 1532) hX hc.1 hb5 ha5 dL_law_1532 ?_
  refine j_i2l (pc := 1533) hX dL_law_1533 ?_
  refine j_ldc2 (pc := 1534) hX q2774 dL_law_1534 ?_
  refine j_land (pc := 1537) hX dL_law_1537 ?_
  refine j_lor (pc := 1538) hX dL_law_1538 ?_
  refine j_aload_n (pc := 1539) hX dL_law_1539 rfl ?_
  refine j_callSR (pc := 1540) hX mw_yearTax q1538 q1539 [vA (some x), vI a1, vI a2, vI a3, vL (((Int32.toInt64 a4) <<< ((32 : Int32).toInt64 &&& 63)) ||| ((Int32.toInt64 a5) &&& (4294967295 : Int64))), vA (some out)] rfl rfl (Nat.le_of_ble_eq_true rfl) (by decide) dL_law_1540 (kw_yearTax o hc.2.2.2.1 e1 (fun r hr => ⟨_, _, (fwok_yearTax hc1 a1 a2 a3 (((Int32.toInt64 a4) <<< ((32 : Int32).toInt64 &&& 63)) ||| ((Int32.toInt64 a5) &&& (4294967295 : Int64))) r).choose_spec.1⟩) (fun E hE => by subst hE; exact hag.1)) (fun v' w2 hR => ?_)
  rcases o with E | r
  · obtain ⟨rfl, hth⟩ := hR
    obtain ⟨hE, ht⟩ := hag
    obtain ⟨hc2, hn2⟩ := zLI_th hc1 hth
    have hk : ¬ cd_yearTax E = 0 := by
      simp only [List.mem_cons, List.not_mem_nil, or_false] at hE
      rcases hE with rfl | rfl <;> decide +kernel
    refine j_istore (pc := 1543) hX dL_law_1543 (by decide) [some (vA (some s)), some (vA (some x)), some (vA (some b)), some (vA (some out)), some (vI i), some (vI (cd_yearTax E)), none, none] rfl ?_
    refine j_aload_n (pc := 1545) hX dL_law_1545 rfl ?_
    refine j_aload_n (pc := 1546) hX dL_law_1546 rfl ?_
    refine j_iload (pc := 1547) hX dL_law_1547 rfl ?_
    refine j_iconst (pc := 1549) hX (1 : Int32) dL_law_1549 rfl ?_
    refine j_iadd (pc := 1550) hX dL_law_1550 ?_
    refine j_rd (pc := 1551) hX hc2.1 hb1 ha1 dL_law_1551 ?_
    refine j_aload_n (pc := 1552) hX dL_law_1552 rfl ?_
    refine j_iload (pc := 1553) hX dL_law_1553 rfl ?_
    refine j_iconst (pc := 1555) hX (2 : Int32) dL_law_1555 rfl ?_
    refine j_iadd (pc := 1556) hX dL_law_1556 ?_
    refine j_rd (pc := 1557) hX hc2.1 hb2 ha2 dL_law_1557 ?_
    refine j_aload_n (pc := 1558) hX dL_law_1558 rfl ?_
    refine j_iload (pc := 1559) hX dL_law_1559 rfl ?_
    refine j_iconst (pc := 1561) hX (3 : Int32) dL_law_1561 rfl ?_
    refine j_iadd (pc := 1562) hX dL_law_1562 ?_
    refine j_rd (pc := 1563) hX hc2.1 hb3 ha3 dL_law_1563 ?_
    refine j_aload_n (pc := 1564) hX dL_law_1564 rfl ?_
    refine j_iload (pc := 1565) hX dL_law_1565 rfl ?_
    refine j_iconst (pc := 1567) hX (4 : Int32) dL_law_1567 rfl ?_
    refine j_iadd (pc := 1568) hX dL_law_1568 ?_
    refine j_rd (pc := 1569) hX hc2.1 hb4 ha4 dL_law_1569 ?_
    refine j_i2l (pc := 1570) hX dL_law_1570 ?_
    refine j_bipush (pc := 1571) hX (32 : Int32) dL_law_1571 (by decide +kernel) ?_
    refine j_lshl (pc := 1573) hX dL_law_1573 ?_
    refine j_aload_n (pc := 1574) hX dL_law_1574 rfl ?_
    refine j_iload (pc := 1575) hX dL_law_1575 rfl ?_
    refine j_iconst (pc := 1577) hX (5 : Int32) dL_law_1577 rfl ?_
    refine j_iadd (pc := 1578) hX dL_law_1578 ?_
    refine j_rd (pc := 1579) hX hc2.1 hb5 ha5 dL_law_1579 ?_
    refine j_i2l (pc := 1580) hX dL_law_1580 ?_
    refine j_ldc2 (pc := 1581) hX q2774 dL_law_1581 ?_
    refine j_land (pc := 1584) hX dL_law_1584 ?_
    refine j_lor (pc := 1585) hX dL_law_1585 ?_
    refine zJ_eq hc2.2.2.1 ?_
    refine j_callV (pc := 1586) hX (ci := 3) mt_X4_yearTax q2641 q2642 q2643 (zIj_isC b w2 M) ⟨_, rfl, rfl⟩ [vI a1, vI a2, vI a3, vL (((Int32.toInt64 a4) <<< ((32 : Int32).toInt64 &&& 63)) ||| ((Int32.toInt64 a5) &&& (4294967295 : Int64)))] rfl rfl (Nat.le_of_ble_eq_true rfl) (by decide) dL_law_1586 (k_X4_yearTax _ _ e2) ?_
    obtain ⟨hc3, ho3, hn3⟩ := zLI_mem hc2 M1
    refine j_lstore (pc := 1589) hX dL_law_1589 (by decide) [some (vA (some s)), some (vA (some x)), some (vA (some b)), some (vA (some out)), some (vI i), some (vI (cd_yearTax E)), some (vL rm), none] rfl ?_
    refine j_aload_n (pc := 1591) hX dL_law_1591 rfl ?_
    refine j_callV (pc := 1592) hX (ci := 3) mt_X4_thrown q2456 q2457 q2458 (zIj_isC b w2 M1) ⟨_, rfl, rfl⟩ [] rfl rfl (Nat.le_of_ble_eq_true rfl) (by decide) dL_law_1592 (k_X4_thrown (n := N) _ _ rfl) ?_
    refine j_iload (pc := 1595) hX dL_law_1595 rfl ?_
    refine j_icmp_eq (pc := 1597) hX 1602 (A := some ()) (B := some ()) (o := ()) dL_law_1597 rfl (by split <;> rfl) (fun _ _ => ?_) (fun h_ _ => absurd ht h_)
    refine j_iload (pc := 1602) hX dL_law_1602 rfl ?_
    refine j_if_ne (pc := 1604) hX 1618 (A := some ()) (B := some ()) (o := ()) dL_law_1604 rfl (by split <;> rfl) (fun _ _ => ?_) (fun h_ _ => absurd h_ hk)
    refine j_goto (pc := 1618) hX 2691 dL_law_1618 rfl ?_
    refine j_fg [5, 6] [some (vA (some s)), some (vA (some x)), some (vA (some b)), some (vA (some out)), some (vI i), none, none, none] rfl ?_
    exact kk _ _ hc3 (hnx _ (hn3 _ hn2))
  · obtain ⟨xx, hfw, rfl⟩ := hR
    obtain ⟨w3, e3, hc2, hov, hn2⟩ := fwok_yearTax hc1 a1 a2 a3 (((Int32.toInt64 a4) <<< ((32 : Int32).toInt64 &&& 63)) ||| ((Int32.toInt64 a5) &&& (4294967295 : Int64))) r
    cases e3.symm.trans hfw
    refine j_istore (pc := 1543) hX dL_law_1543 (by decide) [some (vA (some s)), some (vA (some x)), some (vA (some b)), some (vA (some out)), some (vI i), some (vI (0 : Int32)), none, none] rfl ?_
    refine j_aload_n (pc := 1545) hX dL_law_1545 rfl ?_
    refine j_aload_n (pc := 1546) hX dL_law_1546 rfl ?_
    refine j_iload (pc := 1547) hX dL_law_1547 rfl ?_
    refine j_iconst (pc := 1549) hX (1 : Int32) dL_law_1549 rfl ?_
    refine j_iadd (pc := 1550) hX dL_law_1550 ?_
    refine j_rd (pc := 1551) hX hc2.1 hb1 ha1 dL_law_1551 ?_
    refine j_aload_n (pc := 1552) hX dL_law_1552 rfl ?_
    refine j_iload (pc := 1553) hX dL_law_1553 rfl ?_
    refine j_iconst (pc := 1555) hX (2 : Int32) dL_law_1555 rfl ?_
    refine j_iadd (pc := 1556) hX dL_law_1556 ?_
    refine j_rd (pc := 1557) hX hc2.1 hb2 ha2 dL_law_1557 ?_
    refine j_aload_n (pc := 1558) hX dL_law_1558 rfl ?_
    refine j_iload (pc := 1559) hX dL_law_1559 rfl ?_
    refine j_iconst (pc := 1561) hX (3 : Int32) dL_law_1561 rfl ?_
    refine j_iadd (pc := 1562) hX dL_law_1562 ?_
    refine j_rd (pc := 1563) hX hc2.1 hb3 ha3 dL_law_1563 ?_
    refine j_aload_n (pc := 1564) hX dL_law_1564 rfl ?_
    refine j_iload (pc := 1565) hX dL_law_1565 rfl ?_
    refine j_iconst (pc := 1567) hX (4 : Int32) dL_law_1567 rfl ?_
    refine j_iadd (pc := 1568) hX dL_law_1568 ?_
    refine j_rd (pc := 1569) hX hc2.1 hb4 ha4 dL_law_1569 ?_
    refine j_i2l (pc := 1570) hX dL_law_1570 ?_
    refine j_bipush (pc := 1571) hX (32 : Int32) dL_law_1571 (by decide +kernel) ?_
    refine j_lshl (pc := 1573) hX dL_law_1573 ?_
    refine j_aload_n (pc := 1574) hX dL_law_1574 rfl ?_
    refine j_iload (pc := 1575) hX dL_law_1575 rfl ?_
    refine j_iconst (pc := 1577) hX (5 : Int32) dL_law_1577 rfl ?_
    refine j_iadd (pc := 1578) hX dL_law_1578 ?_
    refine j_rd (pc := 1579) hX hc2.1 hb5 ha5 dL_law_1579 ?_
    refine j_i2l (pc := 1580) hX dL_law_1580 ?_
    refine j_ldc2 (pc := 1581) hX q2774 dL_law_1581 ?_
    refine j_land (pc := 1584) hX dL_law_1584 ?_
    refine j_lor (pc := 1585) hX dL_law_1585 ?_
    refine zJ_eq hc2.2.2.1 ?_
    refine j_callV (pc := 1586) hX (ci := 3) mt_X4_yearTax q2641 q2642 q2643 (zIj_isC b w2 M) ⟨_, rfl, rfl⟩ [vI a1, vI a2, vI a3, vL (((Int32.toInt64 a4) <<< ((32 : Int32).toInt64 &&& 63)) ||| ((Int32.toInt64 a5) &&& (4294967295 : Int64)))] rfl rfl (Nat.le_of_ble_eq_true rfl) (by decide) dL_law_1586 (k_X4_yearTax _ _ e2) ?_
    obtain ⟨hc3, ho3, hn3⟩ := zLI_mem hc2 M1
    refine j_lstore (pc := 1589) hX dL_law_1589 (by decide) [some (vA (some s)), some (vA (some x)), some (vA (some b)), some (vA (some out)), some (vI i), some (vI (0 : Int32)), some (vL rm), none] rfl ?_
    refine j_aload_n (pc := 1591) hX dL_law_1591 rfl ?_
    refine j_callV (pc := 1592) hX (ci := 3) mt_X4_thrown q2456 q2457 q2458 (zIj_isC b w2 M1) ⟨_, rfl, rfl⟩ [] rfl rfl (Nat.le_of_ble_eq_true rfl) (by decide) dL_law_1592 (k_X4_thrown (n := N) _ _ rfl) ?_
    have hov : aL (zIj b w2 M1) (some out) 0 = some r := (ho3 0).trans hov
    refine j_iload (pc := 1595) hX dL_law_1595 rfl ?_
    refine j_icmp_eq (pc := 1597) hX 1602 (A := some ()) (B := some ()) (o := ()) dL_law_1597 rfl (by split <;> rfl) (fun _ _ => ?_) (fun h_ _ => absurd hag.1 h_)
    refine j_iload (pc := 1602) hX dL_law_1602 rfl ?_
    refine j_if_ne (pc := 1604) hX 1618 (A := some ()) (B := some ()) (o := ()) dL_law_1604 rfl (by split <;> rfl) (fun h_ _ => absurd rfl h_) (fun _ _ => ?_)
    refine j_aload_n (pc := 1607) hX dL_law_1607 rfl ?_
    refine j_iconst (pc := 1608) hX (0 : Int32) dL_law_1608 rfl ?_
    refine j_ld (pc := 1609) hX hov dL_law_1609 ?_
    refine j_lload (pc := 1610) hX dL_law_1610 rfl ?_
    refine j_lcmp (pc := 1612) hX dL_law_1612 ?_
    refine j_if_eq (pc := 1613) hX 1618 (A := some ()) (B := some ()) (o := ()) dL_law_1613 rfl (by split <;> rfl) (fun _ _ => ?_) (fun h_ _ => absurd (by rw [hag.2]; exact lg_cmp_self _) h_)
    refine j_goto (pc := 1618) hX 2691 dL_law_1618 rfl ?_
    refine j_fg [5, 6] [some (vA (some s)), some (vA (some x)), some (vA (some b)), some (vA (some out)), some (vI i), none, none, none] rfl ?_
    exact kk _ _ hc3 (hnx _ (hn3 _ hn2))
def Op_slip (N s L x b out : Nat) (xs : Nat → Int32) (S : Nat → zWd → zM → Prop) : Prop := ∀ (n : Nat) (w : zWd) (M : zM) (p1 : Int32) (p2 : Int32) (p3 : Int32) , n < 64 → zLI s L x b out xs w M → S n w M →
  ∃ (o : String ⊕ Int64) (w1 : zWd) (rm : Int64) (M1 : zM), f_X1_slip N (some x) p1 p2 p3 w = some (o, w1) ∧ f_X4_slip N p1 p2 p3 M = some (rm, M1) ∧ zLI s L x b out xs w1 M ∧ (match o with | .inr r => mI M1 67 = 0 ∧ r = rm | .inl E => E ∈ ["java/lang/IndexOutOfBoundsException", "java/lang/IllegalArgumentException"] ∧ mI M1 67 = cd_slip E) ∧ ∀ w2, zNx b out w1 w2 → S (n + 1) w2 M1
theorem fwok_slip {s L x b out : Nat} {xs : Nat → Int32} {w1 : zWd} {M : zM} (hc : zLI s L x b out xs w1 M) (p1 : Int32) (p2 : Int32) (p3 : Int32) (r : Int64) : ∃ w2, fw_slip (some x) p1 p2 p3 (some out) r w1 = some ((0 : Int32), w2) ∧ zLI s L x b out xs w2 M ∧ aL w2 (some out) 0 = some r ∧  zNx b out w1 w2 := by
  obtain ⟨w2, e, h1, h2, h3⟩ := zLI_out hc r
  refine ⟨w2, ?_, h1, h2, h3⟩
  unfold fw_slip
  rw [e]
  rfl
set_option maxHeartbeats 4000000 in
theorem lc_slip {X : zX} (hX : zGd X RX0 cL_law 8 ret 24) {s L x b out n N : Nat} {xs : Nat → Int32} {i : Int32} {S : Nat → zWd → zM → Prop} {w : zWd} {M : zM} (hn : n < 64) (hc : zLI s L x b out xs w M) (hS : S n w M) (op : Op_slip N s L x b out xs S)
    (hb : ∀ j ∈ [(1 : Int32), 2, 3, 4, 5, 6, 7], ¬ (i + j < 0 ∨ L ≤ (i + j).toNatClampNeg)) (kk : ∀ w' M', zLI s L x b out xs w' M' → S (n + 1) w' M' → zJ X 2691 [some (vA (some s)), some (vA (some x)), some (vA (some b)), some (vA (some out)), some (vI i), none, none, none] [] w') : zJ X 1621 [some (vA (some s)), some (vA (some x)), some (vA (some b)), some (vA (some out)), some (vI i), none, none, none] [] w := by
  obtain ⟨a1, ha1⟩ : ∃ v, xs (i + (1 : Int32)).toNatClampNeg = v := ⟨_, rfl⟩
  have hb1 := hb (1 : Int32) (by decide)
  obtain ⟨a2, ha2⟩ : ∃ v, xs (i + (2 : Int32)).toNatClampNeg = v := ⟨_, rfl⟩
  have hb2 := hb (2 : Int32) (by decide)
  obtain ⟨a3, ha3⟩ : ∃ v, xs (i + (3 : Int32)).toNatClampNeg = v := ⟨_, rfl⟩
  have hb3 := hb (3 : Int32) (by decide)
  obtain ⟨o, w1, rm, M1, e1, e2, hc1, hag, hnx⟩ := op n w M a1 a2 a3 hn hc hS
  refine j_aload_n (pc := 1621) hX dL_law_1621 rfl ?_
  refine j_aload_n (pc := 1622) hX dL_law_1622 rfl ?_
  refine j_iload (pc := 1623) hX dL_law_1623 rfl ?_
  refine j_iconst (pc := 1625) hX (1 : Int32) dL_law_1625 rfl ?_
  refine j_iadd (pc := 1626) hX dL_law_1626 ?_
  refine j_rd (pc := 1627) hX hc.1 hb1 ha1 dL_law_1627 ?_
  refine j_aload_n (pc := 1628) hX dL_law_1628 rfl ?_
  refine j_iload (pc := 1629) hX dL_law_1629 rfl ?_
  refine j_iconst (pc := 1631) hX (2 : Int32) dL_law_1631 rfl ?_
  refine j_iadd (pc := 1632) hX dL_law_1632 ?_
  refine j_rd (pc := 1633) hX hc.1 hb2 ha2 dL_law_1633 ?_
  refine j_aload_n (pc := 1634) hX dL_law_1634 rfl ?_
  refine j_iload (pc := 1635) hX dL_law_1635 rfl ?_
  refine j_iconst (pc := 1637) hX (3 : Int32) dL_law_1637 rfl ?_
  refine j_iadd (pc := 1638) hX dL_law_1638 ?_
  refine j_rd (pc := 1639) hX hc.1 hb3 ha3 dL_law_1639 ?_
  refine j_aload_n (pc := 1640) hX dL_law_1640 rfl ?_
  refine j_callSR (pc := 1641) hX mw_slip q1573 q1574 [vA (some x), vI a1, vI a2, vI a3, vA (some out)] rfl rfl (Nat.le_of_ble_eq_true rfl) (by decide) dL_law_1641 (kw_slip o hc.2.2.2.1 e1 (fun r hr => ⟨_, _, (fwok_slip hc1 a1 a2 a3 r).choose_spec.1⟩) (fun E hE => by subst hE; exact hag.1)) (fun v' w2 hR => ?_)
  rcases o with E | r
  · obtain ⟨rfl, hth⟩ := hR
    obtain ⟨hE, ht⟩ := hag
    obtain ⟨hc2, hn2⟩ := zLI_th hc1 hth
    have hk : ¬ cd_slip E = 0 := by
      simp only [List.mem_cons, List.not_mem_nil, or_false] at hE
      rcases hE with rfl | rfl <;> decide +kernel
    refine j_istore (pc := 1644) hX dL_law_1644 (by decide) [some (vA (some s)), some (vA (some x)), some (vA (some b)), some (vA (some out)), some (vI i), some (vI (cd_slip E)), none, none] rfl ?_
    refine j_aload_n (pc := 1646) hX dL_law_1646 rfl ?_
    refine j_aload_n (pc := 1647) hX dL_law_1647 rfl ?_
    refine j_iload (pc := 1648) hX dL_law_1648 rfl ?_
    refine j_iconst (pc := 1650) hX (1 : Int32) dL_law_1650 rfl ?_
    refine j_iadd (pc := 1651) hX dL_law_1651 ?_
    refine j_rd (pc := 1652) hX hc2.1 hb1 ha1 dL_law_1652 ?_
    refine j_aload_n (pc := 1653) hX dL_law_1653 rfl ?_
    refine j_iload (pc := 1654) hX dL_law_1654 rfl ?_
    refine j_iconst (pc := 1656) hX (2 : Int32) dL_law_1656 rfl ?_
    refine j_iadd (pc := 1657) hX dL_law_1657 ?_
    refine j_rd (pc := 1658) hX hc2.1 hb2 ha2 dL_law_1658 ?_
    refine j_aload_n (pc := 1659) hX dL_law_1659 rfl ?_
    refine j_iload (pc := 1660) hX dL_law_1660 rfl ?_
    refine j_iconst (pc := 1662) hX (3 : Int32) dL_law_1662 rfl ?_
    refine j_iadd (pc := 1663) hX dL_law_1663 ?_
    refine j_rd (pc := 1664) hX hc2.1 hb3 ha3 dL_law_1664 ?_
    refine zJ_eq hc2.2.2.1 ?_
    refine j_callV (pc := 1665) hX (ci := 3) mt_X4_slip q2655 q2656 q2657 (zIj_isC b w2 M) ⟨_, rfl, rfl⟩ [vI a1, vI a2, vI a3] rfl rfl (Nat.le_of_ble_eq_true rfl) (by decide) dL_law_1665 (k_X4_slip _ _ e2) ?_
    obtain ⟨hc3, ho3, hn3⟩ := zLI_mem hc2 M1
    refine j_lstore (pc := 1668) hX dL_law_1668 (by decide) [some (vA (some s)), some (vA (some x)), some (vA (some b)), some (vA (some out)), some (vI i), some (vI (cd_slip E)), some (vL rm), none] rfl ?_
    refine j_aload_n (pc := 1670) hX dL_law_1670 rfl ?_
    refine j_callV (pc := 1671) hX (ci := 3) mt_X4_thrown q2456 q2457 q2458 (zIj_isC b w2 M1) ⟨_, rfl, rfl⟩ [] rfl rfl (Nat.le_of_ble_eq_true rfl) (by decide) dL_law_1671 (k_X4_thrown (n := N) _ _ rfl) ?_
    refine j_iload (pc := 1674) hX dL_law_1674 rfl ?_
    refine j_icmp_eq (pc := 1676) hX 1681 (A := some ()) (B := some ()) (o := ()) dL_law_1676 rfl (by split <;> rfl) (fun _ _ => ?_) (fun h_ _ => absurd ht h_)
    refine j_iload (pc := 1681) hX dL_law_1681 rfl ?_
    refine j_if_ne (pc := 1683) hX 1697 (A := some ()) (B := some ()) (o := ()) dL_law_1683 rfl (by split <;> rfl) (fun _ _ => ?_) (fun h_ _ => absurd h_ hk)
    refine j_goto (pc := 1697) hX 2691 dL_law_1697 rfl ?_
    refine j_fg [5, 6] [some (vA (some s)), some (vA (some x)), some (vA (some b)), some (vA (some out)), some (vI i), none, none, none] rfl ?_
    exact kk _ _ hc3 (hnx _ (hn3 _ hn2))
  · obtain ⟨xx, hfw, rfl⟩ := hR
    obtain ⟨w3, e3, hc2, hov, hn2⟩ := fwok_slip hc1 a1 a2 a3 r
    cases e3.symm.trans hfw
    refine j_istore (pc := 1644) hX dL_law_1644 (by decide) [some (vA (some s)), some (vA (some x)), some (vA (some b)), some (vA (some out)), some (vI i), some (vI (0 : Int32)), none, none] rfl ?_
    refine j_aload_n (pc := 1646) hX dL_law_1646 rfl ?_
    refine j_aload_n (pc := 1647) hX dL_law_1647 rfl ?_
    refine j_iload (pc := 1648) hX dL_law_1648 rfl ?_
    refine j_iconst (pc := 1650) hX (1 : Int32) dL_law_1650 rfl ?_
    refine j_iadd (pc := 1651) hX dL_law_1651 ?_
    refine j_rd (pc := 1652) hX hc2.1 hb1 ha1 dL_law_1652 ?_
    refine j_aload_n (pc := 1653) hX dL_law_1653 rfl ?_
    refine j_iload (pc := 1654) hX dL_law_1654 rfl ?_
    refine j_iconst (pc := 1656) hX (2 : Int32) dL_law_1656 rfl ?_
    refine j_iadd (pc := 1657) hX dL_law_1657 ?_
    refine j_rd (pc := 1658) hX hc2.1 hb2 ha2 dL_law_1658 ?_
    refine j_aload_n (pc := 1659) hX dL_law_1659 rfl ?_
    refine j_iload (pc := 1660) hX dL_law_1660 rfl ?_
    refine j_iconst (pc := 1662) hX (3 : Int32) dL_law_1662 rfl ?_
    refine j_iadd (pc := 1663) hX dL_law_1663 ?_
    refine j_rd (pc := 1664) hX hc2.1 hb3 ha3 dL_law_1664 ?_
    refine zJ_eq hc2.2.2.1 ?_
    refine j_callV (pc := 1665) hX (ci := 3) mt_X4_slip q2655 q2656 q2657 (zIj_isC b w2 M) ⟨_, rfl, rfl⟩ [vI a1, vI a2, vI a3] rfl rfl (Nat.le_of_ble_eq_true rfl) (by decide) dL_law_1665 (k_X4_slip _ _ e2) ?_
    obtain ⟨hc3, ho3, hn3⟩ := zLI_mem hc2 M1
    refine j_lstore (pc := 1668) hX dL_law_1668 (by decide) [some (vA (some s)), some (vA (some x)), some (vA (some b)), some (vA (some out)), some (vI i), some (vI (0 : Int32)), some (vL rm), none] rfl ?_
    refine j_aload_n (pc := 1670) hX dL_law_1670 rfl ?_
    refine j_callV (pc := 1671) hX (ci := 3) mt_X4_thrown q2456 q2457 q2458 (zIj_isC b w2 M1) ⟨_, rfl, rfl⟩ [] rfl rfl (Nat.le_of_ble_eq_true rfl) (by decide) dL_law_1671 (k_X4_thrown (n := N) _ _ rfl) ?_
    have hov : aL (zIj b w2 M1) (some out) 0 = some r := (ho3 0).trans hov
    refine j_iload (pc := 1674) hX dL_law_1674 rfl ?_
    refine j_icmp_eq (pc := 1676) hX 1681 (A := some ()) (B := some ()) (o := ()) dL_law_1676 rfl (by split <;> rfl) (fun _ _ => ?_) (fun h_ _ => absurd hag.1 h_)
    refine j_iload (pc := 1681) hX dL_law_1681 rfl ?_
    refine j_if_ne (pc := 1683) hX 1697 (A := some ()) (B := some ()) (o := ()) dL_law_1683 rfl (by split <;> rfl) (fun h_ _ => absurd rfl h_) (fun _ _ => ?_)
    refine j_aload_n (pc := 1686) hX dL_law_1686 rfl ?_
    refine j_iconst (pc := 1687) hX (0 : Int32) dL_law_1687 rfl ?_
    refine j_ld (pc := 1688) hX hov dL_law_1688 ?_
    refine j_lload (pc := 1689) hX dL_law_1689 rfl ?_
    refine j_lcmp (pc := 1691) hX dL_law_1691 ?_
    refine j_if_eq (pc := 1692) hX 1697 (A := some ()) (B := some ()) (o := ()) dL_law_1692 rfl (by split <;> rfl) (fun _ _ => ?_) (fun h_ _ => absurd (by rw [hag.2]; exact lg_cmp_self _) h_)
    refine j_goto (pc := 1697) hX 2691 dL_law_1697 rfl ?_
    refine j_fg [5, 6] [some (vA (some s)), some (vA (some x)), some (vA (some b)), some (vA (some out)), some (vI i), none, none, none] rfl ?_
    exact kk _ _ hc3 (hnx _ (hn3 _ hn2))
def Op_slipIn (N s L x b out : Nat) (xs : Nat → Int32) (S : Nat → zWd → zM → Prop) : Prop := ∀ (n : Nat) (w : zWd) (M : zM) (p1 : Int32) (p2 : Int32) (p3 : Int32) (p4 : Int32) , n < 64 → zLI s L x b out xs w M → S n w M →
  ∃ (o : String ⊕ Int64) (w1 : zWd) (rm : Int64) (M1 : zM), f_X1_slipIn N (some x) p1 p2 p3 p4 w = some (o, w1) ∧ f_X4_slipIn N p1 p2 p3 p4 M = some (rm, M1) ∧ zLI s L x b out xs w1 M ∧ (match o with | .inr r => mI M1 67 = 0 ∧ r = rm | .inl E => E ∈ ["java/lang/IndexOutOfBoundsException", "java/lang/IllegalArgumentException"] ∧ mI M1 67 = cd_slipIn E) ∧ ∀ w2, zNx b out w1 w2 → S (n + 1) w2 M1
theorem fwok_slipIn {s L x b out : Nat} {xs : Nat → Int32} {w1 : zWd} {M : zM} (hc : zLI s L x b out xs w1 M) (p1 : Int32) (p2 : Int32) (p3 : Int32) (p4 : Int32) (r : Int64) : ∃ w2, fw_slipIn (some x) p1 p2 p3 p4 (some out) r w1 = some ((0 : Int32), w2) ∧ zLI s L x b out xs w2 M ∧ aL w2 (some out) 0 = some r ∧  zNx b out w1 w2 := by
  obtain ⟨w2, e, h1, h2, h3⟩ := zLI_out hc r
  refine ⟨w2, ?_, h1, h2, h3⟩
  unfold fw_slipIn
  rw [e]
  rfl
set_option maxHeartbeats 4000000 in
theorem lc_slipIn {X : zX} (hX : zGd X RX0 cL_law 8 ret 24) {s L x b out n N : Nat} {xs : Nat → Int32} {i : Int32} {S : Nat → zWd → zM → Prop} {w : zWd} {M : zM} (hn : n < 64) (hc : zLI s L x b out xs w M) (hS : S n w M) (op : Op_slipIn N s L x b out xs S)
    (hb : ∀ j ∈ [(1 : Int32), 2, 3, 4, 5, 6, 7], ¬ (i + j < 0 ∨ L ≤ (i + j).toNatClampNeg)) (kk : ∀ w' M', zLI s L x b out xs w' M' → S (n + 1) w' M' → zJ X 2691 [some (vA (some s)), some (vA (some x)), some (vA (some b)), some (vA (some out)), some (vI i), none, none, none] [] w') : zJ X 1700 [some (vA (some s)), some (vA (some x)), some (vA (some b)), some (vA (some out)), some (vI i), none, none, none] [] w := by
  obtain ⟨a1, ha1⟩ : ∃ v, xs (i + (1 : Int32)).toNatClampNeg = v := ⟨_, rfl⟩
  have hb1 := hb (1 : Int32) (by decide)
  obtain ⟨a2, ha2⟩ : ∃ v, xs (i + (2 : Int32)).toNatClampNeg = v := ⟨_, rfl⟩
  have hb2 := hb (2 : Int32) (by decide)
  obtain ⟨a3, ha3⟩ : ∃ v, xs (i + (3 : Int32)).toNatClampNeg = v := ⟨_, rfl⟩
  have hb3 := hb (3 : Int32) (by decide)
  obtain ⟨a4, ha4⟩ : ∃ v, xs (i + (4 : Int32)).toNatClampNeg = v := ⟨_, rfl⟩
  have hb4 := hb (4 : Int32) (by decide)
  obtain ⟨o, w1, rm, M1, e1, e2, hc1, hag, hnx⟩ := op n w M a1 a2 a3 a4 hn hc hS
  refine j_aload_n (pc := 1700) hX dL_law_1700 rfl ?_
  refine j_aload_n (pc := 1701) hX dL_law_1701 rfl ?_
  refine j_iload (pc := 1702) hX dL_law_1702 rfl ?_
  refine j_iconst (pc := 1704) hX (1 : Int32) dL_law_1704 rfl ?_
  refine j_iadd (pc := 1705) hX dL_law_1705 ?_
  refine j_rd (pc := 1706) hX hc.1 hb1 ha1 dL_law_1706 ?_
  refine j_aload_n (pc := 1707) hX dL_law_1707 rfl ?_
  refine j_iload (pc := 1708) hX dL_law_1708 rfl ?_
  refine j_iconst (pc := 1710) hX (2 : Int32) dL_law_1710 rfl ?_
  refine j_iadd (pc := 1711) hX dL_law_1711 ?_
  refine j_rd (pc := 1712) hX hc.1 hb2 ha2 dL_law_1712 ?_
  refine j_aload_n (pc := 1713) hX dL_law_1713 rfl ?_
  refine j_iload (pc := 1714) hX dL_law_1714 rfl ?_
  refine j_iconst (pc := 1716) hX (3 : Int32) dL_law_1716 rfl ?_
  refine j_iadd (pc := 1717) hX dL_law_1717 ?_
  refine j_rd (pc := 1718) hX hc.1 hb3 ha3 dL_law_1718 ?_
  refine j_aload_n (pc := 1719) hX dL_law_1719 rfl ?_
  refine j_iload (pc := 1720) hX dL_law_1720 rfl ?_
  refine j_iconst (pc := 1722) hX (4 : Int32) dL_law_1722 rfl ?_
  refine j_iadd (pc := 1723) hX dL_law_1723 ?_
  refine j_rd (pc := 1724) hX hc.1 hb4 ha4 dL_law_1724 ?_
  refine j_aload_n (pc := 1725) hX dL_law_1725 rfl ?_
  refine j_callSR (pc := 1726) hX mw_slipIn q2024 q2025 [vA (some x), vI a1, vI a2, vI a3, vI a4, vA (some out)] rfl rfl (Nat.le_of_ble_eq_true rfl) (by decide) dL_law_1726 (kw_slipIn o hc.2.2.2.1 e1 (fun r hr => ⟨_, _, (fwok_slipIn hc1 a1 a2 a3 a4 r).choose_spec.1⟩) (fun E hE => by subst hE; exact hag.1)) (fun v' w2 hR => ?_)
  rcases o with E | r
  · obtain ⟨rfl, hth⟩ := hR
    obtain ⟨hE, ht⟩ := hag
    obtain ⟨hc2, hn2⟩ := zLI_th hc1 hth
    have hk : ¬ cd_slipIn E = 0 := by
      simp only [List.mem_cons, List.not_mem_nil, or_false] at hE
      rcases hE with rfl | rfl <;> decide +kernel
    refine j_istore (pc := 1729) hX dL_law_1729 (by decide) [some (vA (some s)), some (vA (some x)), some (vA (some b)), some (vA (some out)), some (vI i), some (vI (cd_slipIn E)), none, none] rfl ?_
    refine j_aload_n (pc := 1731) hX dL_law_1731 rfl ?_
    refine j_aload_n (pc := 1732) hX dL_law_1732 rfl ?_
    refine j_iload (pc := 1733) hX dL_law_1733 rfl ?_
    refine j_iconst (pc := 1735) hX (1 : Int32) dL_law_1735 rfl ?_
    refine j_iadd (pc := 1736) hX dL_law_1736 ?_
    refine j_rd (pc := 1737) hX hc2.1 hb1 ha1 dL_law_1737 ?_
    refine j_aload_n (pc := 1738) hX dL_law_1738 rfl ?_
    refine j_iload (pc := 1739) hX dL_law_1739 rfl ?_
    refine j_iconst (pc := 1741) hX (2 : Int32) dL_law_1741 rfl ?_
    refine j_iadd (pc := 1742) hX dL_law_1742 ?_
    refine j_rd (pc := 1743) hX hc2.1 hb2 ha2 dL_law_1743 ?_
    refine j_aload_n (pc := 1744) hX dL_law_1744 rfl ?_
    refine j_iload (pc := 1745) hX dL_law_1745 rfl ?_
    refine j_iconst (pc := 1747) hX (3 : Int32) dL_law_1747 rfl ?_
    refine j_iadd (pc := 1748) hX dL_law_1748 ?_
    refine j_rd (pc := 1749) hX hc2.1 hb3 ha3 dL_law_1749 ?_
    refine j_aload_n (pc := 1750) hX dL_law_1750 rfl ?_
    refine j_iload (pc := 1751) hX dL_law_1751 rfl ?_
    refine j_iconst (pc := 1753) hX (4 : Int32) dL_law_1753 rfl ?_
    refine j_iadd (pc := 1754) hX dL_law_1754 ?_
    refine j_rd (pc := 1755) hX hc2.1 hb4 ha4 dL_law_1755 ?_
    refine zJ_eq hc2.2.2.1 ?_
    refine j_callV (pc := 1756) hX (ci := 3) mt_X4_slipIn q2705 q2706 q2707 (zIj_isC b w2 M) ⟨_, rfl, rfl⟩ [vI a1, vI a2, vI a3, vI a4] rfl rfl (Nat.le_of_ble_eq_true rfl) (by decide) dL_law_1756 (k_X4_slipIn _ _ e2) ?_
    obtain ⟨hc3, ho3, hn3⟩ := zLI_mem hc2 M1
    refine j_lstore (pc := 1759) hX dL_law_1759 (by decide) [some (vA (some s)), some (vA (some x)), some (vA (some b)), some (vA (some out)), some (vI i), some (vI (cd_slipIn E)), some (vL rm), none] rfl ?_
    refine j_aload_n (pc := 1761) hX dL_law_1761 rfl ?_
    refine j_callV (pc := 1762) hX (ci := 3) mt_X4_thrown q2456 q2457 q2458 (zIj_isC b w2 M1) ⟨_, rfl, rfl⟩ [] rfl rfl (Nat.le_of_ble_eq_true rfl) (by decide) dL_law_1762 (k_X4_thrown (n := N) _ _ rfl) ?_
    refine j_iload (pc := 1765) hX dL_law_1765 rfl ?_
    refine j_icmp_eq (pc := 1767) hX 1772 (A := some ()) (B := some ()) (o := ()) dL_law_1767 rfl (by split <;> rfl) (fun _ _ => ?_) (fun h_ _ => absurd ht h_)
    refine j_iload (pc := 1772) hX dL_law_1772 rfl ?_
    refine j_if_ne (pc := 1774) hX 1788 (A := some ()) (B := some ()) (o := ()) dL_law_1774 rfl (by split <;> rfl) (fun _ _ => ?_) (fun h_ _ => absurd h_ hk)
    refine j_goto (pc := 1788) hX 2691 dL_law_1788 rfl ?_
    refine j_fg [5, 6] [some (vA (some s)), some (vA (some x)), some (vA (some b)), some (vA (some out)), some (vI i), none, none, none] rfl ?_
    exact kk _ _ hc3 (hnx _ (hn3 _ hn2))
  · obtain ⟨xx, hfw, rfl⟩ := hR
    obtain ⟨w3, e3, hc2, hov, hn2⟩ := fwok_slipIn hc1 a1 a2 a3 a4 r
    cases e3.symm.trans hfw
    refine j_istore (pc := 1729) hX dL_law_1729 (by decide) [some (vA (some s)), some (vA (some x)), some (vA (some b)), some (vA (some out)), some (vI i), some (vI (0 : Int32)), none, none] rfl ?_
    refine j_aload_n (pc := 1731) hX dL_law_1731 rfl ?_
    refine j_aload_n (pc := 1732) hX dL_law_1732 rfl ?_
    refine j_iload (pc := 1733) hX dL_law_1733 rfl ?_
    refine j_iconst (pc := 1735) hX (1 : Int32) dL_law_1735 rfl ?_
    refine j_iadd (pc := 1736) hX dL_law_1736 ?_
    refine j_rd (pc := 1737) hX hc2.1 hb1 ha1 dL_law_1737 ?_
    refine j_aload_n (pc := 1738) hX dL_law_1738 rfl ?_
    refine j_iload (pc := 1739) hX dL_law_1739 rfl ?_
    refine j_iconst (pc := 1741) hX (2 : Int32) dL_law_1741 rfl ?_
    refine j_iadd (pc := 1742) hX dL_law_1742 ?_
    refine j_rd (pc := 1743) hX hc2.1 hb2 ha2 dL_law_1743 ?_
    refine j_aload_n (pc := 1744) hX dL_law_1744 rfl ?_
    refine j_iload (pc := 1745) hX dL_law_1745 rfl ?_
    refine j_iconst (pc := 1747) hX (3 : Int32) dL_law_1747 rfl ?_
    refine j_iadd (pc := 1748) hX dL_law_1748 ?_
    refine j_rd (pc := 1749) hX hc2.1 hb3 ha3 dL_law_1749 ?_
    refine j_aload_n (pc := 1750) hX dL_law_1750 rfl ?_
    refine j_iload (pc := 1751) hX dL_law_1751 rfl ?_
    refine j_iconst (pc := 1753) hX (4 : Int32) dL_law_1753 rfl ?_
    refine j_iadd (pc := 1754) hX dL_law_1754 ?_
    refine j_rd (pc := 1755) hX hc2.1 hb4 ha4 dL_law_1755 ?_
    refine zJ_eq hc2.2.2.1 ?_
    refine j_callV (pc := 1756) hX (ci := 3) mt_X4_slipIn q2705 q2706 q2707 (zIj_isC b w2 M) ⟨_, rfl, rfl⟩ [vI a1, vI a2, vI a3, vI a4] rfl rfl (Nat.le_of_ble_eq_true rfl) (by decide) dL_law_1756 (k_X4_slipIn _ _ e2) ?_
    obtain ⟨hc3, ho3, hn3⟩ := zLI_mem hc2 M1
    refine j_lstore (pc := 1759) hX dL_law_1759 (by decide) [some (vA (some s)), some (vA (some x)), some (vA (some b)), some (vA (some out)), some (vI i), some (vI (0 : Int32)), some (vL rm), none] rfl ?_
    refine j_aload_n (pc := 1761) hX dL_law_1761 rfl ?_
    refine j_callV (pc := 1762) hX (ci := 3) mt_X4_thrown q2456 q2457 q2458 (zIj_isC b w2 M1) ⟨_, rfl, rfl⟩ [] rfl rfl (Nat.le_of_ble_eq_true rfl) (by decide) dL_law_1762 (k_X4_thrown (n := N) _ _ rfl) ?_
    have hov : aL (zIj b w2 M1) (some out) 0 = some r := (ho3 0).trans hov
    refine j_iload (pc := 1765) hX dL_law_1765 rfl ?_
    refine j_icmp_eq (pc := 1767) hX 1772 (A := some ()) (B := some ()) (o := ()) dL_law_1767 rfl (by split <;> rfl) (fun _ _ => ?_) (fun h_ _ => absurd hag.1 h_)
    refine j_iload (pc := 1772) hX dL_law_1772 rfl ?_
    refine j_if_ne (pc := 1774) hX 1788 (A := some ()) (B := some ()) (o := ()) dL_law_1774 rfl (by split <;> rfl) (fun h_ _ => absurd rfl h_) (fun _ _ => ?_)
    refine j_aload_n (pc := 1777) hX dL_law_1777 rfl ?_
    refine j_iconst (pc := 1778) hX (0 : Int32) dL_law_1778 rfl ?_
    refine j_ld (pc := 1779) hX hov dL_law_1779 ?_
    refine j_lload (pc := 1780) hX dL_law_1780 rfl ?_
    refine j_lcmp (pc := 1782) hX dL_law_1782 ?_
    refine j_if_eq (pc := 1783) hX 1788 (A := some ()) (B := some ()) (o := ()) dL_law_1783 rfl (by split <;> rfl) (fun _ _ => ?_) (fun h_ _ => absurd (by rw [hag.2]; exact lg_cmp_self _) h_)
    refine j_goto (pc := 1788) hX 2691 dL_law_1788 rfl ?_
    refine j_fg [5, 6] [some (vA (some s)), some (vA (some x)), some (vA (some b)), some (vA (some out)), some (vI i), none, none, none] rfl ?_
    exact kk _ _ hc3 (hnx _ (hn3 _ hn2))
def Op_elementOf (N s L x b out : Nat) (xs : Nat → Int32) (S : Nat → zWd → zM → Prop) : Prop := ∀ (n : Nat) (w : zWd) (M : zM) (p1 : Int32) (p2 : Int32) (p3 : Int32) , n < 64 → zLI s L x b out xs w M → S n w M →
  ∃ (o : String ⊕ Int64) (w1 : zWd) (rm : Int64) (M1 : zM), f_X1_elementOf N (some x) p1 p2 p3 w = some (o, w1) ∧ f_X4_elementOf N p1 p2 p3 M = some (rm, M1) ∧ zLI s L x b out xs w1 M ∧ (match o with | .inr r => mI M1 67 = 0 ∧ r = rm | .inl E => E ∈ ["java/lang/IndexOutOfBoundsException"] ∧ mI M1 67 = cd_elementOf E) ∧ ∀ w2, zNx b out w1 w2 → S (n + 1) w2 M1
theorem fwok_elementOf {s L x b out : Nat} {xs : Nat → Int32} {w1 : zWd} {M : zM} (hc : zLI s L x b out xs w1 M) (p1 : Int32) (p2 : Int32) (p3 : Int32) (r : Int64) : ∃ w2, fw_elementOf (some x) p1 p2 p3 (some out) r w1 = some ((0 : Int32), w2) ∧ zLI s L x b out xs w2 M ∧ aL w2 (some out) 0 = some r ∧  zNx b out w1 w2 := by
  obtain ⟨w2, e, h1, h2, h3⟩ := zLI_out hc r
  refine ⟨w2, ?_, h1, h2, h3⟩
  unfold fw_elementOf
  rw [e]
  rfl
set_option maxHeartbeats 4000000 in
theorem lc_elementOf {X : zX} (hX : zGd X RX0 cL_law 8 ret 24) {s L x b out n N : Nat} {xs : Nat → Int32} {i : Int32} {S : Nat → zWd → zM → Prop} {w : zWd} {M : zM} (hn : n < 64) (hc : zLI s L x b out xs w M) (hS : S n w M) (op : Op_elementOf N s L x b out xs S)
    (hb : ∀ j ∈ [(1 : Int32), 2, 3, 4, 5, 6, 7], ¬ (i + j < 0 ∨ L ≤ (i + j).toNatClampNeg)) (kk : ∀ w' M', zLI s L x b out xs w' M' → S (n + 1) w' M' → zJ X 2691 [some (vA (some s)), some (vA (some x)), some (vA (some b)), some (vA (some out)), some (vI i), none, none, none] [] w') : zJ X 1791 [some (vA (some s)), some (vA (some x)), some (vA (some b)), some (vA (some out)), some (vI i), none, none, none] [] w := by
  obtain ⟨a1, ha1⟩ : ∃ v, xs (i + (1 : Int32)).toNatClampNeg = v := ⟨_, rfl⟩
  have hb1 := hb (1 : Int32) (by decide)
  obtain ⟨a2, ha2⟩ : ∃ v, xs (i + (2 : Int32)).toNatClampNeg = v := ⟨_, rfl⟩
  have hb2 := hb (2 : Int32) (by decide)
  obtain ⟨a3, ha3⟩ : ∃ v, xs (i + (3 : Int32)).toNatClampNeg = v := ⟨_, rfl⟩
  have hb3 := hb (3 : Int32) (by decide)
  obtain ⟨o, w1, rm, M1, e1, e2, hc1, hag, hnx⟩ := op n w M a1 a2 a3 hn hc hS
  refine j_aload_n (pc := 1791) hX dL_law_1791 rfl ?_
  refine j_aload_n (pc := 1792) hX dL_law_1792 rfl ?_
  refine j_iload (pc := 1793) hX dL_law_1793 rfl ?_
  refine j_iconst (pc := 1795) hX (1 : Int32) dL_law_1795 rfl ?_
  refine j_iadd (pc := 1796) hX dL_law_1796 ?_
  refine j_rd (pc := 1797) hX hc.1 hb1 ha1 dL_law_1797 ?_
  refine j_aload_n (pc := 1798) hX dL_law_1798 rfl ?_
  refine j_iload (pc := 1799) hX dL_law_1799 rfl ?_
  refine j_iconst (pc := 1801) hX (2 : Int32) dL_law_1801 rfl ?_
  refine j_iadd (pc := 1802) hX dL_law_1802 ?_
  refine j_rd (pc := 1803) hX hc.1 hb2 ha2 dL_law_1803 ?_
  refine j_aload_n (pc := 1804) hX dL_law_1804 rfl ?_
  refine j_iload (pc := 1805) hX dL_law_1805 rfl ?_
  refine j_iconst (pc := 1807) hX (3 : Int32) dL_law_1807 rfl ?_
  refine j_iadd (pc := 1808) hX dL_law_1808 ?_
  refine j_rd (pc := 1809) hX hc.1 hb3 ha3 dL_law_1809 ?_
  refine j_aload_n (pc := 1810) hX dL_law_1810 rfl ?_
  refine j_callSR (pc := 1811) hX mw_elementOf q2032 q2033 [vA (some x), vI a1, vI a2, vI a3, vA (some out)] rfl rfl (Nat.le_of_ble_eq_true rfl) (by decide) dL_law_1811 (kw_elementOf o hc.2.2.2.1 e1 (fun r hr => ⟨_, _, (fwok_elementOf hc1 a1 a2 a3 r).choose_spec.1⟩) (fun E hE => by subst hE; exact hag.1)) (fun v' w2 hR => ?_)
  rcases o with E | r
  · obtain ⟨rfl, hth⟩ := hR
    obtain ⟨hE, ht⟩ := hag
    obtain ⟨hc2, hn2⟩ := zLI_th hc1 hth
    have hk : ¬ cd_elementOf E = 0 := by
      simp only [List.mem_cons, List.not_mem_nil, or_false] at hE
      rcases hE with rfl
      decide +kernel
    refine j_istore (pc := 1814) hX dL_law_1814 (by decide) [some (vA (some s)), some (vA (some x)), some (vA (some b)), some (vA (some out)), some (vI i), some (vI (cd_elementOf E)), none, none] rfl ?_
    refine j_aload_n (pc := 1816) hX dL_law_1816 rfl ?_
    refine j_aload_n (pc := 1817) hX dL_law_1817 rfl ?_
    refine j_iload (pc := 1818) hX dL_law_1818 rfl ?_
    refine j_iconst (pc := 1820) hX (1 : Int32) dL_law_1820 rfl ?_
    refine j_iadd (pc := 1821) hX dL_law_1821 ?_
    refine j_rd (pc := 1822) hX hc2.1 hb1 ha1 dL_law_1822 ?_
    refine j_aload_n (pc := 1823) hX dL_law_1823 rfl ?_
    refine j_iload (pc := 1824) hX dL_law_1824 rfl ?_
    refine j_iconst (pc := 1826) hX (2 : Int32) dL_law_1826 rfl ?_
    refine j_iadd (pc := 1827) hX dL_law_1827 ?_
    refine j_rd (pc := 1828) hX hc2.1 hb2 ha2 dL_law_1828 ?_
    refine j_aload_n (pc := 1829) hX dL_law_1829 rfl ?_
    refine j_iload (pc := 1830) hX dL_law_1830 rfl ?_
    refine j_iconst (pc := 1832) hX (3 : Int32) dL_law_1832 rfl ?_
    refine j_iadd (pc := 1833) hX dL_law_1833 ?_
    refine j_rd (pc := 1834) hX hc2.1 hb3 ha3 dL_law_1834 ?_
    refine zJ_eq hc2.2.2.1 ?_
    refine j_callV (pc := 1835) hX (ci := 3) mt_X4_elementOf q2709 q2710 q2711 (zIj_isC b w2 M) ⟨_, rfl, rfl⟩ [vI a1, vI a2, vI a3] rfl rfl (Nat.le_of_ble_eq_true rfl) (by decide) dL_law_1835 (k_X4_elementOf _ _ e2) ?_
    obtain ⟨hc3, ho3, hn3⟩ := zLI_mem hc2 M1
    refine j_lstore (pc := 1838) hX dL_law_1838 (by decide) [some (vA (some s)), some (vA (some x)), some (vA (some b)), some (vA (some out)), some (vI i), some (vI (cd_elementOf E)), some (vL rm), none] rfl ?_
    refine j_aload_n (pc := 1840) hX dL_law_1840 rfl ?_
    refine j_callV (pc := 1841) hX (ci := 3) mt_X4_thrown q2456 q2457 q2458 (zIj_isC b w2 M1) ⟨_, rfl, rfl⟩ [] rfl rfl (Nat.le_of_ble_eq_true rfl) (by decide) dL_law_1841 (k_X4_thrown (n := N) _ _ rfl) ?_
    refine j_iload (pc := 1844) hX dL_law_1844 rfl ?_
    refine j_icmp_eq (pc := 1846) hX 1851 (A := some ()) (B := some ()) (o := ()) dL_law_1846 rfl (by split <;> rfl) (fun _ _ => ?_) (fun h_ _ => absurd ht h_)
    refine j_iload (pc := 1851) hX dL_law_1851 rfl ?_
    refine j_if_ne (pc := 1853) hX 1867 (A := some ()) (B := some ()) (o := ()) dL_law_1853 rfl (by split <;> rfl) (fun _ _ => ?_) (fun h_ _ => absurd h_ hk)
    refine j_goto (pc := 1867) hX 2691 dL_law_1867 rfl ?_
    refine j_fg [5, 6] [some (vA (some s)), some (vA (some x)), some (vA (some b)), some (vA (some out)), some (vI i), none, none, none] rfl ?_
    exact kk _ _ hc3 (hnx _ (hn3 _ hn2))
  · obtain ⟨xx, hfw, rfl⟩ := hR
    obtain ⟨w3, e3, hc2, hov, hn2⟩ := fwok_elementOf hc1 a1 a2 a3 r
    cases e3.symm.trans hfw
    refine j_istore (pc := 1814) hX dL_law_1814 (by decide) [some (vA (some s)), some (vA (some x)), some (vA (some b)), some (vA (some out)), some (vI i), some (vI (0 : Int32)), none, none] rfl ?_
    refine j_aload_n (pc := 1816) hX dL_law_1816 rfl ?_
    refine j_aload_n (pc := 1817) hX dL_law_1817 rfl ?_
    refine j_iload (pc := 1818) hX dL_law_1818 rfl ?_
    refine j_iconst (pc := 1820) hX (1 : Int32) dL_law_1820 rfl ?_
    refine j_iadd (pc := 1821) hX dL_law_1821 ?_
    refine j_rd (pc := 1822) hX hc2.1 hb1 ha1 dL_law_1822 ?_
    refine j_aload_n (pc := 1823) hX dL_law_1823 rfl ?_
    refine j_iload (pc := 1824) hX dL_law_1824 rfl ?_
    refine j_iconst (pc := 1826) hX (2 : Int32) dL_law_1826 rfl ?_
    refine j_iadd (pc := 1827) hX dL_law_1827 ?_
    refine j_rd (pc := 1828) hX hc2.1 hb2 ha2 dL_law_1828 ?_
    refine j_aload_n (pc := 1829) hX dL_law_1829 rfl ?_
    refine j_iload (pc := 1830) hX dL_law_1830 rfl ?_
    refine j_iconst (pc := 1832) hX (3 : Int32) dL_law_1832 rfl ?_
    refine j_iadd (pc := 1833) hX dL_law_1833 ?_
    refine j_rd (pc := 1834) hX hc2.1 hb3 ha3 dL_law_1834 ?_
    refine zJ_eq hc2.2.2.1 ?_
    refine j_callV (pc := 1835) hX (ci := 3) mt_X4_elementOf q2709 q2710 q2711 (zIj_isC b w2 M) ⟨_, rfl, rfl⟩ [vI a1, vI a2, vI a3] rfl rfl (Nat.le_of_ble_eq_true rfl) (by decide) dL_law_1835 (k_X4_elementOf _ _ e2) ?_
    obtain ⟨hc3, ho3, hn3⟩ := zLI_mem hc2 M1
    refine j_lstore (pc := 1838) hX dL_law_1838 (by decide) [some (vA (some s)), some (vA (some x)), some (vA (some b)), some (vA (some out)), some (vI i), some (vI (0 : Int32)), some (vL rm), none] rfl ?_
    refine j_aload_n (pc := 1840) hX dL_law_1840 rfl ?_
    refine j_callV (pc := 1841) hX (ci := 3) mt_X4_thrown q2456 q2457 q2458 (zIj_isC b w2 M1) ⟨_, rfl, rfl⟩ [] rfl rfl (Nat.le_of_ble_eq_true rfl) (by decide) dL_law_1841 (k_X4_thrown (n := N) _ _ rfl) ?_
    have hov : aL (zIj b w2 M1) (some out) 0 = some r := (ho3 0).trans hov
    refine j_iload (pc := 1844) hX dL_law_1844 rfl ?_
    refine j_icmp_eq (pc := 1846) hX 1851 (A := some ()) (B := some ()) (o := ()) dL_law_1846 rfl (by split <;> rfl) (fun _ _ => ?_) (fun h_ _ => absurd hag.1 h_)
    refine j_iload (pc := 1851) hX dL_law_1851 rfl ?_
    refine j_if_ne (pc := 1853) hX 1867 (A := some ()) (B := some ()) (o := ()) dL_law_1853 rfl (by split <;> rfl) (fun h_ _ => absurd rfl h_) (fun _ _ => ?_)
    refine j_aload_n (pc := 1856) hX dL_law_1856 rfl ?_
    refine j_iconst (pc := 1857) hX (0 : Int32) dL_law_1857 rfl ?_
    refine j_ld (pc := 1858) hX hov dL_law_1858 ?_
    refine j_lload (pc := 1859) hX dL_law_1859 rfl ?_
    refine j_lcmp (pc := 1861) hX dL_law_1861 ?_
    refine j_if_eq (pc := 1862) hX 1867 (A := some ()) (B := some ()) (o := ()) dL_law_1862 rfl (by split <;> rfl) (fun _ _ => ?_) (fun h_ _ => absurd (by rw [hag.2]; exact lg_cmp_self _) h_)
    refine j_goto (pc := 1867) hX 2691 dL_law_1867 rfl ?_
    refine j_fg [5, 6] [some (vA (some s)), some (vA (some x)), some (vA (some b)), some (vA (some out)), some (vI i), none, none, none] rfl ?_
    exact kk _ _ hc3 (hnx _ (hn3 _ hn2))
def Op_pensionOf (N s L x b out : Nat) (xs : Nat → Int32) (S : Nat → zWd → zM → Prop) : Prop := ∀ (n : Nat) (w : zWd) (M : zM) (p1 : Int32) (p2 : Int32) , n < 64 → zLI s L x b out xs w M → S n w M →
  ∃ (o : String ⊕ Int64) (w1 : zWd) (rm : Int64) (M1 : zM), f_X1_pensionOf N (some x) p1 p2 w = some (o, w1) ∧ f_X4_pensionOf N p1 p2 M = some (rm, M1) ∧ zLI s L x b out xs w1 M ∧ (match o with | .inr r => mI M1 67 = 0 ∧ r = rm | .inl E => E ∈ ["java/lang/IndexOutOfBoundsException"] ∧ mI M1 67 = cd_pensionOf E) ∧ ∀ w2, zNx b out w1 w2 → S (n + 1) w2 M1
theorem fwok_pensionOf {s L x b out : Nat} {xs : Nat → Int32} {w1 : zWd} {M : zM} (hc : zLI s L x b out xs w1 M) (p1 : Int32) (p2 : Int32) (r : Int64) : ∃ w2, fw_pensionOf (some x) p1 p2 (some out) r w1 = some ((0 : Int32), w2) ∧ zLI s L x b out xs w2 M ∧ aL w2 (some out) 0 = some r ∧  zNx b out w1 w2 := by
  obtain ⟨w2, e, h1, h2, h3⟩ := zLI_out hc r
  refine ⟨w2, ?_, h1, h2, h3⟩
  unfold fw_pensionOf
  rw [e]
  rfl
set_option maxHeartbeats 4000000 in
theorem lc_pensionOf {X : zX} (hX : zGd X RX0 cL_law 8 ret 24) {s L x b out n N : Nat} {xs : Nat → Int32} {i : Int32} {S : Nat → zWd → zM → Prop} {w : zWd} {M : zM} (hn : n < 64) (hc : zLI s L x b out xs w M) (hS : S n w M) (op : Op_pensionOf N s L x b out xs S)
    (hb : ∀ j ∈ [(1 : Int32), 2, 3, 4, 5, 6, 7], ¬ (i + j < 0 ∨ L ≤ (i + j).toNatClampNeg)) (kk : ∀ w' M', zLI s L x b out xs w' M' → S (n + 1) w' M' → zJ X 2691 [some (vA (some s)), some (vA (some x)), some (vA (some b)), some (vA (some out)), some (vI i), none, none, none] [] w') : zJ X 1870 [some (vA (some s)), some (vA (some x)), some (vA (some b)), some (vA (some out)), some (vI i), none, none, none] [] w := by
  obtain ⟨a1, ha1⟩ : ∃ v, xs (i + (1 : Int32)).toNatClampNeg = v := ⟨_, rfl⟩
  have hb1 := hb (1 : Int32) (by decide)
  obtain ⟨a2, ha2⟩ : ∃ v, xs (i + (2 : Int32)).toNatClampNeg = v := ⟨_, rfl⟩
  have hb2 := hb (2 : Int32) (by decide)
  obtain ⟨o, w1, rm, M1, e1, e2, hc1, hag, hnx⟩ := op n w M a1 a2 hn hc hS
  refine j_aload_n (pc := 1870) hX dL_law_1870 rfl ?_
  refine j_aload_n (pc := 1871) hX dL_law_1871 rfl ?_
  refine j_iload (pc := 1872) hX dL_law_1872 rfl ?_
  refine j_iconst (pc := 1874) hX (1 : Int32) dL_law_1874 rfl ?_
  refine j_iadd (pc := 1875) hX dL_law_1875 ?_
  refine j_rd (pc := 1876) hX hc.1 hb1 ha1 dL_law_1876 ?_
  refine j_aload_n (pc := 1877) hX dL_law_1877 rfl ?_
  refine j_iload (pc := 1878) hX dL_law_1878 rfl ?_
  refine j_iconst (pc := 1880) hX (2 : Int32) dL_law_1880 rfl ?_
  refine j_iadd (pc := 1881) hX dL_law_1881 ?_
  refine j_rd (pc := 1882) hX hc.1 hb2 ha2 dL_law_1882 ?_
  refine j_aload_n (pc := 1883) hX dL_law_1883 rfl ?_
  refine j_callSR (pc := 1884) hX mw_pensionOf q2039 q2040 [vA (some x), vI a1, vI a2, vA (some out)] rfl rfl (Nat.le_of_ble_eq_true rfl) (by decide) dL_law_1884 (kw_pensionOf o hc.2.2.2.1 e1 (fun r hr => ⟨_, _, (fwok_pensionOf hc1 a1 a2 r).choose_spec.1⟩) (fun E hE => by subst hE; exact hag.1)) (fun v' w2 hR => ?_)
  rcases o with E | r
  · obtain ⟨rfl, hth⟩ := hR
    obtain ⟨hE, ht⟩ := hag
    obtain ⟨hc2, hn2⟩ := zLI_th hc1 hth
    have hk : ¬ cd_pensionOf E = 0 := by
      simp only [List.mem_cons, List.not_mem_nil, or_false] at hE
      rcases hE with rfl
      decide +kernel
    refine j_istore (pc := 1887) hX dL_law_1887 (by decide) [some (vA (some s)), some (vA (some x)), some (vA (some b)), some (vA (some out)), some (vI i), some (vI (cd_pensionOf E)), none, none] rfl ?_
    refine j_aload_n (pc := 1889) hX dL_law_1889 rfl ?_
    refine j_aload_n (pc := 1890) hX dL_law_1890 rfl ?_
    refine j_iload (pc := 1891) hX dL_law_1891 rfl ?_
    refine j_iconst (pc := 1893) hX (1 : Int32) dL_law_1893 rfl ?_
    refine j_iadd (pc := 1894) hX dL_law_1894 ?_
    refine j_rd (pc := 1895) hX hc2.1 hb1 ha1 dL_law_1895 ?_
    refine j_aload_n (pc := 1896) hX dL_law_1896 rfl ?_
    refine j_iload (pc := 1897) hX dL_law_1897 rfl ?_
    refine j_iconst (pc := 1899) hX (2 : Int32) dL_law_1899 rfl ?_
    refine j_iadd (pc := 1900) hX dL_law_1900 ?_
    refine j_rd (pc := 1901) hX hc2.1 hb2 ha2 dL_law_1901 ?_
    refine zJ_eq hc2.2.2.1 ?_
    refine j_callV (pc := 1902) hX (ci := 3) mt_X4_pensionOf q2713 q2714 q2715 (zIj_isC b w2 M) ⟨_, rfl, rfl⟩ [vI a1, vI a2] rfl rfl (Nat.le_of_ble_eq_true rfl) (by decide) dL_law_1902 (k_X4_pensionOf _ _ e2) ?_
    obtain ⟨hc3, ho3, hn3⟩ := zLI_mem hc2 M1
    refine j_lstore (pc := 1905) hX dL_law_1905 (by decide) [some (vA (some s)), some (vA (some x)), some (vA (some b)), some (vA (some out)), some (vI i), some (vI (cd_pensionOf E)), some (vL rm), none] rfl ?_
    refine j_aload_n (pc := 1907) hX dL_law_1907 rfl ?_
    refine j_callV (pc := 1908) hX (ci := 3) mt_X4_thrown q2456 q2457 q2458 (zIj_isC b w2 M1) ⟨_, rfl, rfl⟩ [] rfl rfl (Nat.le_of_ble_eq_true rfl) (by decide) dL_law_1908 (k_X4_thrown (n := N) _ _ rfl) ?_
    refine j_iload (pc := 1911) hX dL_law_1911 rfl ?_
    refine j_icmp_eq (pc := 1913) hX 1918 (A := some ()) (B := some ()) (o := ()) dL_law_1913 rfl (by split <;> rfl) (fun _ _ => ?_) (fun h_ _ => absurd ht h_)
    refine j_iload (pc := 1918) hX dL_law_1918 rfl ?_
    refine j_if_ne (pc := 1920) hX 1934 (A := some ()) (B := some ()) (o := ()) dL_law_1920 rfl (by split <;> rfl) (fun _ _ => ?_) (fun h_ _ => absurd h_ hk)
    refine j_goto (pc := 1934) hX 2691 dL_law_1934 rfl ?_
    refine j_fg [5, 6] [some (vA (some s)), some (vA (some x)), some (vA (some b)), some (vA (some out)), some (vI i), none, none, none] rfl ?_
    exact kk _ _ hc3 (hnx _ (hn3 _ hn2))
  · obtain ⟨xx, hfw, rfl⟩ := hR
    obtain ⟨w3, e3, hc2, hov, hn2⟩ := fwok_pensionOf hc1 a1 a2 r
    cases e3.symm.trans hfw
    refine j_istore (pc := 1887) hX dL_law_1887 (by decide) [some (vA (some s)), some (vA (some x)), some (vA (some b)), some (vA (some out)), some (vI i), some (vI (0 : Int32)), none, none] rfl ?_
    refine j_aload_n (pc := 1889) hX dL_law_1889 rfl ?_
    refine j_aload_n (pc := 1890) hX dL_law_1890 rfl ?_
    refine j_iload (pc := 1891) hX dL_law_1891 rfl ?_
    refine j_iconst (pc := 1893) hX (1 : Int32) dL_law_1893 rfl ?_
    refine j_iadd (pc := 1894) hX dL_law_1894 ?_
    refine j_rd (pc := 1895) hX hc2.1 hb1 ha1 dL_law_1895 ?_
    refine j_aload_n (pc := 1896) hX dL_law_1896 rfl ?_
    refine j_iload (pc := 1897) hX dL_law_1897 rfl ?_
    refine j_iconst (pc := 1899) hX (2 : Int32) dL_law_1899 rfl ?_
    refine j_iadd (pc := 1900) hX dL_law_1900 ?_
    refine j_rd (pc := 1901) hX hc2.1 hb2 ha2 dL_law_1901 ?_
    refine zJ_eq hc2.2.2.1 ?_
    refine j_callV (pc := 1902) hX (ci := 3) mt_X4_pensionOf q2713 q2714 q2715 (zIj_isC b w2 M) ⟨_, rfl, rfl⟩ [vI a1, vI a2] rfl rfl (Nat.le_of_ble_eq_true rfl) (by decide) dL_law_1902 (k_X4_pensionOf _ _ e2) ?_
    obtain ⟨hc3, ho3, hn3⟩ := zLI_mem hc2 M1
    refine j_lstore (pc := 1905) hX dL_law_1905 (by decide) [some (vA (some s)), some (vA (some x)), some (vA (some b)), some (vA (some out)), some (vI i), some (vI (0 : Int32)), some (vL rm), none] rfl ?_
    refine j_aload_n (pc := 1907) hX dL_law_1907 rfl ?_
    refine j_callV (pc := 1908) hX (ci := 3) mt_X4_thrown q2456 q2457 q2458 (zIj_isC b w2 M1) ⟨_, rfl, rfl⟩ [] rfl rfl (Nat.le_of_ble_eq_true rfl) (by decide) dL_law_1908 (k_X4_thrown (n := N) _ _ rfl) ?_
    have hov : aL (zIj b w2 M1) (some out) 0 = some r := (ho3 0).trans hov
    refine j_iload (pc := 1911) hX dL_law_1911 rfl ?_
    refine j_icmp_eq (pc := 1913) hX 1918 (A := some ()) (B := some ()) (o := ()) dL_law_1913 rfl (by split <;> rfl) (fun _ _ => ?_) (fun h_ _ => absurd hag.1 h_)
    refine j_iload (pc := 1918) hX dL_law_1918 rfl ?_
    refine j_if_ne (pc := 1920) hX 1934 (A := some ()) (B := some ()) (o := ()) dL_law_1920 rfl (by split <;> rfl) (fun h_ _ => absurd rfl h_) (fun _ _ => ?_)
    refine j_aload_n (pc := 1923) hX dL_law_1923 rfl ?_
    refine j_iconst (pc := 1924) hX (0 : Int32) dL_law_1924 rfl ?_
    refine j_ld (pc := 1925) hX hov dL_law_1925 ?_
    refine j_lload (pc := 1926) hX dL_law_1926 rfl ?_
    refine j_lcmp (pc := 1928) hX dL_law_1928 ?_
    refine j_if_eq (pc := 1929) hX 1934 (A := some ()) (B := some ()) (o := ()) dL_law_1929 rfl (by split <;> rfl) (fun _ _ => ?_) (fun h_ _ => absurd (by rw [hag.2]; exact lg_cmp_self _) h_)
    refine j_goto (pc := 1934) hX 2691 dL_law_1934 rfl ?_
    refine j_fg [5, 6] [some (vA (some s)), some (vA (some x)), some (vA (some b)), some (vA (some out)), some (vI i), none, none, none] rfl ?_
    exact kk _ _ hc3 (hnx _ (hn3 _ hn2))
def Op_grossFor (N s L x b out : Nat) (xs : Nat → Int32) (S : Nat → zWd → zM → Prop) : Prop := ∀ (n : Nat) (w : zWd) (M : zM) (p1 : Int32) (p2 : Int32) (p3 : Int32) (p4 : Int32) , n < 64 → zLI s L x b out xs w M → S n w M →
  ∃ (o : String ⊕ Int32) (w1 : zWd) (rm : Int32) (M1 : zM), f_X1_grossFor N (some x) p1 p2 p3 p4 w = some (o, w1) ∧ f_X4_grossFor N p1 p2 p3 p4 M = some (rm, M1) ∧ zLI s L x b out xs w1 M ∧ (match o with | .inr r => mI M1 67 = 0 ∧ (Int32.toInt64 r) = (Int32.toInt64 rm) | .inl E => E ∈ ["java/lang/IndexOutOfBoundsException", "java/lang/IllegalArgumentException"] ∧ mI M1 67 = cd_grossFor E) ∧ ∀ w2, zNx b out w1 w2 → S (n + 1) w2 M1
theorem fwok_grossFor {s L x b out : Nat} {xs : Nat → Int32} {w1 : zWd} {M : zM} (hc : zLI s L x b out xs w1 M) (p1 : Int32) (p2 : Int32) (p3 : Int32) (p4 : Int32) (r : Int32) : ∃ w2, fw_grossFor (some x) p1 p2 p3 p4 (some out) r w1 = some ((0 : Int32), w2) ∧ zLI s L x b out xs w2 M ∧ aL w2 (some out) 0 = some (Int32.toInt64 r) ∧  zNx b out w1 w2 := by
  obtain ⟨w2, e, h1, h2, h3⟩ := zLI_out hc (Int32.toInt64 r)
  refine ⟨w2, ?_, h1, h2, h3⟩
  unfold fw_grossFor
  rw [e]
  rfl
set_option maxHeartbeats 4000000 in
theorem lc_grossFor {X : zX} (hX : zGd X RX0 cL_law 8 ret 24) {s L x b out n N : Nat} {xs : Nat → Int32} {i : Int32} {S : Nat → zWd → zM → Prop} {w : zWd} {M : zM} (hn : n < 64) (hc : zLI s L x b out xs w M) (hS : S n w M) (op : Op_grossFor N s L x b out xs S)
    (hb : ∀ j ∈ [(1 : Int32), 2, 3, 4, 5, 6, 7], ¬ (i + j < 0 ∨ L ≤ (i + j).toNatClampNeg)) (kk : ∀ w' M', zLI s L x b out xs w' M' → S (n + 1) w' M' → zJ X 2691 [some (vA (some s)), some (vA (some x)), some (vA (some b)), some (vA (some out)), some (vI i), none, none, none] [] w') : zJ X 1937 [some (vA (some s)), some (vA (some x)), some (vA (some b)), some (vA (some out)), some (vI i), none, none, none] [] w := by
  obtain ⟨a1, ha1⟩ : ∃ v, xs (i + (1 : Int32)).toNatClampNeg = v := ⟨_, rfl⟩
  have hb1 := hb (1 : Int32) (by decide)
  obtain ⟨a2, ha2⟩ : ∃ v, xs (i + (2 : Int32)).toNatClampNeg = v := ⟨_, rfl⟩
  have hb2 := hb (2 : Int32) (by decide)
  obtain ⟨a3, ha3⟩ : ∃ v, xs (i + (3 : Int32)).toNatClampNeg = v := ⟨_, rfl⟩
  have hb3 := hb (3 : Int32) (by decide)
  obtain ⟨a4, ha4⟩ : ∃ v, xs (i + (4 : Int32)).toNatClampNeg = v := ⟨_, rfl⟩
  have hb4 := hb (4 : Int32) (by decide)
  obtain ⟨o, w1, rm, M1, e1, e2, hc1, hag, hnx⟩ := op n w M a1 a2 a3 a4 hn hc hS
  refine j_aload_n (pc := 1937) hX dL_law_1937 rfl ?_
  refine j_aload_n (pc := 1938) hX dL_law_1938 rfl ?_
  refine j_iload (pc := 1939) hX dL_law_1939 rfl ?_
  refine j_iconst (pc := 1941) hX (1 : Int32) dL_law_1941 rfl ?_
  refine j_iadd (pc := 1942) hX dL_law_1942 ?_
  refine j_rd (pc := 1943) hX hc.1 hb1 ha1 dL_law_1943 ?_
  refine j_aload_n (pc := 1944) hX dL_law_1944 rfl ?_
  refine j_iload (pc := 1945) hX dL_law_1945 rfl ?_
  refine j_iconst (pc := 1947) hX (2 : Int32) dL_law_1947 rfl ?_
  refine j_iadd (pc := 1948) hX dL_law_1948 ?_
  refine j_rd (pc := 1949) hX hc.1 hb2 ha2 dL_law_1949 ?_
  refine j_aload_n (pc := 1950) hX dL_law_1950 rfl ?_
  refine j_iload (pc := 1951) hX dL_law_1951 rfl ?_
  refine j_iconst (pc := 1953) hX (3 : Int32) dL_law_1953 rfl ?_
  refine j_iadd (pc := 1954) hX dL_law_1954 ?_
  refine j_rd (pc := 1955) hX hc.1 hb3 ha3 dL_law_1955 ?_
  refine j_aload_n (pc := 1956) hX dL_law_1956 rfl ?_
  refine j_iload (pc := 1957) hX dL_law_1957 rfl ?_
  refine j_iconst (pc := 1959) hX (4 : Int32) dL_law_1959 rfl ?_
  refine j_iadd (pc := 1960) hX dL_law_1960 ?_
  refine j_rd (pc := 1961) hX hc.1 hb4 ha4 dL_law_1961 ?_
  refine j_aload_n (pc := 1962) hX dL_law_1962 rfl ?_
  refine j_callSR (pc := 1963) hX mw_grossFor q2046 q2047 [vA (some x), vI a1, vI a2, vI a3, vI a4, vA (some out)] rfl rfl (Nat.le_of_ble_eq_true rfl) (by decide) dL_law_1963 (kw_grossFor o hc.2.2.2.1 e1 (fun r hr => ⟨_, _, (fwok_grossFor hc1 a1 a2 a3 a4 r).choose_spec.1⟩) (fun E hE => by subst hE; exact hag.1)) (fun v' w2 hR => ?_)
  rcases o with E | r
  · obtain ⟨rfl, hth⟩ := hR
    obtain ⟨hE, ht⟩ := hag
    obtain ⟨hc2, hn2⟩ := zLI_th hc1 hth
    have hk : ¬ cd_grossFor E = 0 := by
      simp only [List.mem_cons, List.not_mem_nil, or_false] at hE
      rcases hE with rfl | rfl <;> decide +kernel
    refine j_istore (pc := 1966) hX dL_law_1966 (by decide) [some (vA (some s)), some (vA (some x)), some (vA (some b)), some (vA (some out)), some (vI i), some (vI (cd_grossFor E)), none, none] rfl ?_
    refine j_aload_n (pc := 1968) hX dL_law_1968 rfl ?_
    refine j_aload_n (pc := 1969) hX dL_law_1969 rfl ?_
    refine j_iload (pc := 1970) hX dL_law_1970 rfl ?_
    refine j_iconst (pc := 1972) hX (1 : Int32) dL_law_1972 rfl ?_
    refine j_iadd (pc := 1973) hX dL_law_1973 ?_
    refine j_rd (pc := 1974) hX hc2.1 hb1 ha1 dL_law_1974 ?_
    refine j_aload_n (pc := 1975) hX dL_law_1975 rfl ?_
    refine j_iload (pc := 1976) hX dL_law_1976 rfl ?_
    refine j_iconst (pc := 1978) hX (2 : Int32) dL_law_1978 rfl ?_
    refine j_iadd (pc := 1979) hX dL_law_1979 ?_
    refine j_rd (pc := 1980) hX hc2.1 hb2 ha2 dL_law_1980 ?_
    refine j_aload_n (pc := 1981) hX dL_law_1981 rfl ?_
    refine j_iload (pc := 1982) hX dL_law_1982 rfl ?_
    refine j_iconst (pc := 1984) hX (3 : Int32) dL_law_1984 rfl ?_
    refine j_iadd (pc := 1985) hX dL_law_1985 ?_
    refine j_rd (pc := 1986) hX hc2.1 hb3 ha3 dL_law_1986 ?_
    refine j_aload_n (pc := 1987) hX dL_law_1987 rfl ?_
    refine j_iload (pc := 1988) hX dL_law_1988 rfl ?_
    refine j_iconst (pc := 1990) hX (4 : Int32) dL_law_1990 rfl ?_
    refine j_iadd (pc := 1991) hX dL_law_1991 ?_
    refine j_rd (pc := 1992) hX hc2.1 hb4 ha4 dL_law_1992 ?_
    refine zJ_eq hc2.2.2.1 ?_
    refine j_callV (pc := 1993) hX (ci := 3) mt_X4_grossFor q2717 q2718 q2719 (zIj_isC b w2 M) ⟨_, rfl, rfl⟩ [vI a1, vI a2, vI a3, vI a4] rfl rfl (Nat.le_of_ble_eq_true rfl) (by decide) dL_law_1993 (k_X4_grossFor _ _ e2) ?_
    obtain ⟨hc3, ho3, hn3⟩ := zLI_mem hc2 M1
    refine j_istore (pc := 1996) hX dL_law_1996 (by decide) [some (vA (some s)), some (vA (some x)), some (vA (some b)), some (vA (some out)), some (vI i), some (vI (cd_grossFor E)), some (vI rm), none] rfl ?_
    refine j_aload_n (pc := 1998) hX dL_law_1998 rfl ?_
    refine j_callV (pc := 1999) hX (ci := 3) mt_X4_thrown q2456 q2457 q2458 (zIj_isC b w2 M1) ⟨_, rfl, rfl⟩ [] rfl rfl (Nat.le_of_ble_eq_true rfl) (by decide) dL_law_1999 (k_X4_thrown (n := N) _ _ rfl) ?_
    refine j_iload (pc := 2002) hX dL_law_2002 rfl ?_
    refine j_icmp_eq (pc := 2004) hX 2009 (A := some ()) (B := some ()) (o := ()) dL_law_2004 rfl (by split <;> rfl) (fun _ _ => ?_) (fun h_ _ => absurd ht h_)
    refine j_iload (pc := 2009) hX dL_law_2009 rfl ?_
    refine j_if_ne (pc := 2011) hX 2026 (A := some ()) (B := some ()) (o := ()) dL_law_2011 rfl (by split <;> rfl) (fun _ _ => ?_) (fun h_ _ => absurd h_ hk)
    refine j_goto (pc := 2026) hX 2691 dL_law_2026 rfl ?_
    refine j_fg [5, 6] [some (vA (some s)), some (vA (some x)), some (vA (some b)), some (vA (some out)), some (vI i), none, none, none] rfl ?_
    exact kk _ _ hc3 (hnx _ (hn3 _ hn2))
  · obtain ⟨xx, hfw, rfl⟩ := hR
    obtain ⟨w3, e3, hc2, hov, hn2⟩ := fwok_grossFor hc1 a1 a2 a3 a4 r
    cases e3.symm.trans hfw
    refine j_istore (pc := 1966) hX dL_law_1966 (by decide) [some (vA (some s)), some (vA (some x)), some (vA (some b)), some (vA (some out)), some (vI i), some (vI (0 : Int32)), none, none] rfl ?_
    refine j_aload_n (pc := 1968) hX dL_law_1968 rfl ?_
    refine j_aload_n (pc := 1969) hX dL_law_1969 rfl ?_
    refine j_iload (pc := 1970) hX dL_law_1970 rfl ?_
    refine j_iconst (pc := 1972) hX (1 : Int32) dL_law_1972 rfl ?_
    refine j_iadd (pc := 1973) hX dL_law_1973 ?_
    refine j_rd (pc := 1974) hX hc2.1 hb1 ha1 dL_law_1974 ?_
    refine j_aload_n (pc := 1975) hX dL_law_1975 rfl ?_
    refine j_iload (pc := 1976) hX dL_law_1976 rfl ?_
    refine j_iconst (pc := 1978) hX (2 : Int32) dL_law_1978 rfl ?_
    refine j_iadd (pc := 1979) hX dL_law_1979 ?_
    refine j_rd (pc := 1980) hX hc2.1 hb2 ha2 dL_law_1980 ?_
    refine j_aload_n (pc := 1981) hX dL_law_1981 rfl ?_
    refine j_iload (pc := 1982) hX dL_law_1982 rfl ?_
    refine j_iconst (pc := 1984) hX (3 : Int32) dL_law_1984 rfl ?_
    refine j_iadd (pc := 1985) hX dL_law_1985 ?_
    refine j_rd (pc := 1986) hX hc2.1 hb3 ha3 dL_law_1986 ?_
    refine j_aload_n (pc := 1987) hX dL_law_1987 rfl ?_
    refine j_iload (pc := 1988) hX dL_law_1988 rfl ?_
    refine j_iconst (pc := 1990) hX (4 : Int32) dL_law_1990 rfl ?_
    refine j_iadd (pc := 1991) hX dL_law_1991 ?_
    refine j_rd (pc := 1992) hX hc2.1 hb4 ha4 dL_law_1992 ?_
    refine zJ_eq hc2.2.2.1 ?_
    refine j_callV (pc := 1993) hX (ci := 3) mt_X4_grossFor q2717 q2718 q2719 (zIj_isC b w2 M) ⟨_, rfl, rfl⟩ [vI a1, vI a2, vI a3, vI a4] rfl rfl (Nat.le_of_ble_eq_true rfl) (by decide) dL_law_1993 (k_X4_grossFor _ _ e2) ?_
    obtain ⟨hc3, ho3, hn3⟩ := zLI_mem hc2 M1
    refine j_istore (pc := 1996) hX dL_law_1996 (by decide) [some (vA (some s)), some (vA (some x)), some (vA (some b)), some (vA (some out)), some (vI i), some (vI (0 : Int32)), some (vI rm), none] rfl ?_
    refine j_aload_n (pc := 1998) hX dL_law_1998 rfl ?_
    refine j_callV (pc := 1999) hX (ci := 3) mt_X4_thrown q2456 q2457 q2458 (zIj_isC b w2 M1) ⟨_, rfl, rfl⟩ [] rfl rfl (Nat.le_of_ble_eq_true rfl) (by decide) dL_law_1999 (k_X4_thrown (n := N) _ _ rfl) ?_
    have hov : aL (zIj b w2 M1) (some out) 0 = some (Int32.toInt64 r) := (ho3 0).trans hov
    refine j_iload (pc := 2002) hX dL_law_2002 rfl ?_
    refine j_icmp_eq (pc := 2004) hX 2009 (A := some ()) (B := some ()) (o := ()) dL_law_2004 rfl (by split <;> rfl) (fun _ _ => ?_) (fun h_ _ => absurd hag.1 h_)
    refine j_iload (pc := 2009) hX dL_law_2009 rfl ?_
    refine j_if_ne (pc := 2011) hX 2026 (A := some ()) (B := some ()) (o := ()) dL_law_2011 rfl (by split <;> rfl) (fun h_ _ => absurd rfl h_) (fun _ _ => ?_)
    refine j_aload_n (pc := 2014) hX dL_law_2014 rfl ?_
    refine j_iconst (pc := 2015) hX (0 : Int32) dL_law_2015 rfl ?_
    refine j_ld (pc := 2016) hX hov dL_law_2016 ?_
    refine j_iload (pc := 2017) hX dL_law_2017 rfl ?_
    refine j_i2l (pc := 2019) hX dL_law_2019 ?_
    refine j_lcmp (pc := 2020) hX dL_law_2020 ?_
    refine j_if_eq (pc := 2021) hX 2026 (A := some ()) (B := some ()) (o := ()) dL_law_2021 rfl (by split <;> rfl) (fun _ _ => ?_) (fun h_ _ => absurd (by rw [hag.2]; exact lg_cmp_self _) h_)
    refine j_goto (pc := 2026) hX 2691 dL_law_2026 rfl ?_
    refine j_fg [5, 6] [some (vA (some s)), some (vA (some x)), some (vA (some b)), some (vA (some out)), some (vI i), none, none, none] rfl ?_
    exact kk _ _ hc3 (hnx _ (hn3 _ hn2))
def Op_garnish (N s L x b out : Nat) (xs : Nat → Int32) (S : Nat → zWd → zM → Prop) : Prop := ∀ (n : Nat) (w : zWd) (M : zM) (p1 : Int32) (p2 : Int32) (p3 : Int32) (p4 : Int32) (p5 : Int32) (p6 : Int32) , n < 64 → zLI s L x b out xs w M → S n w M →
  ∃ (o : String ⊕ Int32) (w1 : zWd) (rm : Int32) (M1 : zM), f_X1_garnish N (some x) p1 p2 p3 p4 p5 p6 w = some (o, w1) ∧ f_X4_garnish N p1 p2 p3 p4 p5 p6 M = some (rm, M1) ∧ zLI s L x b out xs w1 M ∧ (match o with | .inr r => mI M1 67 = 0 ∧ (Int32.toInt64 r) = (Int32.toInt64 rm) | .inl E => E ∈ ["java/lang/IndexOutOfBoundsException", "java/lang/IllegalArgumentException", "java/lang/IllegalStateException"] ∧ mI M1 67 = cd_garnish E) ∧ ∀ w2, zNx b out w1 w2 → S (n + 1) w2 M1
theorem fwok_garnish {s L x b out : Nat} {xs : Nat → Int32} {w1 : zWd} {M : zM} (hc : zLI s L x b out xs w1 M) (p1 : Int32) (p2 : Int32) (p3 : Int32) (p4 : Int32) (p5 : Int32) (p6 : Int32) (r : Int32) : ∃ w2, fw_garnish (some x) p1 p2 p3 p4 p5 p6 (some out) r w1 = some ((0 : Int32), w2) ∧ zLI s L x b out xs w2 M ∧ aL w2 (some out) 0 = some (Int32.toInt64 r) ∧  zNx b out w1 w2 := by
  obtain ⟨w2, e, h1, h2, h3⟩ := zLI_out hc (Int32.toInt64 r)
  refine ⟨w2, ?_, h1, h2, h3⟩
  unfold fw_garnish
  rw [e]
  rfl
set_option maxHeartbeats 4000000 in
theorem lc_garnish {X : zX} (hX : zGd X RX0 cL_law 8 ret 24) {s L x b out n N : Nat} {xs : Nat → Int32} {i : Int32} {S : Nat → zWd → zM → Prop} {w : zWd} {M : zM} (hn : n < 64) (hc : zLI s L x b out xs w M) (hS : S n w M) (op : Op_garnish N s L x b out xs S)
    (hb : ∀ j ∈ [(1 : Int32), 2, 3, 4, 5, 6, 7], ¬ (i + j < 0 ∨ L ≤ (i + j).toNatClampNeg)) (kk : ∀ w' M', zLI s L x b out xs w' M' → S (n + 1) w' M' → zJ X 2691 [some (vA (some s)), some (vA (some x)), some (vA (some b)), some (vA (some out)), some (vI i), none, none, none] [] w') : zJ X 2029 [some (vA (some s)), some (vA (some x)), some (vA (some b)), some (vA (some out)), some (vI i), none, none, none] [] w := by
  obtain ⟨a1, ha1⟩ : ∃ v, xs (i + (1 : Int32)).toNatClampNeg = v := ⟨_, rfl⟩
  have hb1 := hb (1 : Int32) (by decide)
  obtain ⟨a2, ha2⟩ : ∃ v, xs (i + (2 : Int32)).toNatClampNeg = v := ⟨_, rfl⟩
  have hb2 := hb (2 : Int32) (by decide)
  obtain ⟨a3, ha3⟩ : ∃ v, xs (i + (3 : Int32)).toNatClampNeg = v := ⟨_, rfl⟩
  have hb3 := hb (3 : Int32) (by decide)
  obtain ⟨a4, ha4⟩ : ∃ v, xs (i + (4 : Int32)).toNatClampNeg = v := ⟨_, rfl⟩
  have hb4 := hb (4 : Int32) (by decide)
  obtain ⟨a5, ha5⟩ : ∃ v, xs (i + (5 : Int32)).toNatClampNeg = v := ⟨_, rfl⟩
  have hb5 := hb (5 : Int32) (by decide)
  obtain ⟨a6, ha6⟩ : ∃ v, xs (i + (6 : Int32)).toNatClampNeg = v := ⟨_, rfl⟩
  have hb6 := hb (6 : Int32) (by decide)
  obtain ⟨o, w1, rm, M1, e1, e2, hc1, hag, hnx⟩ := op n w M a1 a2 a3 a4 a5 a6 hn hc hS
  refine j_aload_n (pc := 2029) hX dL_law_2029 rfl ?_
  refine j_aload_n (pc := 2030) hX dL_law_2030 rfl ?_
  refine j_iload (pc := 2031) hX dL_law_2031 rfl ?_
  refine j_iconst (pc := 2033) hX (1 : Int32) dL_law_2033 rfl ?_
  refine j_iadd (pc := 2034) hX dL_law_2034 ?_
  refine j_rd (pc := 2035) hX hc.1 hb1 ha1 dL_law_2035 ?_
  refine j_aload_n (pc := 2036) hX dL_law_2036 rfl ?_
  refine j_iload (pc := 2037) hX dL_law_2037 rfl ?_
  refine j_iconst (pc := 2039) hX (2 : Int32) dL_law_2039 rfl ?_
  refine j_iadd (pc := 2040) hX dL_law_2040 ?_
  refine j_rd (pc := 2041) hX hc.1 hb2 ha2 dL_law_2041 ?_
  refine j_aload_n (pc := 2042) hX dL_law_2042 rfl ?_
  refine j_iload (pc := 2043) hX dL_law_2043 rfl ?_
  refine j_iconst (pc := 2045) hX (3 : Int32) dL_law_2045 rfl ?_
  refine j_iadd (pc := 2046) hX dL_law_2046 ?_
  refine j_rd (pc := 2047) hX hc.1 hb3 ha3 dL_law_2047 ?_
  refine j_aload_n (pc := 2048) hX dL_law_2048 rfl ?_
  refine j_iload (pc := 2049) hX dL_law_2049 rfl ?_
  refine j_iconst (pc := 2051) hX (4 : Int32) dL_law_2051 rfl ?_
  refine j_iadd (pc := 2052) hX dL_law_2052 ?_
  refine j_rd (pc := 2053) hX hc.1 hb4 ha4 dL_law_2053 ?_
  refine j_aload_n (pc := 2054) hX dL_law_2054 rfl ?_
  refine j_iload (pc := 2055) hX dL_law_2055 rfl ?_
  refine j_iconst (pc := 2057) hX (5 : Int32) dL_law_2057 rfl ?_
  refine j_iadd (pc := 2058) hX dL_law_2058 ?_
  refine j_rd (pc := 2059) hX hc.1 hb5 ha5 dL_law_2059 ?_
  refine j_aload_n (pc := 2060) hX dL_law_2060 rfl ?_
  refine j_iload (pc := 2061) hX dL_law_2061 rfl ?_
  refine j_bipush (pc := 2063) hX (6 : Int32) dL_law_2063 (by decide +kernel) ?_
  refine j_iadd (pc := 2065) hX dL_law_2065 ?_
  refine j_rd (pc := 2066) hX hc.1 hb6 ha6 dL_law_2066 ?_
  refine j_aload_n (pc := 2067) hX dL_law_2067 rfl ?_
  refine j_callSR (pc := 2068) hX mw_garnish q2054 q2055 [vA (some x), vI a1, vI a2, vI a3, vI a4, vI a5, vI a6, vA (some out)] rfl rfl (Nat.le_of_ble_eq_true rfl) (by decide) dL_law_2068 (kw_garnish o hc.2.2.2.1 e1 (fun r hr => ⟨_, _, (fwok_garnish hc1 a1 a2 a3 a4 a5 a6 r).choose_spec.1⟩) (fun E hE => by subst hE; exact hag.1)) (fun v' w2 hR => ?_)
  rcases o with E | r
  · obtain ⟨rfl, hth⟩ := hR
    obtain ⟨hE, ht⟩ := hag
    obtain ⟨hc2, hn2⟩ := zLI_th hc1 hth
    have hk : ¬ cd_garnish E = 0 := by
      simp only [List.mem_cons, List.not_mem_nil, or_false] at hE
      rcases hE with rfl | rfl | rfl <;> decide +kernel
    refine j_istore (pc := 2071) hX dL_law_2071 (by decide) [some (vA (some s)), some (vA (some x)), some (vA (some b)), some (vA (some out)), some (vI i), some (vI (cd_garnish E)), none, none] rfl ?_
    refine j_aload_n (pc := 2073) hX dL_law_2073 rfl ?_
    refine j_aload_n (pc := 2074) hX dL_law_2074 rfl ?_
    refine j_iload (pc := 2075) hX dL_law_2075 rfl ?_
    refine j_iconst (pc := 2077) hX (1 : Int32) dL_law_2077 rfl ?_
    refine j_iadd (pc := 2078) hX dL_law_2078 ?_
    refine j_rd (pc := 2079) hX hc2.1 hb1 ha1 dL_law_2079 ?_
    refine j_aload_n (pc := 2080) hX dL_law_2080 rfl ?_
    refine j_iload (pc := 2081) hX dL_law_2081 rfl ?_
    refine j_iconst (pc := 2083) hX (2 : Int32) dL_law_2083 rfl ?_
    refine j_iadd (pc := 2084) hX dL_law_2084 ?_
    refine j_rd (pc := 2085) hX hc2.1 hb2 ha2 dL_law_2085 ?_
    refine j_aload_n (pc := 2086) hX dL_law_2086 rfl ?_
    refine j_iload (pc := 2087) hX dL_law_2087 rfl ?_
    refine j_iconst (pc := 2089) hX (3 : Int32) dL_law_2089 rfl ?_
    refine j_iadd (pc := 2090) hX dL_law_2090 ?_
    refine j_rd (pc := 2091) hX hc2.1 hb3 ha3 dL_law_2091 ?_
    refine j_aload_n (pc := 2092) hX dL_law_2092 rfl ?_
    refine j_iload (pc := 2093) hX dL_law_2093 rfl ?_
    refine j_iconst (pc := 2095) hX (4 : Int32) dL_law_2095 rfl ?_
    refine j_iadd (pc := 2096) hX dL_law_2096 ?_
    refine j_rd (pc := 2097) hX hc2.1 hb4 ha4 dL_law_2097 ?_
    refine j_aload_n (pc := 2098) hX dL_law_2098 rfl ?_
    refine j_iload (pc := 2099) hX dL_law_2099 rfl ?_
    refine j_iconst (pc := 2101) hX (5 : Int32) dL_law_2101 rfl ?_
    refine j_iadd (pc := 2102) hX dL_law_2102 ?_
    refine j_rd (pc := 2103) hX hc2.1 hb5 ha5 dL_law_2103 ?_
    refine j_aload_n (pc := 2104) hX dL_law_2104 rfl ?_
    refine j_iload (pc := 2105) hX dL_law_2105 rfl ?_
    refine j_bipush (pc := 2107) hX (6 : Int32) dL_law_2107 (by decide +kernel) ?_
    refine j_iadd (pc := 2109) hX dL_law_2109 ?_
    refine j_rd (pc := 2110) hX hc2.1 hb6 ha6 dL_law_2110 ?_
    refine zJ_eq hc2.2.2.1 ?_
    refine j_callV (pc := 2111) hX (ci := 3) mt_X4_garnish q2721 q2722 q2723 (zIj_isC b w2 M) ⟨_, rfl, rfl⟩ [vI a1, vI a2, vI a3, vI a4, vI a5, vI a6] rfl rfl (Nat.le_of_ble_eq_true rfl) (by decide) dL_law_2111 (k_X4_garnish _ _ e2) ?_
    obtain ⟨hc3, ho3, hn3⟩ := zLI_mem hc2 M1
    refine j_istore (pc := 2114) hX dL_law_2114 (by decide) [some (vA (some s)), some (vA (some x)), some (vA (some b)), some (vA (some out)), some (vI i), some (vI (cd_garnish E)), some (vI rm), none] rfl ?_
    refine j_aload_n (pc := 2116) hX dL_law_2116 rfl ?_
    refine j_callV (pc := 2117) hX (ci := 3) mt_X4_thrown q2456 q2457 q2458 (zIj_isC b w2 M1) ⟨_, rfl, rfl⟩ [] rfl rfl (Nat.le_of_ble_eq_true rfl) (by decide) dL_law_2117 (k_X4_thrown (n := N) _ _ rfl) ?_
    refine j_iload (pc := 2120) hX dL_law_2120 rfl ?_
    refine j_icmp_eq (pc := 2122) hX 2127 (A := some ()) (B := some ()) (o := ()) dL_law_2122 rfl (by split <;> rfl) (fun _ _ => ?_) (fun h_ _ => absurd ht h_)
    refine j_iload (pc := 2127) hX dL_law_2127 rfl ?_
    refine j_if_ne (pc := 2129) hX 2144 (A := some ()) (B := some ()) (o := ()) dL_law_2129 rfl (by split <;> rfl) (fun _ _ => ?_) (fun h_ _ => absurd h_ hk)
    refine j_goto (pc := 2144) hX 2691 dL_law_2144 rfl ?_
    refine j_fg [5, 6] [some (vA (some s)), some (vA (some x)), some (vA (some b)), some (vA (some out)), some (vI i), none, none, none] rfl ?_
    exact kk _ _ hc3 (hnx _ (hn3 _ hn2))
  · obtain ⟨xx, hfw, rfl⟩ := hR
    obtain ⟨w3, e3, hc2, hov, hn2⟩ := fwok_garnish hc1 a1 a2 a3 a4 a5 a6 r
    cases e3.symm.trans hfw
    refine j_istore (pc := 2071) hX dL_law_2071 (by decide) [some (vA (some s)), some (vA (some x)), some (vA (some b)), some (vA (some out)), some (vI i), some (vI (0 : Int32)), none, none] rfl ?_
    refine j_aload_n (pc := 2073) hX dL_law_2073 rfl ?_
    refine j_aload_n (pc := 2074) hX dL_law_2074 rfl ?_
    refine j_iload (pc := 2075) hX dL_law_2075 rfl ?_
    refine j_iconst (pc := 2077) hX (1 : Int32) dL_law_2077 rfl ?_
    refine j_iadd (pc := 2078) hX dL_law_2078 ?_
    refine j_rd (pc := 2079) hX hc2.1 hb1 ha1 dL_law_2079 ?_
    refine j_aload_n (pc := 2080) hX dL_law_2080 rfl ?_
    refine j_iload (pc := 2081) hX dL_law_2081 rfl ?_
    refine j_iconst (pc := 2083) hX (2 : Int32) dL_law_2083 rfl ?_
    refine j_iadd (pc := 2084) hX dL_law_2084 ?_
    refine j_rd (pc := 2085) hX hc2.1 hb2 ha2 dL_law_2085 ?_
    refine j_aload_n (pc := 2086) hX dL_law_2086 rfl ?_
    refine j_iload (pc := 2087) hX dL_law_2087 rfl ?_
    refine j_iconst (pc := 2089) hX (3 : Int32) dL_law_2089 rfl ?_
    refine j_iadd (pc := 2090) hX dL_law_2090 ?_
    refine j_rd (pc := 2091) hX hc2.1 hb3 ha3 dL_law_2091 ?_
    refine j_aload_n (pc := 2092) hX dL_law_2092 rfl ?_
    refine j_iload (pc := 2093) hX dL_law_2093 rfl ?_
    refine j_iconst (pc := 2095) hX (4 : Int32) dL_law_2095 rfl ?_
    refine j_iadd (pc := 2096) hX dL_law_2096 ?_
    refine j_rd (pc := 2097) hX hc2.1 hb4 ha4 dL_law_2097 ?_
    refine j_aload_n (pc := 2098) hX dL_law_2098 rfl ?_
    refine j_iload (pc := 2099) hX dL_law_2099 rfl ?_
    refine j_iconst (pc := 2101) hX (5 : Int32) dL_law_2101 rfl ?_
    refine j_iadd (pc := 2102) hX dL_law_2102 ?_
    refine j_rd (pc := 2103) hX hc2.1 hb5 ha5 dL_law_2103 ?_
    refine j_aload_n (pc := 2104) hX dL_law_2104 rfl ?_
    refine j_iload (pc := 2105) hX dL_law_2105 rfl ?_
    refine j_bipush (pc := 2107) hX (6 : Int32) dL_law_2107 (by decide +kernel) ?_
    refine j_iadd (pc := 2109) hX dL_law_2109 ?_
    refine j_rd (pc := 2110) hX hc2.1 hb6 ha6 dL_law_2110 ?_
    refine zJ_eq hc2.2.2.1 ?_
    refine j_callV (pc := 2111) hX (ci := 3) mt_X4_garnish q2721 q2722 q2723 (zIj_isC b w2 M) ⟨_, rfl, rfl⟩ [vI a1, vI a2, vI a3, vI a4, vI a5, vI a6] rfl rfl (Nat.le_of_ble_eq_true rfl) (by decide) dL_law_2111 (k_X4_garnish _ _ e2) ?_
    obtain ⟨hc3, ho3, hn3⟩ := zLI_mem hc2 M1
    refine j_istore (pc := 2114) hX dL_law_2114 (by decide) [some (vA (some s)), some (vA (some x)), some (vA (some b)), some (vA (some out)), some (vI i), some (vI (0 : Int32)), some (vI rm), none] rfl ?_
    refine j_aload_n (pc := 2116) hX dL_law_2116 rfl ?_
    refine j_callV (pc := 2117) hX (ci := 3) mt_X4_thrown q2456 q2457 q2458 (zIj_isC b w2 M1) ⟨_, rfl, rfl⟩ [] rfl rfl (Nat.le_of_ble_eq_true rfl) (by decide) dL_law_2117 (k_X4_thrown (n := N) _ _ rfl) ?_
    have hov : aL (zIj b w2 M1) (some out) 0 = some (Int32.toInt64 r) := (ho3 0).trans hov
    refine j_iload (pc := 2120) hX dL_law_2120 rfl ?_
    refine j_icmp_eq (pc := 2122) hX 2127 (A := some ()) (B := some ()) (o := ()) dL_law_2122 rfl (by split <;> rfl) (fun _ _ => ?_) (fun h_ _ => absurd hag.1 h_)
    refine j_iload (pc := 2127) hX dL_law_2127 rfl ?_
    refine j_if_ne (pc := 2129) hX 2144 (A := some ()) (B := some ()) (o := ()) dL_law_2129 rfl (by split <;> rfl) (fun h_ _ => absurd rfl h_) (fun _ _ => ?_)
    refine j_aload_n (pc := 2132) hX dL_law_2132 rfl ?_
    refine j_iconst (pc := 2133) hX (0 : Int32) dL_law_2133 rfl ?_
    refine j_ld (pc := 2134) hX hov dL_law_2134 ?_
    refine j_iload (pc := 2135) hX dL_law_2135 rfl ?_
    refine j_i2l (pc := 2137) hX dL_law_2137 ?_
    refine j_lcmp (pc := 2138) hX dL_law_2138 ?_
    refine j_if_eq (pc := 2139) hX 2144 (A := some ()) (B := some ()) (o := ()) dL_law_2139 rfl (by split <;> rfl) (fun _ _ => ?_) (fun h_ _ => absurd (by rw [hag.2]; exact lg_cmp_self _) h_)
    refine j_goto (pc := 2144) hX 2691 dL_law_2144 rfl ?_
    refine j_fg [5, 6] [some (vA (some s)), some (vA (some x)), some (vA (some b)), some (vA (some out)), some (vI i), none, none, none] rfl ?_
    exact kk _ _ hc3 (hnx _ (hn3 _ hn2))
def Op_takenBy (N s L x b out : Nat) (xs : Nat → Int32) (S : Nat → zWd → zM → Prop) : Prop := ∀ (n : Nat) (w : zWd) (M : zM) (p1 : Int32) (p2 : Int32) , n < 64 → zLI s L x b out xs w M → S n w M →
  ∃ (o : String ⊕ Int64) (w1 : zWd) (rm : Int64) (M1 : zM), f_X1_takenBy N (some x) p1 p2 w = some (o, w1) ∧ f_X4_takenBy N p1 p2 M = some (rm, M1) ∧ zLI s L x b out xs w1 M ∧ (match o with | .inr r => mI M1 67 = 0 ∧ r = rm | .inl E => E ∈ ["java/lang/IndexOutOfBoundsException"] ∧ mI M1 67 = cd_takenBy E) ∧ ∀ w2, zNx b out w1 w2 → S (n + 1) w2 M1
theorem fwok_takenBy {s L x b out : Nat} {xs : Nat → Int32} {w1 : zWd} {M : zM} (hc : zLI s L x b out xs w1 M) (p1 : Int32) (p2 : Int32) (r : Int64) : ∃ w2, fw_takenBy (some x) p1 p2 (some out) r w1 = some ((0 : Int32), w2) ∧ zLI s L x b out xs w2 M ∧ aL w2 (some out) 0 = some r ∧  zNx b out w1 w2 := by
  obtain ⟨w2, e, h1, h2, h3⟩ := zLI_out hc r
  refine ⟨w2, ?_, h1, h2, h3⟩
  unfold fw_takenBy
  rw [e]
  rfl
set_option maxHeartbeats 4000000 in
theorem lc_takenBy {X : zX} (hX : zGd X RX0 cL_law 8 ret 24) {s L x b out n N : Nat} {xs : Nat → Int32} {i : Int32} {S : Nat → zWd → zM → Prop} {w : zWd} {M : zM} (hn : n < 64) (hc : zLI s L x b out xs w M) (hS : S n w M) (op : Op_takenBy N s L x b out xs S)
    (hb : ∀ j ∈ [(1 : Int32), 2, 3, 4, 5, 6, 7], ¬ (i + j < 0 ∨ L ≤ (i + j).toNatClampNeg)) (kk : ∀ w' M', zLI s L x b out xs w' M' → S (n + 1) w' M' → zJ X 2691 [some (vA (some s)), some (vA (some x)), some (vA (some b)), some (vA (some out)), some (vI i), none, none, none] [] w') : zJ X 2147 [some (vA (some s)), some (vA (some x)), some (vA (some b)), some (vA (some out)), some (vI i), none, none, none] [] w := by
  obtain ⟨a1, ha1⟩ : ∃ v, xs (i + (1 : Int32)).toNatClampNeg = v := ⟨_, rfl⟩
  have hb1 := hb (1 : Int32) (by decide)
  obtain ⟨a2, ha2⟩ : ∃ v, xs (i + (2 : Int32)).toNatClampNeg = v := ⟨_, rfl⟩
  have hb2 := hb (2 : Int32) (by decide)
  obtain ⟨o, w1, rm, M1, e1, e2, hc1, hag, hnx⟩ := op n w M a1 a2 hn hc hS
  refine j_aload_n (pc := 2147) hX dL_law_2147 rfl ?_
  refine j_aload_n (pc := 2148) hX dL_law_2148 rfl ?_
  refine j_iload (pc := 2149) hX dL_law_2149 rfl ?_
  refine j_iconst (pc := 2151) hX (1 : Int32) dL_law_2151 rfl ?_
  refine j_iadd (pc := 2152) hX dL_law_2152 ?_
  refine j_rd (pc := 2153) hX hc.1 hb1 ha1 dL_law_2153 ?_
  refine j_aload_n (pc := 2154) hX dL_law_2154 rfl ?_
  refine j_iload (pc := 2155) hX dL_law_2155 rfl ?_
  refine j_iconst (pc := 2157) hX (2 : Int32) dL_law_2157 rfl ?_
  refine j_iadd (pc := 2158) hX dL_law_2158 ?_
  refine j_rd (pc := 2159) hX hc.1 hb2 ha2 dL_law_2159 ?_
  refine j_aload_n (pc := 2160) hX dL_law_2160 rfl ?_
  refine j_callSR (pc := 2161) hX mw_takenBy q2134 q2135 [vA (some x), vI a1, vI a2, vA (some out)] rfl rfl (Nat.le_of_ble_eq_true rfl) (by decide) dL_law_2161 (kw_takenBy o hc.2.2.2.1 e1 (fun r hr => ⟨_, _, (fwok_takenBy hc1 a1 a2 r).choose_spec.1⟩) (fun E hE => by subst hE; exact hag.1)) (fun v' w2 hR => ?_)
  rcases o with E | r
  · obtain ⟨rfl, hth⟩ := hR
    obtain ⟨hE, ht⟩ := hag
    obtain ⟨hc2, hn2⟩ := zLI_th hc1 hth
    have hk : ¬ cd_takenBy E = 0 := by
      simp only [List.mem_cons, List.not_mem_nil, or_false] at hE
      rcases hE with rfl
      decide +kernel
    refine j_istore (pc := 2164) hX dL_law_2164 (by decide) [some (vA (some s)), some (vA (some x)), some (vA (some b)), some (vA (some out)), some (vI i), some (vI (cd_takenBy E)), none, none] rfl ?_
    refine j_aload_n (pc := 2166) hX dL_law_2166 rfl ?_
    refine j_aload_n (pc := 2167) hX dL_law_2167 rfl ?_
    refine j_iload (pc := 2168) hX dL_law_2168 rfl ?_
    refine j_iconst (pc := 2170) hX (1 : Int32) dL_law_2170 rfl ?_
    refine j_iadd (pc := 2171) hX dL_law_2171 ?_
    refine j_rd (pc := 2172) hX hc2.1 hb1 ha1 dL_law_2172 ?_
    refine j_aload_n (pc := 2173) hX dL_law_2173 rfl ?_
    refine j_iload (pc := 2174) hX dL_law_2174 rfl ?_
    refine j_iconst (pc := 2176) hX (2 : Int32) dL_law_2176 rfl ?_
    refine j_iadd (pc := 2177) hX dL_law_2177 ?_
    refine j_rd (pc := 2178) hX hc2.1 hb2 ha2 dL_law_2178 ?_
    refine zJ_eq hc2.2.2.1 ?_
    refine j_callV (pc := 2179) hX (ci := 3) mt_X4_takenBy q2725 q2726 q2727 (zIj_isC b w2 M) ⟨_, rfl, rfl⟩ [vI a1, vI a2] rfl rfl (Nat.le_of_ble_eq_true rfl) (by decide) dL_law_2179 (k_X4_takenBy _ _ e2) ?_
    obtain ⟨hc3, ho3, hn3⟩ := zLI_mem hc2 M1
    refine j_lstore (pc := 2182) hX dL_law_2182 (by decide) [some (vA (some s)), some (vA (some x)), some (vA (some b)), some (vA (some out)), some (vI i), some (vI (cd_takenBy E)), some (vL rm), none] rfl ?_
    refine j_aload_n (pc := 2184) hX dL_law_2184 rfl ?_
    refine j_callV (pc := 2185) hX (ci := 3) mt_X4_thrown q2456 q2457 q2458 (zIj_isC b w2 M1) ⟨_, rfl, rfl⟩ [] rfl rfl (Nat.le_of_ble_eq_true rfl) (by decide) dL_law_2185 (k_X4_thrown (n := N) _ _ rfl) ?_
    refine j_iload (pc := 2188) hX dL_law_2188 rfl ?_
    refine j_icmp_eq (pc := 2190) hX 2195 (A := some ()) (B := some ()) (o := ()) dL_law_2190 rfl (by split <;> rfl) (fun _ _ => ?_) (fun h_ _ => absurd ht h_)
    refine j_iload (pc := 2195) hX dL_law_2195 rfl ?_
    refine j_if_ne (pc := 2197) hX 2211 (A := some ()) (B := some ()) (o := ()) dL_law_2197 rfl (by split <;> rfl) (fun _ _ => ?_) (fun h_ _ => absurd h_ hk)
    refine j_goto (pc := 2211) hX 2691 dL_law_2211 rfl ?_
    refine j_fg [5, 6] [some (vA (some s)), some (vA (some x)), some (vA (some b)), some (vA (some out)), some (vI i), none, none, none] rfl ?_
    exact kk _ _ hc3 (hnx _ (hn3 _ hn2))
  · obtain ⟨xx, hfw, rfl⟩ := hR
    obtain ⟨w3, e3, hc2, hov, hn2⟩ := fwok_takenBy hc1 a1 a2 r
    cases e3.symm.trans hfw
    refine j_istore (pc := 2164) hX dL_law_2164 (by decide) [some (vA (some s)), some (vA (some x)), some (vA (some b)), some (vA (some out)), some (vI i), some (vI (0 : Int32)), none, none] rfl ?_
    refine j_aload_n (pc := 2166) hX dL_law_2166 rfl ?_
    refine j_aload_n (pc := 2167) hX dL_law_2167 rfl ?_
    refine j_iload (pc := 2168) hX dL_law_2168 rfl ?_
    refine j_iconst (pc := 2170) hX (1 : Int32) dL_law_2170 rfl ?_
    refine j_iadd (pc := 2171) hX dL_law_2171 ?_
    refine j_rd (pc := 2172) hX hc2.1 hb1 ha1 dL_law_2172 ?_
    refine j_aload_n (pc := 2173) hX dL_law_2173 rfl ?_
    refine j_iload (pc := 2174) hX dL_law_2174 rfl ?_
    refine j_iconst (pc := 2176) hX (2 : Int32) dL_law_2176 rfl ?_
    refine j_iadd (pc := 2177) hX dL_law_2177 ?_
    refine j_rd (pc := 2178) hX hc2.1 hb2 ha2 dL_law_2178 ?_
    refine zJ_eq hc2.2.2.1 ?_
    refine j_callV (pc := 2179) hX (ci := 3) mt_X4_takenBy q2725 q2726 q2727 (zIj_isC b w2 M) ⟨_, rfl, rfl⟩ [vI a1, vI a2] rfl rfl (Nat.le_of_ble_eq_true rfl) (by decide) dL_law_2179 (k_X4_takenBy _ _ e2) ?_
    obtain ⟨hc3, ho3, hn3⟩ := zLI_mem hc2 M1
    refine j_lstore (pc := 2182) hX dL_law_2182 (by decide) [some (vA (some s)), some (vA (some x)), some (vA (some b)), some (vA (some out)), some (vI i), some (vI (0 : Int32)), some (vL rm), none] rfl ?_
    refine j_aload_n (pc := 2184) hX dL_law_2184 rfl ?_
    refine j_callV (pc := 2185) hX (ci := 3) mt_X4_thrown q2456 q2457 q2458 (zIj_isC b w2 M1) ⟨_, rfl, rfl⟩ [] rfl rfl (Nat.le_of_ble_eq_true rfl) (by decide) dL_law_2185 (k_X4_thrown (n := N) _ _ rfl) ?_
    have hov : aL (zIj b w2 M1) (some out) 0 = some r := (ho3 0).trans hov
    refine j_iload (pc := 2188) hX dL_law_2188 rfl ?_
    refine j_icmp_eq (pc := 2190) hX 2195 (A := some ()) (B := some ()) (o := ()) dL_law_2190 rfl (by split <;> rfl) (fun _ _ => ?_) (fun h_ _ => absurd hag.1 h_)
    refine j_iload (pc := 2195) hX dL_law_2195 rfl ?_
    refine j_if_ne (pc := 2197) hX 2211 (A := some ()) (B := some ()) (o := ()) dL_law_2197 rfl (by split <;> rfl) (fun h_ _ => absurd rfl h_) (fun _ _ => ?_)
    refine j_aload_n (pc := 2200) hX dL_law_2200 rfl ?_
    refine j_iconst (pc := 2201) hX (0 : Int32) dL_law_2201 rfl ?_
    refine j_ld (pc := 2202) hX hov dL_law_2202 ?_
    refine j_lload (pc := 2203) hX dL_law_2203 rfl ?_
    refine j_lcmp (pc := 2205) hX dL_law_2205 ?_
    refine j_if_eq (pc := 2206) hX 2211 (A := some ()) (B := some ()) (o := ()) dL_law_2206 rfl (by split <;> rfl) (fun _ _ => ?_) (fun h_ _ => absurd (by rw [hag.2]; exact lg_cmp_self _) h_)
    refine j_goto (pc := 2211) hX 2691 dL_law_2211 rfl ?_
    refine j_fg [5, 6] [some (vA (some s)), some (vA (some x)), some (vA (some b)), some (vA (some out)), some (vI i), none, none, none] rfl ?_
    exact kk _ _ hc3 (hnx _ (hn3 _ hn2))
def Op_advance (N s L x b out : Nat) (xs : Nat → Int32) (S : Nat → zWd → zM → Prop) : Prop := ∀ (n : Nat) (w : zWd) (M : zM) (p1 : Int32) (p2 : Int32) , n < 64 → zLI s L x b out xs w M → S n w M →
  ∃ (o : String ⊕ Int64) (w1 : zWd) (rm : Int64) (M1 : zM), f_X1_advance N (some x) p1 p2 w = some (o, w1) ∧ f_X4_advance N p1 p2 M = some (rm, M1) ∧ zLI s L x b out xs w1 M ∧ (match o with | .inr r => mI M1 67 = 0 ∧ r = rm | .inl E => E ∈ ["java/lang/IndexOutOfBoundsException", "java/lang/IllegalArgumentException", "java/lang/IllegalStateException"] ∧ mI M1 67 = cd_advance E) ∧ ∀ w2, zNx b out w1 w2 → S (n + 1) w2 M1
theorem fwok_advance {s L x b out : Nat} {xs : Nat → Int32} {w1 : zWd} {M : zM} (hc : zLI s L x b out xs w1 M) (p1 : Int32) (p2 : Int32) (r : Int64) : ∃ w2, fw_advance (some x) p1 p2 (some out) r w1 = some ((0 : Int32), w2) ∧ zLI s L x b out xs w2 M ∧ aL w2 (some out) 0 = some r ∧  zNx b out w1 w2 := by
  obtain ⟨w2, e, h1, h2, h3⟩ := zLI_out hc r
  refine ⟨w2, ?_, h1, h2, h3⟩
  unfold fw_advance
  rw [e]
  rfl
set_option maxHeartbeats 4000000 in
theorem lc_advance {X : zX} (hX : zGd X RX0 cL_law 8 ret 24) {s L x b out n N : Nat} {xs : Nat → Int32} {i : Int32} {S : Nat → zWd → zM → Prop} {w : zWd} {M : zM} (hn : n < 64) (hc : zLI s L x b out xs w M) (hS : S n w M) (op : Op_advance N s L x b out xs S)
    (hb : ∀ j ∈ [(1 : Int32), 2, 3, 4, 5, 6, 7], ¬ (i + j < 0 ∨ L ≤ (i + j).toNatClampNeg)) (kk : ∀ w' M', zLI s L x b out xs w' M' → S (n + 1) w' M' → zJ X 2691 [some (vA (some s)), some (vA (some x)), some (vA (some b)), some (vA (some out)), some (vI i), none, none, none] [] w') : zJ X 2214 [some (vA (some s)), some (vA (some x)), some (vA (some b)), some (vA (some out)), some (vI i), none, none, none] [] w := by
  obtain ⟨a1, ha1⟩ : ∃ v, xs (i + (1 : Int32)).toNatClampNeg = v := ⟨_, rfl⟩
  have hb1 := hb (1 : Int32) (by decide)
  obtain ⟨a2, ha2⟩ : ∃ v, xs (i + (2 : Int32)).toNatClampNeg = v := ⟨_, rfl⟩
  have hb2 := hb (2 : Int32) (by decide)
  obtain ⟨o, w1, rm, M1, e1, e2, hc1, hag, hnx⟩ := op n w M a1 a2 hn hc hS
  refine j_aload_n (pc := 2214) hX dL_law_2214 rfl ?_
  refine j_aload_n (pc := 2215) hX dL_law_2215 rfl ?_
  refine j_iload (pc := 2216) hX dL_law_2216 rfl ?_
  refine j_iconst (pc := 2218) hX (1 : Int32) dL_law_2218 rfl ?_
  refine j_iadd (pc := 2219) hX dL_law_2219 ?_
  refine j_rd (pc := 2220) hX hc.1 hb1 ha1 dL_law_2220 ?_
  refine j_aload_n (pc := 2221) hX dL_law_2221 rfl ?_
  refine j_iload (pc := 2222) hX dL_law_2222 rfl ?_
  refine j_iconst (pc := 2224) hX (2 : Int32) dL_law_2224 rfl ?_
  refine j_iadd (pc := 2225) hX dL_law_2225 ?_
  refine j_rd (pc := 2226) hX hc.1 hb2 ha2 dL_law_2226 ?_
  refine j_aload_n (pc := 2227) hX dL_law_2227 rfl ?_
  refine j_callSR (pc := 2228) hX mw_advance q2142 q2143 [vA (some x), vI a1, vI a2, vA (some out)] rfl rfl (Nat.le_of_ble_eq_true rfl) (by decide) dL_law_2228 (kw_advance o hc.2.2.2.1 e1 (fun r hr => ⟨_, _, (fwok_advance hc1 a1 a2 r).choose_spec.1⟩) (fun E hE => by subst hE; exact hag.1)) (fun v' w2 hR => ?_)
  rcases o with E | r
  · obtain ⟨rfl, hth⟩ := hR
    obtain ⟨hE, ht⟩ := hag
    obtain ⟨hc2, hn2⟩ := zLI_th hc1 hth
    have hk : ¬ cd_advance E = 0 := by
      simp only [List.mem_cons, List.not_mem_nil, or_false] at hE
      rcases hE with rfl | rfl | rfl <;> decide +kernel
    refine j_istore (pc := 2231) hX dL_law_2231 (by decide) [some (vA (some s)), some (vA (some x)), some (vA (some b)), some (vA (some out)), some (vI i), some (vI (cd_advance E)), none, none] rfl ?_
    refine j_aload_n (pc := 2233) hX dL_law_2233 rfl ?_
    refine j_aload_n (pc := 2234) hX dL_law_2234 rfl ?_
    refine j_iload (pc := 2235) hX dL_law_2235 rfl ?_
    refine j_iconst (pc := 2237) hX (1 : Int32) dL_law_2237 rfl ?_
    refine j_iadd (pc := 2238) hX dL_law_2238 ?_
    refine j_rd (pc := 2239) hX hc2.1 hb1 ha1 dL_law_2239 ?_
    refine j_aload_n (pc := 2240) hX dL_law_2240 rfl ?_
    refine j_iload (pc := 2241) hX dL_law_2241 rfl ?_
    refine j_iconst (pc := 2243) hX (2 : Int32) dL_law_2243 rfl ?_
    refine j_iadd (pc := 2244) hX dL_law_2244 ?_
    refine j_rd (pc := 2245) hX hc2.1 hb2 ha2 dL_law_2245 ?_
    refine zJ_eq hc2.2.2.1 ?_
    refine j_callV (pc := 2246) hX (ci := 3) mt_X4_advance q2729 q2730 q2731 (zIj_isC b w2 M) ⟨_, rfl, rfl⟩ [vI a1, vI a2] rfl rfl (Nat.le_of_ble_eq_true rfl) (by decide) dL_law_2246 (k_X4_advance _ _ e2) ?_
    obtain ⟨hc3, ho3, hn3⟩ := zLI_mem hc2 M1
    refine j_lstore (pc := 2249) hX dL_law_2249 (by decide) [some (vA (some s)), some (vA (some x)), some (vA (some b)), some (vA (some out)), some (vI i), some (vI (cd_advance E)), some (vL rm), none] rfl ?_
    refine j_aload_n (pc := 2251) hX dL_law_2251 rfl ?_
    refine j_callV (pc := 2252) hX (ci := 3) mt_X4_thrown q2456 q2457 q2458 (zIj_isC b w2 M1) ⟨_, rfl, rfl⟩ [] rfl rfl (Nat.le_of_ble_eq_true rfl) (by decide) dL_law_2252 (k_X4_thrown (n := N) _ _ rfl) ?_
    refine j_iload (pc := 2255) hX dL_law_2255 rfl ?_
    refine j_icmp_eq (pc := 2257) hX 2262 (A := some ()) (B := some ()) (o := ()) dL_law_2257 rfl (by split <;> rfl) (fun _ _ => ?_) (fun h_ _ => absurd ht h_)
    refine j_iload (pc := 2262) hX dL_law_2262 rfl ?_
    refine j_if_ne (pc := 2264) hX 2278 (A := some ()) (B := some ()) (o := ()) dL_law_2264 rfl (by split <;> rfl) (fun _ _ => ?_) (fun h_ _ => absurd h_ hk)
    refine j_goto (pc := 2278) hX 2691 dL_law_2278 rfl ?_
    refine j_fg [5, 6] [some (vA (some s)), some (vA (some x)), some (vA (some b)), some (vA (some out)), some (vI i), none, none, none] rfl ?_
    exact kk _ _ hc3 (hnx _ (hn3 _ hn2))
  · obtain ⟨xx, hfw, rfl⟩ := hR
    obtain ⟨w3, e3, hc2, hov, hn2⟩ := fwok_advance hc1 a1 a2 r
    cases e3.symm.trans hfw
    refine j_istore (pc := 2231) hX dL_law_2231 (by decide) [some (vA (some s)), some (vA (some x)), some (vA (some b)), some (vA (some out)), some (vI i), some (vI (0 : Int32)), none, none] rfl ?_
    refine j_aload_n (pc := 2233) hX dL_law_2233 rfl ?_
    refine j_aload_n (pc := 2234) hX dL_law_2234 rfl ?_
    refine j_iload (pc := 2235) hX dL_law_2235 rfl ?_
    refine j_iconst (pc := 2237) hX (1 : Int32) dL_law_2237 rfl ?_
    refine j_iadd (pc := 2238) hX dL_law_2238 ?_
    refine j_rd (pc := 2239) hX hc2.1 hb1 ha1 dL_law_2239 ?_
    refine j_aload_n (pc := 2240) hX dL_law_2240 rfl ?_
    refine j_iload (pc := 2241) hX dL_law_2241 rfl ?_
    refine j_iconst (pc := 2243) hX (2 : Int32) dL_law_2243 rfl ?_
    refine j_iadd (pc := 2244) hX dL_law_2244 ?_
    refine j_rd (pc := 2245) hX hc2.1 hb2 ha2 dL_law_2245 ?_
    refine zJ_eq hc2.2.2.1 ?_
    refine j_callV (pc := 2246) hX (ci := 3) mt_X4_advance q2729 q2730 q2731 (zIj_isC b w2 M) ⟨_, rfl, rfl⟩ [vI a1, vI a2] rfl rfl (Nat.le_of_ble_eq_true rfl) (by decide) dL_law_2246 (k_X4_advance _ _ e2) ?_
    obtain ⟨hc3, ho3, hn3⟩ := zLI_mem hc2 M1
    refine j_lstore (pc := 2249) hX dL_law_2249 (by decide) [some (vA (some s)), some (vA (some x)), some (vA (some b)), some (vA (some out)), some (vI i), some (vI (0 : Int32)), some (vL rm), none] rfl ?_
    refine j_aload_n (pc := 2251) hX dL_law_2251 rfl ?_
    refine j_callV (pc := 2252) hX (ci := 3) mt_X4_thrown q2456 q2457 q2458 (zIj_isC b w2 M1) ⟨_, rfl, rfl⟩ [] rfl rfl (Nat.le_of_ble_eq_true rfl) (by decide) dL_law_2252 (k_X4_thrown (n := N) _ _ rfl) ?_
    have hov : aL (zIj b w2 M1) (some out) 0 = some r := (ho3 0).trans hov
    refine j_iload (pc := 2255) hX dL_law_2255 rfl ?_
    refine j_icmp_eq (pc := 2257) hX 2262 (A := some ()) (B := some ()) (o := ()) dL_law_2257 rfl (by split <;> rfl) (fun _ _ => ?_) (fun h_ _ => absurd hag.1 h_)
    refine j_iload (pc := 2262) hX dL_law_2262 rfl ?_
    refine j_if_ne (pc := 2264) hX 2278 (A := some ()) (B := some ()) (o := ()) dL_law_2264 rfl (by split <;> rfl) (fun h_ _ => absurd rfl h_) (fun _ _ => ?_)
    refine j_aload_n (pc := 2267) hX dL_law_2267 rfl ?_
    refine j_iconst (pc := 2268) hX (0 : Int32) dL_law_2268 rfl ?_
    refine j_ld (pc := 2269) hX hov dL_law_2269 ?_
    refine j_lload (pc := 2270) hX dL_law_2270 rfl ?_
    refine j_lcmp (pc := 2272) hX dL_law_2272 ?_
    refine j_if_eq (pc := 2273) hX 2278 (A := some ()) (B := some ()) (o := ()) dL_law_2273 rfl (by split <;> rfl) (fun _ _ => ?_) (fun h_ _ => absurd (by rw [hag.2]; exact lg_cmp_self _) h_)
    refine j_goto (pc := 2278) hX 2691 dL_law_2278 rfl ?_
    refine j_fg [5, 6] [some (vA (some s)), some (vA (some x)), some (vA (some b)), some (vA (some out)), some (vI i), none, none, none] rfl ?_
    exact kk _ _ hc3 (hnx _ (hn3 _ hn2))
def Op_open (N s L x b out : Nat) (xs : Nat → Int32) (S : Nat → zWd → zM → Prop) : Prop := ∀ (n : Nat) (w : zWd) (M : zM) , n < 64 → zLI s L x b out xs w M → S n w M →
  ∃ (r : Int32) (w1 : zWd) (rm : Int32) (M1 : zM), f_X1_open N (some x) w = some (r, w1) ∧ f_X4_open N M = some (rm, M1) ∧ zLI s L x b out xs w1 M ∧ r = rm ∧ ∀ w2, zNx b out w1 w2 → S (n + 1) w2 M1
set_option maxHeartbeats 4000000 in
theorem lc_open {X : zX} (hX : zGd X RX0 cL_law 8 ret 24) {s L x b out n N : Nat} {xs : Nat → Int32} {i : Int32} {S : Nat → zWd → zM → Prop} {w : zWd} {M : zM} (hn : n < 64) (hc : zLI s L x b out xs w M) (hS : S n w M) (op : Op_open N s L x b out xs S)
    (hb : ∀ j ∈ [(1 : Int32), 2, 3, 4, 5, 6, 7], ¬ (i + j < 0 ∨ L ≤ (i + j).toNatClampNeg)) (kk : ∀ w' M', zLI s L x b out xs w' M' → S (n + 1) w' M' → zJ X 2691 [some (vA (some s)), some (vA (some x)), some (vA (some b)), some (vA (some out)), some (vI i), none, none, none] [] w') : zJ X 2281 [some (vA (some s)), some (vA (some x)), some (vA (some b)), some (vA (some out)), some (vI i), none, none, none] [] w := by
  obtain ⟨r, w1, rm, M1, e1, e2, hc1, hag, hnx⟩ := op n w M hn hc hS
  refine j_aload_n (pc := 2281) hX dL_law_2281 rfl ?_
  refine j_callV (pc := 2282) hX (ci := 0) mt_X1_open q404 q405 q406 hc.2.2.2.1 ⟨_, rfl, rfl⟩ [] rfl rfl (Nat.le_of_ble_eq_true rfl) (by decide) dL_law_2282 (k_X1_open _ _ e1) ?_
  refine j_aload_n (pc := 2285) hX dL_law_2285 rfl ?_
  refine zJ_eq hc1.2.2.1 ?_
  refine j_callV (pc := 2286) hX (ci := 3) mt_X4_open q2733 q2734 q2735 (zIj_isC b w1 M) ⟨_, rfl, rfl⟩ [] rfl rfl (Nat.le_of_ble_eq_true rfl) (by decide) dL_law_2286 (k_X4_open _ _ e2) ?_
  obtain ⟨hc3, -, hn3⟩ := zLI_mem hc1 M1
  refine j_icmp_eq (pc := 2289) hX 2691 (A := some ()) (B := some ()) (o := ()) dL_law_2289 rfl (by split <;> rfl) (fun _ _ => ?_) (fun h_ _ => absurd hag h_)
  exact kk _ _ hc3 (hnx _ (hn3 _ ⟨fun _ _ _ => rfl, Nat.le_refl _, Nat.le_succ _, Nat.le_add_right _ 6, rfl⟩))
def Op_close (N s L x b out : Nat) (xs : Nat → Int32) (S : Nat → zWd → zM → Prop) : Prop := ∀ (n : Nat) (w : zWd) (M : zM) , n < 64 → zLI s L x b out xs w M → S n w M →
  ∃ (o : String ⊕ Int32) (w1 : zWd) (rm : Int32) (M1 : zM), f_X1_close N (some x) w = some (o, w1) ∧ f_X4_close N M = some (rm, M1) ∧ zLI s L x b out xs w1 M ∧ (match o with | .inr r => mI M1 67 = 0 ∧ (Int32.toInt64 r) = (Int32.toInt64 rm) | .inl E => E ∈ ["java/lang/IllegalStateException"] ∧ mI M1 67 = cd_close E) ∧ ∀ w2, zNx b out w1 w2 → S (n + 1) w2 M1
theorem fwok_close {s L x b out : Nat} {xs : Nat → Int32} {w1 : zWd} {M : zM} (hc : zLI s L x b out xs w1 M) (r : Int32) : ∃ w2, fw_close (some x) (some out) r w1 = some ((0 : Int32), w2) ∧ zLI s L x b out xs w2 M ∧ aL w2 (some out) 0 = some (Int32.toInt64 r) ∧  zNx b out w1 w2 := by
  obtain ⟨w2, e, h1, h2, h3⟩ := zLI_out hc (Int32.toInt64 r)
  refine ⟨w2, ?_, h1, h2, h3⟩
  unfold fw_close
  rw [e]
  rfl
set_option maxHeartbeats 4000000 in
theorem lc_close {X : zX} (hX : zGd X RX0 cL_law 8 ret 24) {s L x b out n N : Nat} {xs : Nat → Int32} {i : Int32} {S : Nat → zWd → zM → Prop} {w : zWd} {M : zM} (hn : n < 64) (hc : zLI s L x b out xs w M) (hS : S n w M) (op : Op_close N s L x b out xs S)
    (hb : ∀ j ∈ [(1 : Int32), 2, 3, 4, 5, 6, 7], ¬ (i + j < 0 ∨ L ≤ (i + j).toNatClampNeg)) (kk : ∀ w' M', zLI s L x b out xs w' M' → S (n + 1) w' M' → zJ X 2691 [some (vA (some s)), some (vA (some x)), some (vA (some b)), some (vA (some out)), some (vI i), none, none, none] [] w') : zJ X 2294 [some (vA (some s)), some (vA (some x)), some (vA (some b)), some (vA (some out)), some (vI i), none, none, none] [] w := by
  obtain ⟨o, w1, rm, M1, e1, e2, hc1, hag, hnx⟩ := op n w M hn hc hS
  refine j_aload_n (pc := 2294) hX dL_law_2294 rfl ?_
  refine j_aload_n (pc := 2295) hX dL_law_2295 rfl ?_
  refine j_callSR (pc := 2296) hX mw_close q2167 q2168 [vA (some x), vA (some out)] rfl rfl (Nat.le_of_ble_eq_true rfl) (by decide) dL_law_2296 (kw_close o hc.2.2.2.1 e1 (fun r hr => ⟨_, _, (fwok_close hc1  r).choose_spec.1⟩) (fun E hE => by subst hE; exact hag.1)) (fun v' w2 hR => ?_)
  rcases o with E | r
  · obtain ⟨rfl, hth⟩ := hR
    obtain ⟨hE, ht⟩ := hag
    obtain ⟨hc2, hn2⟩ := zLI_th hc1 hth
    have hk : ¬ cd_close E = 0 := by
      simp only [List.mem_cons, List.not_mem_nil, or_false] at hE
      rcases hE with rfl
      decide +kernel
    refine j_istore (pc := 2299) hX dL_law_2299 (by decide) [some (vA (some s)), some (vA (some x)), some (vA (some b)), some (vA (some out)), some (vI i), some (vI (cd_close E)), none, none] rfl ?_
    refine j_aload_n (pc := 2301) hX dL_law_2301 rfl ?_
    refine zJ_eq hc2.2.2.1 ?_
    refine j_callV (pc := 2302) hX (ci := 3) mt_X4_close q2737 q2738 q2739 (zIj_isC b w2 M) ⟨_, rfl, rfl⟩ [] rfl rfl (Nat.le_of_ble_eq_true rfl) (by decide) dL_law_2302 (k_X4_close _ _ e2) ?_
    obtain ⟨hc3, ho3, hn3⟩ := zLI_mem hc2 M1
    refine j_istore (pc := 2305) hX dL_law_2305 (by decide) [some (vA (some s)), some (vA (some x)), some (vA (some b)), some (vA (some out)), some (vI i), some (vI (cd_close E)), some (vI rm), none] rfl ?_
    refine j_aload_n (pc := 2307) hX dL_law_2307 rfl ?_
    refine j_callV (pc := 2308) hX (ci := 3) mt_X4_thrown q2456 q2457 q2458 (zIj_isC b w2 M1) ⟨_, rfl, rfl⟩ [] rfl rfl (Nat.le_of_ble_eq_true rfl) (by decide) dL_law_2308 (k_X4_thrown (n := N) _ _ rfl) ?_
    refine j_iload (pc := 2311) hX dL_law_2311 rfl ?_
    refine j_icmp_eq (pc := 2313) hX 2318 (A := some ()) (B := some ()) (o := ()) dL_law_2313 rfl (by split <;> rfl) (fun _ _ => ?_) (fun h_ _ => absurd ht h_)
    refine j_iload (pc := 2318) hX dL_law_2318 rfl ?_
    refine j_if_ne (pc := 2320) hX 2335 (A := some ()) (B := some ()) (o := ()) dL_law_2320 rfl (by split <;> rfl) (fun _ _ => ?_) (fun h_ _ => absurd h_ hk)
    refine j_goto (pc := 2335) hX 2691 dL_law_2335 rfl ?_
    refine j_fg [5, 6] [some (vA (some s)), some (vA (some x)), some (vA (some b)), some (vA (some out)), some (vI i), none, none, none] rfl ?_
    exact kk _ _ hc3 (hnx _ (hn3 _ hn2))
  · obtain ⟨xx, hfw, rfl⟩ := hR
    obtain ⟨w3, e3, hc2, hov, hn2⟩ := fwok_close hc1  r
    cases e3.symm.trans hfw
    refine j_istore (pc := 2299) hX dL_law_2299 (by decide) [some (vA (some s)), some (vA (some x)), some (vA (some b)), some (vA (some out)), some (vI i), some (vI (0 : Int32)), none, none] rfl ?_
    refine j_aload_n (pc := 2301) hX dL_law_2301 rfl ?_
    refine zJ_eq hc2.2.2.1 ?_
    refine j_callV (pc := 2302) hX (ci := 3) mt_X4_close q2737 q2738 q2739 (zIj_isC b w2 M) ⟨_, rfl, rfl⟩ [] rfl rfl (Nat.le_of_ble_eq_true rfl) (by decide) dL_law_2302 (k_X4_close _ _ e2) ?_
    obtain ⟨hc3, ho3, hn3⟩ := zLI_mem hc2 M1
    refine j_istore (pc := 2305) hX dL_law_2305 (by decide) [some (vA (some s)), some (vA (some x)), some (vA (some b)), some (vA (some out)), some (vI i), some (vI (0 : Int32)), some (vI rm), none] rfl ?_
    refine j_aload_n (pc := 2307) hX dL_law_2307 rfl ?_
    refine j_callV (pc := 2308) hX (ci := 3) mt_X4_thrown q2456 q2457 q2458 (zIj_isC b w2 M1) ⟨_, rfl, rfl⟩ [] rfl rfl (Nat.le_of_ble_eq_true rfl) (by decide) dL_law_2308 (k_X4_thrown (n := N) _ _ rfl) ?_
    have hov : aL (zIj b w2 M1) (some out) 0 = some (Int32.toInt64 r) := (ho3 0).trans hov
    refine j_iload (pc := 2311) hX dL_law_2311 rfl ?_
    refine j_icmp_eq (pc := 2313) hX 2318 (A := some ()) (B := some ()) (o := ()) dL_law_2313 rfl (by split <;> rfl) (fun _ _ => ?_) (fun h_ _ => absurd hag.1 h_)
    refine j_iload (pc := 2318) hX dL_law_2318 rfl ?_
    refine j_if_ne (pc := 2320) hX 2335 (A := some ()) (B := some ()) (o := ()) dL_law_2320 rfl (by split <;> rfl) (fun h_ _ => absurd rfl h_) (fun _ _ => ?_)
    refine j_aload_n (pc := 2323) hX dL_law_2323 rfl ?_
    refine j_iconst (pc := 2324) hX (0 : Int32) dL_law_2324 rfl ?_
    refine j_ld (pc := 2325) hX hov dL_law_2325 ?_
    refine j_iload (pc := 2326) hX dL_law_2326 rfl ?_
    refine j_i2l (pc := 2328) hX dL_law_2328 ?_
    refine j_lcmp (pc := 2329) hX dL_law_2329 ?_
    refine j_if_eq (pc := 2330) hX 2335 (A := some ()) (B := some ()) (o := ()) dL_law_2330 rfl (by split <;> rfl) (fun _ _ => ?_) (fun h_ _ => absurd (by rw [hag.2]; exact lg_cmp_self _) h_)
    refine j_goto (pc := 2335) hX 2691 dL_law_2335 rfl ?_
    refine j_fg [5, 6] [some (vA (some s)), some (vA (some x)), some (vA (some b)), some (vA (some out)), some (vI i), none, none, none] rfl ?_
    exact kk _ _ hc3 (hnx _ (hn3 _ hn2))
def Op_payments (N s L x b out : Nat) (xs : Nat → Int32) (S : Nat → zWd → zM → Prop) : Prop := ∀ (n : Nat) (w : zWd) (M : zM) , n < 64 → zLI s L x b out xs w M → S n w M →
  ∃ (r : Int32) (w1 : zWd) (rm : Int32) (M1 : zM), f_X1_payments N (some x) w = some (r, w1) ∧ f_X4_payments N M = some (rm, M1) ∧ zLI s L x b out xs w1 M ∧ r = rm ∧ ∀ w2, zNx b out w1 w2 → S (n + 1) w2 M1
set_option maxHeartbeats 4000000 in
theorem lc_payments {X : zX} (hX : zGd X RX0 cL_law 8 ret 24) {s L x b out n N : Nat} {xs : Nat → Int32} {i : Int32} {S : Nat → zWd → zM → Prop} {w : zWd} {M : zM} (hn : n < 64) (hc : zLI s L x b out xs w M) (hS : S n w M) (op : Op_payments N s L x b out xs S)
    (hb : ∀ j ∈ [(1 : Int32), 2, 3, 4, 5, 6, 7], ¬ (i + j < 0 ∨ L ≤ (i + j).toNatClampNeg)) (kk : ∀ w' M', zLI s L x b out xs w' M' → S (n + 1) w' M' → zJ X 2691 [some (vA (some s)), some (vA (some x)), some (vA (some b)), some (vA (some out)), some (vI i), none, none, none] [] w') : zJ X 2338 [some (vA (some s)), some (vA (some x)), some (vA (some b)), some (vA (some out)), some (vI i), none, none, none] [] w := by
  obtain ⟨r, w1, rm, M1, e1, e2, hc1, hag, hnx⟩ := op n w M hn hc hS
  refine j_aload_n (pc := 2338) hX dL_law_2338 rfl ?_
  refine j_callV (pc := 2339) hX (ci := 0) mt_X1_payments q408 q409 q410 hc.2.2.2.1 ⟨_, rfl, rfl⟩ [] rfl rfl (Nat.le_of_ble_eq_true rfl) (by decide) dL_law_2339 (k_X1_payments _ _ e1) ?_
  refine j_aload_n (pc := 2342) hX dL_law_2342 rfl ?_
  refine zJ_eq hc1.2.2.1 ?_
  refine j_callV (pc := 2343) hX (ci := 3) mt_X4_payments q2749 q2750 q2751 (zIj_isC b w1 M) ⟨_, rfl, rfl⟩ [] rfl rfl (Nat.le_of_ble_eq_true rfl) (by decide) dL_law_2343 (k_X4_payments _ _ e2) ?_
  obtain ⟨hc3, -, hn3⟩ := zLI_mem hc1 M1
  refine j_icmp_eq (pc := 2346) hX 2691 (A := some ()) (B := some ()) (o := ()) dL_law_2346 rfl (by split <;> rfl) (fun _ _ => ?_) (fun h_ _ => absurd hag h_)
  exact kk _ _ hc3 (hnx _ (hn3 _ ⟨fun _ _ _ => rfl, Nat.le_refl _, Nat.le_succ _, Nat.le_add_right _ 6, rfl⟩))
def Op_payment (N s L x b out : Nat) (xs : Nat → Int32) (S : Nat → zWd → zM → Prop) : Prop := ∀ (n : Nat) (w : zWd) (M : zM) (p1 : Int32) (p2 : Int32) , n < 64 → zLI s L x b out xs w M → S n w M →
  ∃ (o : String ⊕ Int64) (w1 : zWd) (rm : Int64) (M1 : zM), f_X1_payment N (some x) p1 p2 w = some (o, w1) ∧ f_X4_payment N p1 p2 M = some (rm, M1) ∧ zLI s L x b out xs w1 M ∧ (match o with | .inr r => mI M1 67 = 0 ∧ r = rm | .inl E => E ∈ ["java/lang/IndexOutOfBoundsException", "java/lang/IllegalArgumentException"] ∧ mI M1 67 = cd_payment E) ∧ ∀ w2, zNx b out w1 w2 → S (n + 1) w2 M1
theorem fwok_payment {s L x b out : Nat} {xs : Nat → Int32} {w1 : zWd} {M : zM} (hc : zLI s L x b out xs w1 M) (p1 : Int32) (p2 : Int32) (r : Int64) : ∃ w2, fw_payment (some x) p1 p2 (some out) r w1 = some ((0 : Int32), w2) ∧ zLI s L x b out xs w2 M ∧ aL w2 (some out) 0 = some r ∧  zNx b out w1 w2 := by
  obtain ⟨w2, e, h1, h2, h3⟩ := zLI_out hc r
  refine ⟨w2, ?_, h1, h2, h3⟩
  unfold fw_payment
  rw [e]
  rfl
set_option maxHeartbeats 4000000 in
theorem lc_payment {X : zX} (hX : zGd X RX0 cL_law 8 ret 24) {s L x b out n N : Nat} {xs : Nat → Int32} {i : Int32} {S : Nat → zWd → zM → Prop} {w : zWd} {M : zM} (hn : n < 64) (hc : zLI s L x b out xs w M) (hS : S n w M) (op : Op_payment N s L x b out xs S)
    (hb : ∀ j ∈ [(1 : Int32), 2, 3, 4, 5, 6, 7], ¬ (i + j < 0 ∨ L ≤ (i + j).toNatClampNeg)) (kk : ∀ w' M', zLI s L x b out xs w' M' → S (n + 1) w' M' → zJ X 2691 [some (vA (some s)), some (vA (some x)), some (vA (some b)), some (vA (some out)), some (vI i), none, none, none] [] w') : zJ X 2351 [some (vA (some s)), some (vA (some x)), some (vA (some b)), some (vA (some out)), some (vI i), none, none, none] [] w := by
  obtain ⟨a1, ha1⟩ : ∃ v, xs (i + (1 : Int32)).toNatClampNeg = v := ⟨_, rfl⟩
  have hb1 := hb (1 : Int32) (by decide)
  obtain ⟨a2, ha2⟩ : ∃ v, xs (i + (2 : Int32)).toNatClampNeg = v := ⟨_, rfl⟩
  have hb2 := hb (2 : Int32) (by decide)
  obtain ⟨o, w1, rm, M1, e1, e2, hc1, hag, hnx⟩ := op n w M a1 a2 hn hc hS
  refine j_aload_n (pc := 2351) hX dL_law_2351 rfl ?_
  refine j_aload_n (pc := 2352) hX dL_law_2352 rfl ?_
  refine j_iload (pc := 2353) hX dL_law_2353 rfl ?_
  refine j_iconst (pc := 2355) hX (1 : Int32) dL_law_2355 rfl ?_
  refine j_iadd (pc := 2356) hX dL_law_2356 ?_
  refine j_rd (pc := 2357) hX hc.1 hb1 ha1 dL_law_2357 ?_
  refine j_aload_n (pc := 2358) hX dL_law_2358 rfl ?_
  refine j_iload (pc := 2359) hX dL_law_2359 rfl ?_
  refine j_iconst (pc := 2361) hX (2 : Int32) dL_law_2361 rfl ?_
  refine j_iadd (pc := 2362) hX dL_law_2362 ?_
  refine j_rd (pc := 2363) hX hc.1 hb2 ha2 dL_law_2363 ?_
  refine j_aload_n (pc := 2364) hX dL_law_2364 rfl ?_
  refine j_callSR (pc := 2365) hX mw_payment q2204 q2205 [vA (some x), vI a1, vI a2, vA (some out)] rfl rfl (Nat.le_of_ble_eq_true rfl) (by decide) dL_law_2365 (kw_payment o hc.2.2.2.1 e1 (fun r hr => ⟨_, _, (fwok_payment hc1 a1 a2 r).choose_spec.1⟩) (fun E hE => by subst hE; exact hag.1)) (fun v' w2 hR => ?_)
  rcases o with E | r
  · obtain ⟨rfl, hth⟩ := hR
    obtain ⟨hE, ht⟩ := hag
    obtain ⟨hc2, hn2⟩ := zLI_th hc1 hth
    have hk : ¬ cd_payment E = 0 := by
      simp only [List.mem_cons, List.not_mem_nil, or_false] at hE
      rcases hE with rfl | rfl <;> decide +kernel
    refine j_istore (pc := 2368) hX dL_law_2368 (by decide) [some (vA (some s)), some (vA (some x)), some (vA (some b)), some (vA (some out)), some (vI i), some (vI (cd_payment E)), none, none] rfl ?_
    refine j_aload_n (pc := 2370) hX dL_law_2370 rfl ?_
    refine j_aload_n (pc := 2371) hX dL_law_2371 rfl ?_
    refine j_iload (pc := 2372) hX dL_law_2372 rfl ?_
    refine j_iconst (pc := 2374) hX (1 : Int32) dL_law_2374 rfl ?_
    refine j_iadd (pc := 2375) hX dL_law_2375 ?_
    refine j_rd (pc := 2376) hX hc2.1 hb1 ha1 dL_law_2376 ?_
    refine j_aload_n (pc := 2377) hX dL_law_2377 rfl ?_
    refine j_iload (pc := 2378) hX dL_law_2378 rfl ?_
    refine j_iconst (pc := 2380) hX (2 : Int32) dL_law_2380 rfl ?_
    refine j_iadd (pc := 2381) hX dL_law_2381 ?_
    refine j_rd (pc := 2382) hX hc2.1 hb2 ha2 dL_law_2382 ?_
    refine zJ_eq hc2.2.2.1 ?_
    refine j_callV (pc := 2383) hX (ci := 3) mt_X4_payment q2753 q2754 q2755 (zIj_isC b w2 M) ⟨_, rfl, rfl⟩ [vI a1, vI a2] rfl rfl (Nat.le_of_ble_eq_true rfl) (by decide) dL_law_2383 (k_X4_payment _ _ e2) ?_
    obtain ⟨hc3, ho3, hn3⟩ := zLI_mem hc2 M1
    refine j_lstore (pc := 2386) hX dL_law_2386 (by decide) [some (vA (some s)), some (vA (some x)), some (vA (some b)), some (vA (some out)), some (vI i), some (vI (cd_payment E)), some (vL rm), none] rfl ?_
    refine j_aload_n (pc := 2388) hX dL_law_2388 rfl ?_
    refine j_callV (pc := 2389) hX (ci := 3) mt_X4_thrown q2456 q2457 q2458 (zIj_isC b w2 M1) ⟨_, rfl, rfl⟩ [] rfl rfl (Nat.le_of_ble_eq_true rfl) (by decide) dL_law_2389 (k_X4_thrown (n := N) _ _ rfl) ?_
    refine j_iload (pc := 2392) hX dL_law_2392 rfl ?_
    refine j_icmp_eq (pc := 2394) hX 2399 (A := some ()) (B := some ()) (o := ()) dL_law_2394 rfl (by split <;> rfl) (fun _ _ => ?_) (fun h_ _ => absurd ht h_)
    refine j_iload (pc := 2399) hX dL_law_2399 rfl ?_
    refine j_if_ne (pc := 2401) hX 2415 (A := some ()) (B := some ()) (o := ()) dL_law_2401 rfl (by split <;> rfl) (fun _ _ => ?_) (fun h_ _ => absurd h_ hk)
    refine j_goto (pc := 2415) hX 2691 dL_law_2415 rfl ?_
    refine j_fg [5, 6] [some (vA (some s)), some (vA (some x)), some (vA (some b)), some (vA (some out)), some (vI i), none, none, none] rfl ?_
    exact kk _ _ hc3 (hnx _ (hn3 _ hn2))
  · obtain ⟨xx, hfw, rfl⟩ := hR
    obtain ⟨w3, e3, hc2, hov, hn2⟩ := fwok_payment hc1 a1 a2 r
    cases e3.symm.trans hfw
    refine j_istore (pc := 2368) hX dL_law_2368 (by decide) [some (vA (some s)), some (vA (some x)), some (vA (some b)), some (vA (some out)), some (vI i), some (vI (0 : Int32)), none, none] rfl ?_
    refine j_aload_n (pc := 2370) hX dL_law_2370 rfl ?_
    refine j_aload_n (pc := 2371) hX dL_law_2371 rfl ?_
    refine j_iload (pc := 2372) hX dL_law_2372 rfl ?_
    refine j_iconst (pc := 2374) hX (1 : Int32) dL_law_2374 rfl ?_
    refine j_iadd (pc := 2375) hX dL_law_2375 ?_
    refine j_rd (pc := 2376) hX hc2.1 hb1 ha1 dL_law_2376 ?_
    refine j_aload_n (pc := 2377) hX dL_law_2377 rfl ?_
    refine j_iload (pc := 2378) hX dL_law_2378 rfl ?_
    refine j_iconst (pc := 2380) hX (2 : Int32) dL_law_2380 rfl ?_
    refine j_iadd (pc := 2381) hX dL_law_2381 ?_
    refine j_rd (pc := 2382) hX hc2.1 hb2 ha2 dL_law_2382 ?_
    refine zJ_eq hc2.2.2.1 ?_
    refine j_callV (pc := 2383) hX (ci := 3) mt_X4_payment q2753 q2754 q2755 (zIj_isC b w2 M) ⟨_, rfl, rfl⟩ [vI a1, vI a2] rfl rfl (Nat.le_of_ble_eq_true rfl) (by decide) dL_law_2383 (k_X4_payment _ _ e2) ?_
    obtain ⟨hc3, ho3, hn3⟩ := zLI_mem hc2 M1
    refine j_lstore (pc := 2386) hX dL_law_2386 (by decide) [some (vA (some s)), some (vA (some x)), some (vA (some b)), some (vA (some out)), some (vI i), some (vI (0 : Int32)), some (vL rm), none] rfl ?_
    refine j_aload_n (pc := 2388) hX dL_law_2388 rfl ?_
    refine j_callV (pc := 2389) hX (ci := 3) mt_X4_thrown q2456 q2457 q2458 (zIj_isC b w2 M1) ⟨_, rfl, rfl⟩ [] rfl rfl (Nat.le_of_ble_eq_true rfl) (by decide) dL_law_2389 (k_X4_thrown (n := N) _ _ rfl) ?_
    have hov : aL (zIj b w2 M1) (some out) 0 = some r := (ho3 0).trans hov
    refine j_iload (pc := 2392) hX dL_law_2392 rfl ?_
    refine j_icmp_eq (pc := 2394) hX 2399 (A := some ()) (B := some ()) (o := ()) dL_law_2394 rfl (by split <;> rfl) (fun _ _ => ?_) (fun h_ _ => absurd hag.1 h_)
    refine j_iload (pc := 2399) hX dL_law_2399 rfl ?_
    refine j_if_ne (pc := 2401) hX 2415 (A := some ()) (B := some ()) (o := ()) dL_law_2401 rfl (by split <;> rfl) (fun h_ _ => absurd rfl h_) (fun _ _ => ?_)
    refine j_aload_n (pc := 2404) hX dL_law_2404 rfl ?_
    refine j_iconst (pc := 2405) hX (0 : Int32) dL_law_2405 rfl ?_
    refine j_ld (pc := 2406) hX hov dL_law_2406 ?_
    refine j_lload (pc := 2407) hX dL_law_2407 rfl ?_
    refine j_lcmp (pc := 2409) hX dL_law_2409 ?_
    refine j_if_eq (pc := 2410) hX 2415 (A := some ()) (B := some ()) (o := ()) dL_law_2410 rfl (by split <;> rfl) (fun _ _ => ?_) (fun h_ _ => absurd (by rw [hag.2]; exact lg_cmp_self _) h_)
    refine j_goto (pc := 2415) hX 2691 dL_law_2415 rfl ?_
    refine j_fg [5, 6] [some (vA (some s)), some (vA (some x)), some (vA (some b)), some (vA (some out)), some (vI i), none, none, none] rfl ?_
    exact kk _ _ hc3 (hnx _ (hn3 _ hn2))
def Op_comeBack (N s L x b out : Nat) (xs : Nat → Int32) (S : Nat → zWd → zM → Prop) : Prop := ∀ (n : Nat) (w : zWd) (M : zM) (p1 : Int32) , n < 64 → zLI s L x b out xs w M → S n w M →
  ∃ (o : String ⊕ Int64) (w1 : zWd) (rm : Int64) (M1 : zM), f_X1_comeBack N (some x) p1 w = some (o, w1) ∧ f_X4_comeBack N p1 M = some (rm, M1) ∧ zLI s L x b out xs w1 M ∧ (match o with | .inr r => mI M1 67 = 0 ∧ r = rm | .inl E => E ∈ ["java/lang/IndexOutOfBoundsException", "java/lang/IllegalStateException"] ∧ mI M1 67 = cd_comeBack E) ∧ ∀ w2, zNx b out w1 w2 → S (n + 1) w2 M1
theorem fwok_comeBack {s L x b out : Nat} {xs : Nat → Int32} {w1 : zWd} {M : zM} (hc : zLI s L x b out xs w1 M) (p1 : Int32) (r : Int64) : ∃ w2, fw_comeBack (some x) p1 (some out) r w1 = some ((0 : Int32), w2) ∧ zLI s L x b out xs w2 M ∧ aL w2 (some out) 0 = some r ∧  zNx b out w1 w2 := by
  obtain ⟨w2, e, h1, h2, h3⟩ := zLI_out hc r
  refine ⟨w2, ?_, h1, h2, h3⟩
  unfold fw_comeBack
  rw [e]
  rfl
set_option maxHeartbeats 4000000 in
theorem lc_comeBack {X : zX} (hX : zGd X RX0 cL_law 8 ret 24) {s L x b out n N : Nat} {xs : Nat → Int32} {i : Int32} {S : Nat → zWd → zM → Prop} {w : zWd} {M : zM} (hn : n < 64) (hc : zLI s L x b out xs w M) (hS : S n w M) (op : Op_comeBack N s L x b out xs S)
    (hb : ∀ j ∈ [(1 : Int32), 2, 3, 4, 5, 6, 7], ¬ (i + j < 0 ∨ L ≤ (i + j).toNatClampNeg)) (kk : ∀ w' M', zLI s L x b out xs w' M' → S (n + 1) w' M' → zJ X 2691 [some (vA (some s)), some (vA (some x)), some (vA (some b)), some (vA (some out)), some (vI i), none, none, none] [] w') : zJ X 2418 [some (vA (some s)), some (vA (some x)), some (vA (some b)), some (vA (some out)), some (vI i), none, none, none] [] w := by
  obtain ⟨a1, ha1⟩ : ∃ v, xs (i + (1 : Int32)).toNatClampNeg = v := ⟨_, rfl⟩
  have hb1 := hb (1 : Int32) (by decide)
  obtain ⟨o, w1, rm, M1, e1, e2, hc1, hag, hnx⟩ := op n w M a1 hn hc hS
  refine j_aload_n (pc := 2418) hX dL_law_2418 rfl ?_
  refine j_aload_n (pc := 2419) hX dL_law_2419 rfl ?_
  refine j_iload (pc := 2420) hX dL_law_2420 rfl ?_
  refine j_iconst (pc := 2422) hX (1 : Int32) dL_law_2422 rfl ?_
  refine j_iadd (pc := 2423) hX dL_law_2423 ?_
  refine j_rd (pc := 2424) hX hc.1 hb1 ha1 dL_law_2424 ?_
  refine j_aload_n (pc := 2425) hX dL_law_2425 rfl ?_
  refine j_callSR (pc := 2426) hX mw_comeBack q2211 q2212 [vA (some x), vI a1, vA (some out)] rfl rfl (Nat.le_of_ble_eq_true rfl) (by decide) dL_law_2426 (kw_comeBack o hc.2.2.2.1 e1 (fun r hr => ⟨_, _, (fwok_comeBack hc1 a1 r).choose_spec.1⟩) (fun E hE => by subst hE; exact hag.1)) (fun v' w2 hR => ?_)
  rcases o with E | r
  · obtain ⟨rfl, hth⟩ := hR
    obtain ⟨hE, ht⟩ := hag
    obtain ⟨hc2, hn2⟩ := zLI_th hc1 hth
    have hk : ¬ cd_comeBack E = 0 := by
      simp only [List.mem_cons, List.not_mem_nil, or_false] at hE
      rcases hE with rfl | rfl <;> decide +kernel
    refine j_istore (pc := 2429) hX dL_law_2429 (by decide) [some (vA (some s)), some (vA (some x)), some (vA (some b)), some (vA (some out)), some (vI i), some (vI (cd_comeBack E)), none, none] rfl ?_
    refine j_aload_n (pc := 2431) hX dL_law_2431 rfl ?_
    refine j_aload_n (pc := 2432) hX dL_law_2432 rfl ?_
    refine j_iload (pc := 2433) hX dL_law_2433 rfl ?_
    refine j_iconst (pc := 2435) hX (1 : Int32) dL_law_2435 rfl ?_
    refine j_iadd (pc := 2436) hX dL_law_2436 ?_
    refine j_rd (pc := 2437) hX hc2.1 hb1 ha1 dL_law_2437 ?_
    refine zJ_eq hc2.2.2.1 ?_
    refine j_callV (pc := 2438) hX (ci := 3) mt_X4_comeBack q2758 q2759 q2760 (zIj_isC b w2 M) ⟨_, rfl, rfl⟩ [vI a1] rfl rfl (Nat.le_of_ble_eq_true rfl) (by decide) dL_law_2438 (k_X4_comeBack _ _ e2) ?_
    obtain ⟨hc3, ho3, hn3⟩ := zLI_mem hc2 M1
    refine j_lstore (pc := 2441) hX dL_law_2441 (by decide) [some (vA (some s)), some (vA (some x)), some (vA (some b)), some (vA (some out)), some (vI i), some (vI (cd_comeBack E)), some (vL rm), none] rfl ?_
    refine j_aload_n (pc := 2443) hX dL_law_2443 rfl ?_
    refine j_callV (pc := 2444) hX (ci := 3) mt_X4_thrown q2456 q2457 q2458 (zIj_isC b w2 M1) ⟨_, rfl, rfl⟩ [] rfl rfl (Nat.le_of_ble_eq_true rfl) (by decide) dL_law_2444 (k_X4_thrown (n := N) _ _ rfl) ?_
    refine j_iload (pc := 2447) hX dL_law_2447 rfl ?_
    refine j_icmp_eq (pc := 2449) hX 2454 (A := some ()) (B := some ()) (o := ()) dL_law_2449 rfl (by split <;> rfl) (fun _ _ => ?_) (fun h_ _ => absurd ht h_)
    refine j_iload (pc := 2454) hX dL_law_2454 rfl ?_
    refine j_if_ne (pc := 2456) hX 2470 (A := some ()) (B := some ()) (o := ()) dL_law_2456 rfl (by split <;> rfl) (fun _ _ => ?_) (fun h_ _ => absurd h_ hk)
    refine j_goto (pc := 2470) hX 2691 dL_law_2470 rfl ?_
    refine j_fg [5, 6] [some (vA (some s)), some (vA (some x)), some (vA (some b)), some (vA (some out)), some (vI i), none, none, none] rfl ?_
    exact kk _ _ hc3 (hnx _ (hn3 _ hn2))
  · obtain ⟨xx, hfw, rfl⟩ := hR
    obtain ⟨w3, e3, hc2, hov, hn2⟩ := fwok_comeBack hc1 a1 r
    cases e3.symm.trans hfw
    refine j_istore (pc := 2429) hX dL_law_2429 (by decide) [some (vA (some s)), some (vA (some x)), some (vA (some b)), some (vA (some out)), some (vI i), some (vI (0 : Int32)), none, none] rfl ?_
    refine j_aload_n (pc := 2431) hX dL_law_2431 rfl ?_
    refine j_aload_n (pc := 2432) hX dL_law_2432 rfl ?_
    refine j_iload (pc := 2433) hX dL_law_2433 rfl ?_
    refine j_iconst (pc := 2435) hX (1 : Int32) dL_law_2435 rfl ?_
    refine j_iadd (pc := 2436) hX dL_law_2436 ?_
    refine j_rd (pc := 2437) hX hc2.1 hb1 ha1 dL_law_2437 ?_
    refine zJ_eq hc2.2.2.1 ?_
    refine j_callV (pc := 2438) hX (ci := 3) mt_X4_comeBack q2758 q2759 q2760 (zIj_isC b w2 M) ⟨_, rfl, rfl⟩ [vI a1] rfl rfl (Nat.le_of_ble_eq_true rfl) (by decide) dL_law_2438 (k_X4_comeBack _ _ e2) ?_
    obtain ⟨hc3, ho3, hn3⟩ := zLI_mem hc2 M1
    refine j_lstore (pc := 2441) hX dL_law_2441 (by decide) [some (vA (some s)), some (vA (some x)), some (vA (some b)), some (vA (some out)), some (vI i), some (vI (0 : Int32)), some (vL rm), none] rfl ?_
    refine j_aload_n (pc := 2443) hX dL_law_2443 rfl ?_
    refine j_callV (pc := 2444) hX (ci := 3) mt_X4_thrown q2456 q2457 q2458 (zIj_isC b w2 M1) ⟨_, rfl, rfl⟩ [] rfl rfl (Nat.le_of_ble_eq_true rfl) (by decide) dL_law_2444 (k_X4_thrown (n := N) _ _ rfl) ?_
    have hov : aL (zIj b w2 M1) (some out) 0 = some r := (ho3 0).trans hov
    refine j_iload (pc := 2447) hX dL_law_2447 rfl ?_
    refine j_icmp_eq (pc := 2449) hX 2454 (A := some ()) (B := some ()) (o := ()) dL_law_2449 rfl (by split <;> rfl) (fun _ _ => ?_) (fun h_ _ => absurd hag.1 h_)
    refine j_iload (pc := 2454) hX dL_law_2454 rfl ?_
    refine j_if_ne (pc := 2456) hX 2470 (A := some ()) (B := some ()) (o := ()) dL_law_2456 rfl (by split <;> rfl) (fun h_ _ => absurd rfl h_) (fun _ _ => ?_)
    refine j_aload_n (pc := 2459) hX dL_law_2459 rfl ?_
    refine j_iconst (pc := 2460) hX (0 : Int32) dL_law_2460 rfl ?_
    refine j_ld (pc := 2461) hX hov dL_law_2461 ?_
    refine j_lload (pc := 2462) hX dL_law_2462 rfl ?_
    refine j_lcmp (pc := 2464) hX dL_law_2464 ?_
    refine j_if_eq (pc := 2465) hX 2470 (A := some ()) (B := some ()) (o := ()) dL_law_2465 rfl (by split <;> rfl) (fun _ _ => ?_) (fun h_ _ => absurd (by rw [hag.2]; exact lg_cmp_self _) h_)
    refine j_goto (pc := 2470) hX 2691 dL_law_2470 rfl ?_
    refine j_fg [5, 6] [some (vA (some s)), some (vA (some x)), some (vA (some b)), some (vA (some out)), some (vI i), none, none, none] rfl ?_
    exact kk _ _ hc3 (hnx _ (hn3 _ hn2))
def Op_owed (N s L x b out : Nat) (xs : Nat → Int32) (S : Nat → zWd → zM → Prop) : Prop := ∀ (n : Nat) (w : zWd) (M : zM) (p1 : Int32) , n < 64 → zLI s L x b out xs w M → S n w M →
  ∃ (o : String ⊕ Int64) (w1 : zWd) (rm : Int64) (M1 : zM), f_X1_owed N (some x) p1 w = some (o, w1) ∧ f_X4_owed N p1 M = some (rm, M1) ∧ zLI s L x b out xs w1 M ∧ (match o with | .inr r => mI M1 67 = 0 ∧ r = rm | .inl E => E ∈ ["java/lang/IndexOutOfBoundsException"] ∧ mI M1 67 = cd_owed E) ∧ ∀ w2, zNx b out w1 w2 → S (n + 1) w2 M1
theorem fwok_owed {s L x b out : Nat} {xs : Nat → Int32} {w1 : zWd} {M : zM} (hc : zLI s L x b out xs w1 M) (p1 : Int32) (r : Int64) : ∃ w2, fw_owed (some x) p1 (some out) r w1 = some ((0 : Int32), w2) ∧ zLI s L x b out xs w2 M ∧ aL w2 (some out) 0 = some r ∧  zNx b out w1 w2 := by
  obtain ⟨w2, e, h1, h2, h3⟩ := zLI_out hc r
  refine ⟨w2, ?_, h1, h2, h3⟩
  unfold fw_owed
  rw [e]
  rfl
set_option maxHeartbeats 4000000 in
theorem lc_owed {X : zX} (hX : zGd X RX0 cL_law 8 ret 24) {s L x b out n N : Nat} {xs : Nat → Int32} {i : Int32} {S : Nat → zWd → zM → Prop} {w : zWd} {M : zM} (hn : n < 64) (hc : zLI s L x b out xs w M) (hS : S n w M) (op : Op_owed N s L x b out xs S)
    (hb : ∀ j ∈ [(1 : Int32), 2, 3, 4, 5, 6, 7], ¬ (i + j < 0 ∨ L ≤ (i + j).toNatClampNeg)) (kk : ∀ w' M', zLI s L x b out xs w' M' → S (n + 1) w' M' → zJ X 2691 [some (vA (some s)), some (vA (some x)), some (vA (some b)), some (vA (some out)), some (vI i), none, none, none] [] w') : zJ X 2473 [some (vA (some s)), some (vA (some x)), some (vA (some b)), some (vA (some out)), some (vI i), none, none, none] [] w := by
  obtain ⟨a1, ha1⟩ : ∃ v, xs (i + (1 : Int32)).toNatClampNeg = v := ⟨_, rfl⟩
  have hb1 := hb (1 : Int32) (by decide)
  obtain ⟨o, w1, rm, M1, e1, e2, hc1, hag, hnx⟩ := op n w M a1 hn hc hS
  refine j_aload_n (pc := 2473) hX dL_law_2473 rfl ?_
  refine j_aload_n (pc := 2474) hX dL_law_2474 rfl ?_
  refine j_iload (pc := 2475) hX dL_law_2475 rfl ?_
  refine j_iconst (pc := 2477) hX (1 : Int32) dL_law_2477 rfl ?_
  refine j_iadd (pc := 2478) hX dL_law_2478 ?_
  refine j_rd (pc := 2479) hX hc.1 hb1 ha1 dL_law_2479 ?_
  refine j_aload_n (pc := 2480) hX dL_law_2480 rfl ?_
  refine j_callSR (pc := 2481) hX mw_owed q2218 q2219 [vA (some x), vI a1, vA (some out)] rfl rfl (Nat.le_of_ble_eq_true rfl) (by decide) dL_law_2481 (kw_owed o hc.2.2.2.1 e1 (fun r hr => ⟨_, _, (fwok_owed hc1 a1 r).choose_spec.1⟩) (fun E hE => by subst hE; exact hag.1)) (fun v' w2 hR => ?_)
  rcases o with E | r
  · obtain ⟨rfl, hth⟩ := hR
    obtain ⟨hE, ht⟩ := hag
    obtain ⟨hc2, hn2⟩ := zLI_th hc1 hth
    have hk : ¬ cd_owed E = 0 := by
      simp only [List.mem_cons, List.not_mem_nil, or_false] at hE
      rcases hE with rfl
      decide +kernel
    refine j_istore (pc := 2484) hX dL_law_2484 (by decide) [some (vA (some s)), some (vA (some x)), some (vA (some b)), some (vA (some out)), some (vI i), some (vI (cd_owed E)), none, none] rfl ?_
    refine j_aload_n (pc := 2486) hX dL_law_2486 rfl ?_
    refine j_aload_n (pc := 2487) hX dL_law_2487 rfl ?_
    refine j_iload (pc := 2488) hX dL_law_2488 rfl ?_
    refine j_iconst (pc := 2490) hX (1 : Int32) dL_law_2490 rfl ?_
    refine j_iadd (pc := 2491) hX dL_law_2491 ?_
    refine j_rd (pc := 2492) hX hc2.1 hb1 ha1 dL_law_2492 ?_
    refine zJ_eq hc2.2.2.1 ?_
    refine j_callV (pc := 2493) hX (ci := 3) mt_X4_owed q2762 q2763 q2764 (zIj_isC b w2 M) ⟨_, rfl, rfl⟩ [vI a1] rfl rfl (Nat.le_of_ble_eq_true rfl) (by decide) dL_law_2493 (k_X4_owed _ _ e2) ?_
    obtain ⟨hc3, ho3, hn3⟩ := zLI_mem hc2 M1
    refine j_lstore (pc := 2496) hX dL_law_2496 (by decide) [some (vA (some s)), some (vA (some x)), some (vA (some b)), some (vA (some out)), some (vI i), some (vI (cd_owed E)), some (vL rm), none] rfl ?_
    refine j_aload_n (pc := 2498) hX dL_law_2498 rfl ?_
    refine j_callV (pc := 2499) hX (ci := 3) mt_X4_thrown q2456 q2457 q2458 (zIj_isC b w2 M1) ⟨_, rfl, rfl⟩ [] rfl rfl (Nat.le_of_ble_eq_true rfl) (by decide) dL_law_2499 (k_X4_thrown (n := N) _ _ rfl) ?_
    refine j_iload (pc := 2502) hX dL_law_2502 rfl ?_
    refine j_icmp_eq (pc := 2504) hX 2509 (A := some ()) (B := some ()) (o := ()) dL_law_2504 rfl (by split <;> rfl) (fun _ _ => ?_) (fun h_ _ => absurd ht h_)
    refine j_iload (pc := 2509) hX dL_law_2509 rfl ?_
    refine j_if_ne (pc := 2511) hX 2525 (A := some ()) (B := some ()) (o := ()) dL_law_2511 rfl (by split <;> rfl) (fun _ _ => ?_) (fun h_ _ => absurd h_ hk)
    refine j_goto (pc := 2525) hX 2691 dL_law_2525 rfl ?_
    refine j_fg [5, 6] [some (vA (some s)), some (vA (some x)), some (vA (some b)), some (vA (some out)), some (vI i), none, none, none] rfl ?_
    exact kk _ _ hc3 (hnx _ (hn3 _ hn2))
  · obtain ⟨xx, hfw, rfl⟩ := hR
    obtain ⟨w3, e3, hc2, hov, hn2⟩ := fwok_owed hc1 a1 r
    cases e3.symm.trans hfw
    refine j_istore (pc := 2484) hX dL_law_2484 (by decide) [some (vA (some s)), some (vA (some x)), some (vA (some b)), some (vA (some out)), some (vI i), some (vI (0 : Int32)), none, none] rfl ?_
    refine j_aload_n (pc := 2486) hX dL_law_2486 rfl ?_
    refine j_aload_n (pc := 2487) hX dL_law_2487 rfl ?_
    refine j_iload (pc := 2488) hX dL_law_2488 rfl ?_
    refine j_iconst (pc := 2490) hX (1 : Int32) dL_law_2490 rfl ?_
    refine j_iadd (pc := 2491) hX dL_law_2491 ?_
    refine j_rd (pc := 2492) hX hc2.1 hb1 ha1 dL_law_2492 ?_
    refine zJ_eq hc2.2.2.1 ?_
    refine j_callV (pc := 2493) hX (ci := 3) mt_X4_owed q2762 q2763 q2764 (zIj_isC b w2 M) ⟨_, rfl, rfl⟩ [vI a1] rfl rfl (Nat.le_of_ble_eq_true rfl) (by decide) dL_law_2493 (k_X4_owed _ _ e2) ?_
    obtain ⟨hc3, ho3, hn3⟩ := zLI_mem hc2 M1
    refine j_lstore (pc := 2496) hX dL_law_2496 (by decide) [some (vA (some s)), some (vA (some x)), some (vA (some b)), some (vA (some out)), some (vI i), some (vI (0 : Int32)), some (vL rm), none] rfl ?_
    refine j_aload_n (pc := 2498) hX dL_law_2498 rfl ?_
    refine j_callV (pc := 2499) hX (ci := 3) mt_X4_thrown q2456 q2457 q2458 (zIj_isC b w2 M1) ⟨_, rfl, rfl⟩ [] rfl rfl (Nat.le_of_ble_eq_true rfl) (by decide) dL_law_2499 (k_X4_thrown (n := N) _ _ rfl) ?_
    have hov : aL (zIj b w2 M1) (some out) 0 = some r := (ho3 0).trans hov
    refine j_iload (pc := 2502) hX dL_law_2502 rfl ?_
    refine j_icmp_eq (pc := 2504) hX 2509 (A := some ()) (B := some ()) (o := ()) dL_law_2504 rfl (by split <;> rfl) (fun _ _ => ?_) (fun h_ _ => absurd hag.1 h_)
    refine j_iload (pc := 2509) hX dL_law_2509 rfl ?_
    refine j_if_ne (pc := 2511) hX 2525 (A := some ()) (B := some ()) (o := ()) dL_law_2511 rfl (by split <;> rfl) (fun h_ _ => absurd rfl h_) (fun _ _ => ?_)
    refine j_aload_n (pc := 2514) hX dL_law_2514 rfl ?_
    refine j_iconst (pc := 2515) hX (0 : Int32) dL_law_2515 rfl ?_
    refine j_ld (pc := 2516) hX hov dL_law_2516 ?_
    refine j_lload (pc := 2517) hX dL_law_2517 rfl ?_
    refine j_lcmp (pc := 2519) hX dL_law_2519 ?_
    refine j_if_eq (pc := 2520) hX 2525 (A := some ()) (B := some ()) (o := ()) dL_law_2520 rfl (by split <;> rfl) (fun _ _ => ?_) (fun h_ _ => absurd (by rw [hag.2]; exact lg_cmp_self _) h_)
    refine j_goto (pc := 2525) hX 2691 dL_law_2525 rfl ?_
    refine j_fg [5, 6] [some (vA (some s)), some (vA (some x)), some (vA (some b)), some (vA (some out)), some (vI i), none, none, none] rfl ?_
    exact kk _ _ hc3 (hnx _ (hn3 _ hn2))
def Op_filed (N s L x b out : Nat) (xs : Nat → Int32) (S : Nat → zWd → zM → Prop) : Prop := ∀ (n : Nat) (w : zWd) (M : zM) (p1 : Int32) (p2 : Int32) (p3 : Int32) , n < 64 → zLI s L x b out xs w M → S n w M → (p3 = 0 ∨ p3 = 1) →
  ∃ (o : String ⊕ Int64) (w1 : zWd) (rm : Int64) (M1 : zM), f_X1_filed N (some x) p1 p2 p3 w = some (o, w1) ∧ f_X4_filed N p1 p2 p3 M = some (rm, M1) ∧ zLI s L x b out xs w1 M ∧ (match o with | .inr r => mI M1 67 = 0 ∧ r = rm | .inl E => E ∈ ["java/lang/IndexOutOfBoundsException"] ∧ mI M1 67 = cd_filed E) ∧ ∀ w2, zNx b out w1 w2 → S (n + 1) w2 M1
theorem fwok_filed {s L x b out : Nat} {xs : Nat → Int32} {w1 : zWd} {M : zM} (hc : zLI s L x b out xs w1 M) (p1 : Int32) (p2 : Int32) (p3 : Int32) (r : Int64) : ∃ w2, fw_filed (some x) p1 p2 p3 (some out) r w1 = some ((0 : Int32), w2) ∧ zLI s L x b out xs w2 M ∧ aL w2 (some out) 0 = some r ∧  zNx b out w1 w2 := by
  obtain ⟨w2, e, h1, h2, h3⟩ := zLI_out hc r
  refine ⟨w2, ?_, h1, h2, h3⟩
  unfold fw_filed
  rw [e]
  rfl
set_option maxHeartbeats 4000000 in
theorem lc_filed {X : zX} (hX : zGd X RX0 cL_law 8 ret 24) {s L x b out n N : Nat} {xs : Nat → Int32} {i : Int32} {S : Nat → zWd → zM → Prop} {w : zWd} {M : zM} (hn : n < 64) (hc : zLI s L x b out xs w M) (hS : S n w M) (op : Op_filed N s L x b out xs S)
    (hb : ∀ j ∈ [(1 : Int32), 2, 3, 4, 5, 6, 7], ¬ (i + j < 0 ∨ L ≤ (i + j).toNatClampNeg)) (kk : ∀ w' M', zLI s L x b out xs w' M' → S (n + 1) w' M' → zJ X 2691 [some (vA (some s)), some (vA (some x)), some (vA (some b)), some (vA (some out)), some (vI i), none, none, none] [] w') : zJ X 2528 [some (vA (some s)), some (vA (some x)), some (vA (some b)), some (vA (some out)), some (vI i), none, none, none] [] w := by
  obtain ⟨a1, ha1⟩ : ∃ v, xs (i + (1 : Int32)).toNatClampNeg = v := ⟨_, rfl⟩
  have hb1 := hb (1 : Int32) (by decide)
  obtain ⟨a2, ha2⟩ : ∃ v, xs (i + (2 : Int32)).toNatClampNeg = v := ⟨_, rfl⟩
  have hb2 := hb (2 : Int32) (by decide)
  obtain ⟨a3, ha3⟩ : ∃ v, xs (i + (3 : Int32)).toNatClampNeg = v := ⟨_, rfl⟩
  have hb3 := hb (3 : Int32) (by decide)
  by_cases hz : a3 = 0
  · obtain ⟨o, w1, rm, M1, e1, e2, hc1, hag, hnx⟩ := op n w M a1 a2 (0 : Int32) hn hc hS (Or.inl rfl)
    refine j_aload_n (pc := 2528) hX dL_law_2528 rfl ?_
    refine j_aload_n (pc := 2529) hX dL_law_2529 rfl ?_
    refine j_iload (pc := 2530) hX dL_law_2530 rfl ?_
    refine j_iconst (pc := 2532) hX (1 : Int32) dL_law_2532 rfl ?_
    refine j_iadd (pc := 2533) hX dL_law_2533 ?_
    refine j_rd (pc := 2534) hX hc.1 hb1 ha1 dL_law_2534 ?_
    refine j_aload_n (pc := 2535) hX dL_law_2535 rfl ?_
    refine j_iload (pc := 2536) hX dL_law_2536 rfl ?_
    refine j_iconst (pc := 2538) hX (2 : Int32) dL_law_2538 rfl ?_
    refine j_iadd (pc := 2539) hX dL_law_2539 ?_
    refine j_rd (pc := 2540) hX hc.1 hb2 ha2 dL_law_2540 ?_
    refine j_aload_n (pc := 2541) hX dL_law_2541 rfl ?_
    refine j_iload (pc := 2542) hX dL_law_2542 rfl ?_
    refine j_iconst (pc := 2544) hX (3 : Int32) dL_law_2544 rfl ?_
    refine j_iadd (pc := 2545) hX dL_law_2545 ?_
    refine j_rd (pc := 2546) hX hc.1 hb3 ha3 dL_law_2546 ?_
    refine j_if_eq (pc := 2547) hX 2554 (A := some ()) (B := some ()) (o := ()) dL_law_2547 rfl (by split <;> rfl) (fun _ _ => ?_) (fun h_ _ => absurd hz h_)
    refine j_iconst (pc := 2554) hX (0 : Int32) dL_law_2554 rfl ?_
    refine j_aload_n (pc := 2555) hX dL_law_2555 rfl ?_
    refine j_callSR (pc := 2556) hX mw_filed q2225 q2226 [vA (some x), vI a1, vI a2, vI (0 : Int32), vA (some out)] rfl rfl (Nat.le_of_ble_eq_true rfl) (by decide) dL_law_2556 (kw_filed o hc.2.2.2.1 e1 (fun r hr => ⟨_, _, (fwok_filed hc1 a1 a2 (0 : Int32) r).choose_spec.1⟩) (fun E hE => by subst hE; exact hag.1)) (fun v' w2 hR => ?_)
    rcases o with E | r
    · obtain ⟨rfl, hth⟩ := hR
      obtain ⟨hE, ht⟩ := hag
      obtain ⟨hc2, hn2⟩ := zLI_th hc1 hth
      have hk : ¬ cd_filed E = 0 := by
        simp only [List.mem_cons, List.not_mem_nil, or_false] at hE
        rcases hE with rfl
        decide +kernel
      refine j_istore (pc := 2559) hX dL_law_2559 (by decide) [some (vA (some s)), some (vA (some x)), some (vA (some b)), some (vA (some out)), some (vI i), some (vI (cd_filed E)), none, none] rfl ?_
      refine j_aload_n (pc := 2561) hX dL_law_2561 rfl ?_
      refine j_aload_n (pc := 2562) hX dL_law_2562 rfl ?_
      refine j_iload (pc := 2563) hX dL_law_2563 rfl ?_
      refine j_iconst (pc := 2565) hX (1 : Int32) dL_law_2565 rfl ?_
      refine j_iadd (pc := 2566) hX dL_law_2566 ?_
      refine j_rd (pc := 2567) hX hc2.1 hb1 ha1 dL_law_2567 ?_
      refine j_aload_n (pc := 2568) hX dL_law_2568 rfl ?_
      refine j_iload (pc := 2569) hX dL_law_2569 rfl ?_
      refine j_iconst (pc := 2571) hX (2 : Int32) dL_law_2571 rfl ?_
      refine j_iadd (pc := 2572) hX dL_law_2572 ?_
      refine j_rd (pc := 2573) hX hc2.1 hb2 ha2 dL_law_2573 ?_
      refine j_aload_n (pc := 2574) hX dL_law_2574 rfl ?_
      refine j_iload (pc := 2575) hX dL_law_2575 rfl ?_
      refine j_iconst (pc := 2577) hX (3 : Int32) dL_law_2577 rfl ?_
      refine j_iadd (pc := 2578) hX dL_law_2578 ?_
      refine j_rd (pc := 2579) hX hc2.1 hb3 ha3 dL_law_2579 ?_
      refine j_if_eq (pc := 2580) hX 2587 (A := some ()) (B := some ()) (o := ()) dL_law_2580 rfl (by split <;> rfl) (fun _ _ => ?_) (fun h_ _ => absurd hz h_)
      refine j_iconst (pc := 2587) hX (0 : Int32) dL_law_2587 rfl ?_
      refine zJ_eq hc2.2.2.1 ?_
      refine j_callV (pc := 2588) hX (ci := 3) mt_X4_filed q2766 q2767 q2768 (zIj_isC b w2 M) ⟨_, rfl, rfl⟩ [vI a1, vI a2, vI (0 : Int32)] rfl rfl (Nat.le_of_ble_eq_true rfl) (by decide) dL_law_2588 (k_X4_filed _ _ e2) ?_
      obtain ⟨hc3, ho3, hn3⟩ := zLI_mem hc2 M1
      refine j_lstore (pc := 2591) hX dL_law_2591 (by decide) [some (vA (some s)), some (vA (some x)), some (vA (some b)), some (vA (some out)), some (vI i), some (vI (cd_filed E)), some (vL rm), none] rfl ?_
      refine j_aload_n (pc := 2593) hX dL_law_2593 rfl ?_
      refine j_callV (pc := 2594) hX (ci := 3) mt_X4_thrown q2456 q2457 q2458 (zIj_isC b w2 M1) ⟨_, rfl, rfl⟩ [] rfl rfl (Nat.le_of_ble_eq_true rfl) (by decide) dL_law_2594 (k_X4_thrown (n := N) _ _ rfl) ?_
      refine j_iload (pc := 2597) hX dL_law_2597 rfl ?_
      refine j_icmp_eq (pc := 2599) hX 2604 (A := some ()) (B := some ()) (o := ()) dL_law_2599 rfl (by split <;> rfl) (fun _ _ => ?_) (fun h_ _ => absurd ht h_)
      refine j_iload (pc := 2604) hX dL_law_2604 rfl ?_
      refine j_if_ne (pc := 2606) hX 2620 (A := some ()) (B := some ()) (o := ()) dL_law_2606 rfl (by split <;> rfl) (fun _ _ => ?_) (fun h_ _ => absurd h_ hk)
      refine j_goto (pc := 2620) hX 2691 dL_law_2620 rfl ?_
      refine j_fg [5, 6] [some (vA (some s)), some (vA (some x)), some (vA (some b)), some (vA (some out)), some (vI i), none, none, none] rfl ?_
      exact kk _ _ hc3 (hnx _ (hn3 _ hn2))
    · obtain ⟨xx, hfw, rfl⟩ := hR
      obtain ⟨w3, e3, hc2, hov, hn2⟩ := fwok_filed hc1 a1 a2 (0 : Int32) r
      cases e3.symm.trans hfw
      refine j_istore (pc := 2559) hX dL_law_2559 (by decide) [some (vA (some s)), some (vA (some x)), some (vA (some b)), some (vA (some out)), some (vI i), some (vI (0 : Int32)), none, none] rfl ?_
      refine j_aload_n (pc := 2561) hX dL_law_2561 rfl ?_
      refine j_aload_n (pc := 2562) hX dL_law_2562 rfl ?_
      refine j_iload (pc := 2563) hX dL_law_2563 rfl ?_
      refine j_iconst (pc := 2565) hX (1 : Int32) dL_law_2565 rfl ?_
      refine j_iadd (pc := 2566) hX dL_law_2566 ?_
      refine j_rd (pc := 2567) hX hc2.1 hb1 ha1 dL_law_2567 ?_
      refine j_aload_n (pc := 2568) hX dL_law_2568 rfl ?_
      refine j_iload (pc := 2569) hX dL_law_2569 rfl ?_
      refine j_iconst (pc := 2571) hX (2 : Int32) dL_law_2571 rfl ?_
      refine j_iadd (pc := 2572) hX dL_law_2572 ?_
      refine j_rd (pc := 2573) hX hc2.1 hb2 ha2 dL_law_2573 ?_
      refine j_aload_n (pc := 2574) hX dL_law_2574 rfl ?_
      refine j_iload (pc := 2575) hX dL_law_2575 rfl ?_
      refine j_iconst (pc := 2577) hX (3 : Int32) dL_law_2577 rfl ?_
      refine j_iadd (pc := 2578) hX dL_law_2578 ?_
      refine j_rd (pc := 2579) hX hc2.1 hb3 ha3 dL_law_2579 ?_
      refine j_if_eq (pc := 2580) hX 2587 (A := some ()) (B := some ()) (o := ()) dL_law_2580 rfl (by split <;> rfl) (fun _ _ => ?_) (fun h_ _ => absurd hz h_)
      refine j_iconst (pc := 2587) hX (0 : Int32) dL_law_2587 rfl ?_
      refine zJ_eq hc2.2.2.1 ?_
      refine j_callV (pc := 2588) hX (ci := 3) mt_X4_filed q2766 q2767 q2768 (zIj_isC b w2 M) ⟨_, rfl, rfl⟩ [vI a1, vI a2, vI (0 : Int32)] rfl rfl (Nat.le_of_ble_eq_true rfl) (by decide) dL_law_2588 (k_X4_filed _ _ e2) ?_
      obtain ⟨hc3, ho3, hn3⟩ := zLI_mem hc2 M1
      refine j_lstore (pc := 2591) hX dL_law_2591 (by decide) [some (vA (some s)), some (vA (some x)), some (vA (some b)), some (vA (some out)), some (vI i), some (vI (0 : Int32)), some (vL rm), none] rfl ?_
      refine j_aload_n (pc := 2593) hX dL_law_2593 rfl ?_
      refine j_callV (pc := 2594) hX (ci := 3) mt_X4_thrown q2456 q2457 q2458 (zIj_isC b w2 M1) ⟨_, rfl, rfl⟩ [] rfl rfl (Nat.le_of_ble_eq_true rfl) (by decide) dL_law_2594 (k_X4_thrown (n := N) _ _ rfl) ?_
      have hov : aL (zIj b w2 M1) (some out) 0 = some r := (ho3 0).trans hov
      refine j_iload (pc := 2597) hX dL_law_2597 rfl ?_
      refine j_icmp_eq (pc := 2599) hX 2604 (A := some ()) (B := some ()) (o := ()) dL_law_2599 rfl (by split <;> rfl) (fun _ _ => ?_) (fun h_ _ => absurd hag.1 h_)
      refine j_iload (pc := 2604) hX dL_law_2604 rfl ?_
      refine j_if_ne (pc := 2606) hX 2620 (A := some ()) (B := some ()) (o := ()) dL_law_2606 rfl (by split <;> rfl) (fun h_ _ => absurd rfl h_) (fun _ _ => ?_)
      refine j_aload_n (pc := 2609) hX dL_law_2609 rfl ?_
      refine j_iconst (pc := 2610) hX (0 : Int32) dL_law_2610 rfl ?_
      refine j_ld (pc := 2611) hX hov dL_law_2611 ?_
      refine j_lload (pc := 2612) hX dL_law_2612 rfl ?_
      refine j_lcmp (pc := 2614) hX dL_law_2614 ?_
      refine j_if_eq (pc := 2615) hX 2620 (A := some ()) (B := some ()) (o := ()) dL_law_2615 rfl (by split <;> rfl) (fun _ _ => ?_) (fun h_ _ => absurd (by rw [hag.2]; exact lg_cmp_self _) h_)
      refine j_goto (pc := 2620) hX 2691 dL_law_2620 rfl ?_
      refine j_fg [5, 6] [some (vA (some s)), some (vA (some x)), some (vA (some b)), some (vA (some out)), some (vI i), none, none, none] rfl ?_
      exact kk _ _ hc3 (hnx _ (hn3 _ hn2))
  · obtain ⟨o, w1, rm, M1, e1, e2, hc1, hag, hnx⟩ := op n w M a1 a2 (1 : Int32) hn hc hS (Or.inr rfl)
    refine j_aload_n (pc := 2528) hX dL_law_2528 rfl ?_
    refine j_aload_n (pc := 2529) hX dL_law_2529 rfl ?_
    refine j_iload (pc := 2530) hX dL_law_2530 rfl ?_
    refine j_iconst (pc := 2532) hX (1 : Int32) dL_law_2532 rfl ?_
    refine j_iadd (pc := 2533) hX dL_law_2533 ?_
    refine j_rd (pc := 2534) hX hc.1 hb1 ha1 dL_law_2534 ?_
    refine j_aload_n (pc := 2535) hX dL_law_2535 rfl ?_
    refine j_iload (pc := 2536) hX dL_law_2536 rfl ?_
    refine j_iconst (pc := 2538) hX (2 : Int32) dL_law_2538 rfl ?_
    refine j_iadd (pc := 2539) hX dL_law_2539 ?_
    refine j_rd (pc := 2540) hX hc.1 hb2 ha2 dL_law_2540 ?_
    refine j_aload_n (pc := 2541) hX dL_law_2541 rfl ?_
    refine j_iload (pc := 2542) hX dL_law_2542 rfl ?_
    refine j_iconst (pc := 2544) hX (3 : Int32) dL_law_2544 rfl ?_
    refine j_iadd (pc := 2545) hX dL_law_2545 ?_
    refine j_rd (pc := 2546) hX hc.1 hb3 ha3 dL_law_2546 ?_
    refine j_if_eq (pc := 2547) hX 2554 (A := some ()) (B := some ()) (o := ()) dL_law_2547 rfl (by split <;> rfl) (fun h_ _ => absurd h_ hz) (fun _ _ => ?_)
    refine j_iconst (pc := 2550) hX (1 : Int32) dL_law_2550 rfl ?_
    refine j_goto (pc := 2551) hX 2555 dL_law_2551 rfl ?_
    refine j_aload_n (pc := 2555) hX dL_law_2555 rfl ?_
    refine j_callSR (pc := 2556) hX mw_filed q2225 q2226 [vA (some x), vI a1, vI a2, vI (1 : Int32), vA (some out)] rfl rfl (Nat.le_of_ble_eq_true rfl) (by decide) dL_law_2556 (kw_filed o hc.2.2.2.1 e1 (fun r hr => ⟨_, _, (fwok_filed hc1 a1 a2 (1 : Int32) r).choose_spec.1⟩) (fun E hE => by subst hE; exact hag.1)) (fun v' w2 hR => ?_)
    rcases o with E | r
    · obtain ⟨rfl, hth⟩ := hR
      obtain ⟨hE, ht⟩ := hag
      obtain ⟨hc2, hn2⟩ := zLI_th hc1 hth
      have hk : ¬ cd_filed E = 0 := by
        simp only [List.mem_cons, List.not_mem_nil, or_false] at hE
        rcases hE with rfl
        decide +kernel
      refine j_istore (pc := 2559) hX dL_law_2559 (by decide) [some (vA (some s)), some (vA (some x)), some (vA (some b)), some (vA (some out)), some (vI i), some (vI (cd_filed E)), none, none] rfl ?_
      refine j_aload_n (pc := 2561) hX dL_law_2561 rfl ?_
      refine j_aload_n (pc := 2562) hX dL_law_2562 rfl ?_
      refine j_iload (pc := 2563) hX dL_law_2563 rfl ?_
      refine j_iconst (pc := 2565) hX (1 : Int32) dL_law_2565 rfl ?_
      refine j_iadd (pc := 2566) hX dL_law_2566 ?_
      refine j_rd (pc := 2567) hX hc2.1 hb1 ha1 dL_law_2567 ?_
      refine j_aload_n (pc := 2568) hX dL_law_2568 rfl ?_
      refine j_iload (pc := 2569) hX dL_law_2569 rfl ?_
      refine j_iconst (pc := 2571) hX (2 : Int32) dL_law_2571 rfl ?_
      refine j_iadd (pc := 2572) hX dL_law_2572 ?_
      refine j_rd (pc := 2573) hX hc2.1 hb2 ha2 dL_law_2573 ?_
      refine j_aload_n (pc := 2574) hX dL_law_2574 rfl ?_
      refine j_iload (pc := 2575) hX dL_law_2575 rfl ?_
      refine j_iconst (pc := 2577) hX (3 : Int32) dL_law_2577 rfl ?_
      refine j_iadd (pc := 2578) hX dL_law_2578 ?_
      refine j_rd (pc := 2579) hX hc2.1 hb3 ha3 dL_law_2579 ?_
      refine j_if_eq (pc := 2580) hX 2587 (A := some ()) (B := some ()) (o := ()) dL_law_2580 rfl (by split <;> rfl) (fun h_ _ => absurd h_ hz) (fun _ _ => ?_)
      refine j_iconst (pc := 2583) hX (1 : Int32) dL_law_2583 rfl ?_
      refine j_goto (pc := 2584) hX 2588 dL_law_2584 rfl ?_
      refine zJ_eq hc2.2.2.1 ?_
      refine j_callV (pc := 2588) hX (ci := 3) mt_X4_filed q2766 q2767 q2768 (zIj_isC b w2 M) ⟨_, rfl, rfl⟩ [vI a1, vI a2, vI (1 : Int32)] rfl rfl (Nat.le_of_ble_eq_true rfl) (by decide) dL_law_2588 (k_X4_filed _ _ e2) ?_
      obtain ⟨hc3, ho3, hn3⟩ := zLI_mem hc2 M1
      refine j_lstore (pc := 2591) hX dL_law_2591 (by decide) [some (vA (some s)), some (vA (some x)), some (vA (some b)), some (vA (some out)), some (vI i), some (vI (cd_filed E)), some (vL rm), none] rfl ?_
      refine j_aload_n (pc := 2593) hX dL_law_2593 rfl ?_
      refine j_callV (pc := 2594) hX (ci := 3) mt_X4_thrown q2456 q2457 q2458 (zIj_isC b w2 M1) ⟨_, rfl, rfl⟩ [] rfl rfl (Nat.le_of_ble_eq_true rfl) (by decide) dL_law_2594 (k_X4_thrown (n := N) _ _ rfl) ?_
      refine j_iload (pc := 2597) hX dL_law_2597 rfl ?_
      refine j_icmp_eq (pc := 2599) hX 2604 (A := some ()) (B := some ()) (o := ()) dL_law_2599 rfl (by split <;> rfl) (fun _ _ => ?_) (fun h_ _ => absurd ht h_)
      refine j_iload (pc := 2604) hX dL_law_2604 rfl ?_
      refine j_if_ne (pc := 2606) hX 2620 (A := some ()) (B := some ()) (o := ()) dL_law_2606 rfl (by split <;> rfl) (fun _ _ => ?_) (fun h_ _ => absurd h_ hk)
      refine j_goto (pc := 2620) hX 2691 dL_law_2620 rfl ?_
      refine j_fg [5, 6] [some (vA (some s)), some (vA (some x)), some (vA (some b)), some (vA (some out)), some (vI i), none, none, none] rfl ?_
      exact kk _ _ hc3 (hnx _ (hn3 _ hn2))
    · obtain ⟨xx, hfw, rfl⟩ := hR
      obtain ⟨w3, e3, hc2, hov, hn2⟩ := fwok_filed hc1 a1 a2 (1 : Int32) r
      cases e3.symm.trans hfw
      refine j_istore (pc := 2559) hX dL_law_2559 (by decide) [some (vA (some s)), some (vA (some x)), some (vA (some b)), some (vA (some out)), some (vI i), some (vI (0 : Int32)), none, none] rfl ?_
      refine j_aload_n (pc := 2561) hX dL_law_2561 rfl ?_
      refine j_aload_n (pc := 2562) hX dL_law_2562 rfl ?_
      refine j_iload (pc := 2563) hX dL_law_2563 rfl ?_
      refine j_iconst (pc := 2565) hX (1 : Int32) dL_law_2565 rfl ?_
      refine j_iadd (pc := 2566) hX dL_law_2566 ?_
      refine j_rd (pc := 2567) hX hc2.1 hb1 ha1 dL_law_2567 ?_
      refine j_aload_n (pc := 2568) hX dL_law_2568 rfl ?_
      refine j_iload (pc := 2569) hX dL_law_2569 rfl ?_
      refine j_iconst (pc := 2571) hX (2 : Int32) dL_law_2571 rfl ?_
      refine j_iadd (pc := 2572) hX dL_law_2572 ?_
      refine j_rd (pc := 2573) hX hc2.1 hb2 ha2 dL_law_2573 ?_
      refine j_aload_n (pc := 2574) hX dL_law_2574 rfl ?_
      refine j_iload (pc := 2575) hX dL_law_2575 rfl ?_
      refine j_iconst (pc := 2577) hX (3 : Int32) dL_law_2577 rfl ?_
      refine j_iadd (pc := 2578) hX dL_law_2578 ?_
      refine j_rd (pc := 2579) hX hc2.1 hb3 ha3 dL_law_2579 ?_
      refine j_if_eq (pc := 2580) hX 2587 (A := some ()) (B := some ()) (o := ()) dL_law_2580 rfl (by split <;> rfl) (fun h_ _ => absurd h_ hz) (fun _ _ => ?_)
      refine j_iconst (pc := 2583) hX (1 : Int32) dL_law_2583 rfl ?_
      refine j_goto (pc := 2584) hX 2588 dL_law_2584 rfl ?_
      refine zJ_eq hc2.2.2.1 ?_
      refine j_callV (pc := 2588) hX (ci := 3) mt_X4_filed q2766 q2767 q2768 (zIj_isC b w2 M) ⟨_, rfl, rfl⟩ [vI a1, vI a2, vI (1 : Int32)] rfl rfl (Nat.le_of_ble_eq_true rfl) (by decide) dL_law_2588 (k_X4_filed _ _ e2) ?_
      obtain ⟨hc3, ho3, hn3⟩ := zLI_mem hc2 M1
      refine j_lstore (pc := 2591) hX dL_law_2591 (by decide) [some (vA (some s)), some (vA (some x)), some (vA (some b)), some (vA (some out)), some (vI i), some (vI (0 : Int32)), some (vL rm), none] rfl ?_
      refine j_aload_n (pc := 2593) hX dL_law_2593 rfl ?_
      refine j_callV (pc := 2594) hX (ci := 3) mt_X4_thrown q2456 q2457 q2458 (zIj_isC b w2 M1) ⟨_, rfl, rfl⟩ [] rfl rfl (Nat.le_of_ble_eq_true rfl) (by decide) dL_law_2594 (k_X4_thrown (n := N) _ _ rfl) ?_
      have hov : aL (zIj b w2 M1) (some out) 0 = some r := (ho3 0).trans hov
      refine j_iload (pc := 2597) hX dL_law_2597 rfl ?_
      refine j_icmp_eq (pc := 2599) hX 2604 (A := some ()) (B := some ()) (o := ()) dL_law_2599 rfl (by split <;> rfl) (fun _ _ => ?_) (fun h_ _ => absurd hag.1 h_)
      refine j_iload (pc := 2604) hX dL_law_2604 rfl ?_
      refine j_if_ne (pc := 2606) hX 2620 (A := some ()) (B := some ()) (o := ()) dL_law_2606 rfl (by split <;> rfl) (fun h_ _ => absurd rfl h_) (fun _ _ => ?_)
      refine j_aload_n (pc := 2609) hX dL_law_2609 rfl ?_
      refine j_iconst (pc := 2610) hX (0 : Int32) dL_law_2610 rfl ?_
      refine j_ld (pc := 2611) hX hov dL_law_2611 ?_
      refine j_lload (pc := 2612) hX dL_law_2612 rfl ?_
      refine j_lcmp (pc := 2614) hX dL_law_2614 ?_
      refine j_if_eq (pc := 2615) hX 2620 (A := some ()) (B := some ()) (o := ()) dL_law_2615 rfl (by split <;> rfl) (fun _ _ => ?_) (fun h_ _ => absurd (by rw [hag.2]; exact lg_cmp_self _) h_)
      refine j_goto (pc := 2620) hX 2691 dL_law_2620 rfl ?_
      refine j_fg [5, 6] [some (vA (some s)), some (vA (some x)), some (vA (some b)), some (vA (some out)), some (vI i), none, none, none] rfl ?_
      exact kk _ _ hc3 (hnx _ (hn3 _ hn2))
def Op_corrections (N s L x b out : Nat) (xs : Nat → Int32) (S : Nat → zWd → zM → Prop) : Prop := ∀ (n : Nat) (w : zWd) (M : zM) (p1 : Int32) (p2 : Int32) , n < 64 → zLI s L x b out xs w M → S n w M →
  ∃ (o : String ⊕ Int32) (w1 : zWd) (rm : Int32) (M1 : zM), f_X1_corrections N (some x) p1 p2 w = some (o, w1) ∧ f_X4_corrections N p1 p2 M = some (rm, M1) ∧ zLI s L x b out xs w1 M ∧ (match o with | .inr r => mI M1 67 = 0 ∧ (Int32.toInt64 r) = (Int32.toInt64 rm) | .inl E => E ∈ ["java/lang/IndexOutOfBoundsException"] ∧ mI M1 67 = cd_corrections E) ∧ ∀ w2, zNx b out w1 w2 → S (n + 1) w2 M1
theorem fwok_corrections {s L x b out : Nat} {xs : Nat → Int32} {w1 : zWd} {M : zM} (hc : zLI s L x b out xs w1 M) (p1 : Int32) (p2 : Int32) (r : Int32) : ∃ w2, fw_corrections (some x) p1 p2 (some out) r w1 = some ((0 : Int32), w2) ∧ zLI s L x b out xs w2 M ∧ aL w2 (some out) 0 = some (Int32.toInt64 r) ∧  zNx b out w1 w2 := by
  obtain ⟨w2, e, h1, h2, h3⟩ := zLI_out hc (Int32.toInt64 r)
  refine ⟨w2, ?_, h1, h2, h3⟩
  unfold fw_corrections
  rw [e]
  rfl
set_option maxHeartbeats 4000000 in
theorem lc_corrections {X : zX} (hX : zGd X RX0 cL_law 8 ret 24) {s L x b out n N : Nat} {xs : Nat → Int32} {i : Int32} {S : Nat → zWd → zM → Prop} {w : zWd} {M : zM} (hn : n < 64) (hc : zLI s L x b out xs w M) (hS : S n w M) (op : Op_corrections N s L x b out xs S)
    (hb : ∀ j ∈ [(1 : Int32), 2, 3, 4, 5, 6, 7], ¬ (i + j < 0 ∨ L ≤ (i + j).toNatClampNeg)) (kk : ∀ w' M', zLI s L x b out xs w' M' → S (n + 1) w' M' → zJ X 2691 [some (vA (some s)), some (vA (some x)), some (vA (some b)), some (vA (some out)), some (vI i), none, none, none] [] w') : zJ X 2623 [some (vA (some s)), some (vA (some x)), some (vA (some b)), some (vA (some out)), some (vI i), none, none, none] [] w := by
  obtain ⟨a1, ha1⟩ : ∃ v, xs (i + (1 : Int32)).toNatClampNeg = v := ⟨_, rfl⟩
  have hb1 := hb (1 : Int32) (by decide)
  obtain ⟨a2, ha2⟩ : ∃ v, xs (i + (2 : Int32)).toNatClampNeg = v := ⟨_, rfl⟩
  have hb2 := hb (2 : Int32) (by decide)
  obtain ⟨o, w1, rm, M1, e1, e2, hc1, hag, hnx⟩ := op n w M a1 a2 hn hc hS
  refine j_aload_n (pc := 2623) hX dL_law_2623 rfl ?_
  refine j_aload_n (pc := 2624) hX dL_law_2624 rfl ?_
  refine j_iload (pc := 2625) hX dL_law_2625 rfl ?_
  refine j_iconst (pc := 2627) hX (1 : Int32) dL_law_2627 rfl ?_
  refine j_iadd (pc := 2628) hX dL_law_2628 ?_
  refine j_rd (pc := 2629) hX hc.1 hb1 ha1 dL_law_2629 ?_
  refine j_aload_n (pc := 2630) hX dL_law_2630 rfl ?_
  refine j_iload (pc := 2631) hX dL_law_2631 rfl ?_
  refine j_iconst (pc := 2633) hX (2 : Int32) dL_law_2633 rfl ?_
  refine j_iadd (pc := 2634) hX dL_law_2634 ?_
  refine j_rd (pc := 2635) hX hc.1 hb2 ha2 dL_law_2635 ?_
  refine j_aload_n (pc := 2636) hX dL_law_2636 rfl ?_
  refine j_callSR (pc := 2637) hX mw_corrections q2232 q2233 [vA (some x), vI a1, vI a2, vA (some out)] rfl rfl (Nat.le_of_ble_eq_true rfl) (by decide) dL_law_2637 (kw_corrections o hc.2.2.2.1 e1 (fun r hr => ⟨_, _, (fwok_corrections hc1 a1 a2 r).choose_spec.1⟩) (fun E hE => by subst hE; exact hag.1)) (fun v' w2 hR => ?_)
  rcases o with E | r
  · obtain ⟨rfl, hth⟩ := hR
    obtain ⟨hE, ht⟩ := hag
    obtain ⟨hc2, hn2⟩ := zLI_th hc1 hth
    have hk : ¬ cd_corrections E = 0 := by
      simp only [List.mem_cons, List.not_mem_nil, or_false] at hE
      rcases hE with rfl
      decide +kernel
    refine j_istore (pc := 2640) hX dL_law_2640 (by decide) [some (vA (some s)), some (vA (some x)), some (vA (some b)), some (vA (some out)), some (vI i), some (vI (cd_corrections E)), none, none] rfl ?_
    refine j_aload_n (pc := 2642) hX dL_law_2642 rfl ?_
    refine j_aload_n (pc := 2643) hX dL_law_2643 rfl ?_
    refine j_iload (pc := 2644) hX dL_law_2644 rfl ?_
    refine j_iconst (pc := 2646) hX (1 : Int32) dL_law_2646 rfl ?_
    refine j_iadd (pc := 2647) hX dL_law_2647 ?_
    refine j_rd (pc := 2648) hX hc2.1 hb1 ha1 dL_law_2648 ?_
    refine j_aload_n (pc := 2649) hX dL_law_2649 rfl ?_
    refine j_iload (pc := 2650) hX dL_law_2650 rfl ?_
    refine j_iconst (pc := 2652) hX (2 : Int32) dL_law_2652 rfl ?_
    refine j_iadd (pc := 2653) hX dL_law_2653 ?_
    refine j_rd (pc := 2654) hX hc2.1 hb2 ha2 dL_law_2654 ?_
    refine zJ_eq hc2.2.2.1 ?_
    refine j_callV (pc := 2655) hX (ci := 3) mt_X4_corrections q2770 q2771 q2772 (zIj_isC b w2 M) ⟨_, rfl, rfl⟩ [vI a1, vI a2] rfl rfl (Nat.le_of_ble_eq_true rfl) (by decide) dL_law_2655 (k_X4_corrections _ _ e2) ?_
    obtain ⟨hc3, ho3, hn3⟩ := zLI_mem hc2 M1
    refine j_istore (pc := 2658) hX dL_law_2658 (by decide) [some (vA (some s)), some (vA (some x)), some (vA (some b)), some (vA (some out)), some (vI i), some (vI (cd_corrections E)), some (vI rm), none] rfl ?_
    refine j_aload_n (pc := 2660) hX dL_law_2660 rfl ?_
    refine j_callV (pc := 2661) hX (ci := 3) mt_X4_thrown q2456 q2457 q2458 (zIj_isC b w2 M1) ⟨_, rfl, rfl⟩ [] rfl rfl (Nat.le_of_ble_eq_true rfl) (by decide) dL_law_2661 (k_X4_thrown (n := N) _ _ rfl) ?_
    refine j_iload (pc := 2664) hX dL_law_2664 rfl ?_
    refine j_icmp_eq (pc := 2666) hX 2671 (A := some ()) (B := some ()) (o := ()) dL_law_2666 rfl (by split <;> rfl) (fun _ _ => ?_) (fun h_ _ => absurd ht h_)
    refine j_iload (pc := 2671) hX dL_law_2671 rfl ?_
    refine j_if_ne (pc := 2673) hX 2688 (A := some ()) (B := some ()) (o := ()) dL_law_2673 rfl (by split <;> rfl) (fun _ _ => ?_) (fun h_ _ => absurd h_ hk)
    refine j_goto (pc := 2688) hX 2691 dL_law_2688 rfl ?_
    refine j_fg [5, 6] [some (vA (some s)), some (vA (some x)), some (vA (some b)), some (vA (some out)), some (vI i), none, none, none] rfl ?_
    exact kk _ _ hc3 (hnx _ (hn3 _ hn2))
  · obtain ⟨xx, hfw, rfl⟩ := hR
    obtain ⟨w3, e3, hc2, hov, hn2⟩ := fwok_corrections hc1 a1 a2 r
    cases e3.symm.trans hfw
    refine j_istore (pc := 2640) hX dL_law_2640 (by decide) [some (vA (some s)), some (vA (some x)), some (vA (some b)), some (vA (some out)), some (vI i), some (vI (0 : Int32)), none, none] rfl ?_
    refine j_aload_n (pc := 2642) hX dL_law_2642 rfl ?_
    refine j_aload_n (pc := 2643) hX dL_law_2643 rfl ?_
    refine j_iload (pc := 2644) hX dL_law_2644 rfl ?_
    refine j_iconst (pc := 2646) hX (1 : Int32) dL_law_2646 rfl ?_
    refine j_iadd (pc := 2647) hX dL_law_2647 ?_
    refine j_rd (pc := 2648) hX hc2.1 hb1 ha1 dL_law_2648 ?_
    refine j_aload_n (pc := 2649) hX dL_law_2649 rfl ?_
    refine j_iload (pc := 2650) hX dL_law_2650 rfl ?_
    refine j_iconst (pc := 2652) hX (2 : Int32) dL_law_2652 rfl ?_
    refine j_iadd (pc := 2653) hX dL_law_2653 ?_
    refine j_rd (pc := 2654) hX hc2.1 hb2 ha2 dL_law_2654 ?_
    refine zJ_eq hc2.2.2.1 ?_
    refine j_callV (pc := 2655) hX (ci := 3) mt_X4_corrections q2770 q2771 q2772 (zIj_isC b w2 M) ⟨_, rfl, rfl⟩ [vI a1, vI a2] rfl rfl (Nat.le_of_ble_eq_true rfl) (by decide) dL_law_2655 (k_X4_corrections _ _ e2) ?_
    obtain ⟨hc3, ho3, hn3⟩ := zLI_mem hc2 M1
    refine j_istore (pc := 2658) hX dL_law_2658 (by decide) [some (vA (some s)), some (vA (some x)), some (vA (some b)), some (vA (some out)), some (vI i), some (vI (0 : Int32)), some (vI rm), none] rfl ?_
    refine j_aload_n (pc := 2660) hX dL_law_2660 rfl ?_
    refine j_callV (pc := 2661) hX (ci := 3) mt_X4_thrown q2456 q2457 q2458 (zIj_isC b w2 M1) ⟨_, rfl, rfl⟩ [] rfl rfl (Nat.le_of_ble_eq_true rfl) (by decide) dL_law_2661 (k_X4_thrown (n := N) _ _ rfl) ?_
    have hov : aL (zIj b w2 M1) (some out) 0 = some (Int32.toInt64 r) := (ho3 0).trans hov
    refine j_iload (pc := 2664) hX dL_law_2664 rfl ?_
    refine j_icmp_eq (pc := 2666) hX 2671 (A := some ()) (B := some ()) (o := ()) dL_law_2666 rfl (by split <;> rfl) (fun _ _ => ?_) (fun h_ _ => absurd hag.1 h_)
    refine j_iload (pc := 2671) hX dL_law_2671 rfl ?_
    refine j_if_ne (pc := 2673) hX 2688 (A := some ()) (B := some ()) (o := ()) dL_law_2673 rfl (by split <;> rfl) (fun h_ _ => absurd rfl h_) (fun _ _ => ?_)
    refine j_aload_n (pc := 2676) hX dL_law_2676 rfl ?_
    refine j_iconst (pc := 2677) hX (0 : Int32) dL_law_2677 rfl ?_
    refine j_ld (pc := 2678) hX hov dL_law_2678 ?_
    refine j_iload (pc := 2679) hX dL_law_2679 rfl ?_
    refine j_i2l (pc := 2681) hX dL_law_2681 ?_
    refine j_lcmp (pc := 2682) hX dL_law_2682 ?_
    refine j_if_eq (pc := 2683) hX 2688 (A := some ()) (B := some ()) (o := ()) dL_law_2683 rfl (by split <;> rfl) (fun _ _ => ?_) (fun h_ _ => absurd (by rw [hag.2]; exact lg_cmp_self _) h_)
    refine j_goto (pc := 2688) hX 2691 dL_law_2688 rfl ?_
    refine j_fg [5, 6] [some (vA (some s)), some (vA (some x)), some (vA (some b)), some (vA (some out)), some (vI i), none, none, none] rfl ?_
    exact kk _ _ hc3 (hnx _ (hn3 _ hn2))
