/-! THE LAW ITSELF: walks 1 -/
set_option maxRecDepth 100000
section
variable {p : Program} {l : Launch} {e : Env} {R : Room} {s : State} {m : MethodId} {args : Array Value} {below : List Frame} {meth : Method} {c : Code}
variable {G : z_E} {A : Nat → Prop} {T T0 : z_T} {I I0 : z_I} {Q Q0 : z_Q} {mc ms : Nat}
/-! L_law -/
theorem ww_L_law_1824 {o : Nat} {L : Nat} {xs : Nat → Int32} {k28 : z_T → z_I → z_Q → Nat → Nat → Option Nat → Option Nat → Option Nat → Option Nat → Int32 → Prop} {Qk : Int32 → z_T → z_I → z_Q → Prop} (X : z_X l G A p R s m args meth c cL_law 9 RX0 "law" (some .boolean) mc ms 30 605) (hS : z_scr A s o L xs) (hk28 : ∀ {cells slots : Nat} {T : z_T} {I : z_I} {Q : z_Q} {kc : Nat} {ks : Nat} {x1 : Option Nat} {x2 : Option Nat} {x3 : Option Nat} {x4 : Option Nat} {x5 : Int32} {H : Heap} {locs : List Loc} {ls : Array Slot}, z_HB G z_PL A s.heap T0 I0 Q0 T I Q H locs → cells + kc ≤ mc → slots + ks ≤ ms → lv_has ls 9 [(0, .ref o), (1, va_rf x1), (2, va_rf x2), (3, va_rf x3), (4, va_rf x4), (5, .int x5)] → k28 T I Q kc ks x1 x2 x3 x4 x5 → W p l e R s m args below meth c H locs cells slots (z_MQ below G z_PL A T0 I0 Q0 (z_qz Qk) z_no args s mc ms) (F0 m 28 ls [])) {cells slots : Nat} {T : z_T} {I : z_I} {Q : z_Q} {kc : Nat} {ks : Nat} {x1 : Option Nat} {x2 : Option Nat} {x3 : Option Nat} {x4 : Option Nat} {x5 : Int32} {H : Heap} {locs : List Loc} {ls : Array Slot} (hB : z_HB G z_PL A s.heap T0 I0 Q0 T I Q H locs) (hK1 : cells + kc ≤ mc) (hK2 : slots + ks ≤ ms) (hl : lv_has ls 9 [(0, .ref o), (1, va_rf x1), (2, va_rf x2), (3, va_rf x3), (4, va_rf x4), (5, .int x5)]) (h : wb_L_law_1824 G.2.2 o L xs k28 Qk T I Q kc ks x1 x2 x3 x4 x5) : W p l e R s m args below meth c H locs cells slots (z_MQ below G z_PL A T0 I0 Q0 (z_qz Qk) z_no args s mc ms) (F0 m 1824 ls []) := by
  obtain ⟨hx, hb, -⟩ := id X
  unfold wb_L_law_1824 at h
  obtain ⟨y600, ey600⟩ : ∃ z : Int32, z = x5 + 7 := ⟨_, rfl⟩
  replace h := h y600 ey600
  refine lv_iinc (v := y600) (lv' := [(5, .int y600), (0, .ref o), (1, va_rf x1), (2, va_rf x2), (3, va_rf x3), (4, va_rf x4)]) hx hb dL_law_1824 hl (k := 5) rfl (by rw [ey600]; rfl) (by decide) (by simp [z_cat, z_rfs, z_catq]) (fun ls hl9 => ?_)
  replace hl := hl9
  clear hl9
  refine lv_goto (tgt := 28) hx hb dL_law_1827 (by decide) ?_
  exact hk28 hB hK1 hK2 (lv_sub hl [1, 2, 3, 4, 5, 0] rfl) h
theorem ww_L_law_268 {o : Nat} {L : Nat} {xs : Nat → Int32} {k28 : z_T → z_I → z_Q → Nat → Nat → Option Nat → Option Nat → Option Nat → Option Nat → Int32 → Prop} {Qk : Int32 → z_T → z_I → z_Q → Prop} (X : z_X l G A p R s m args meth c cL_law 9 RX0 "law" (some .boolean) mc ms 30 605) (hS : z_scr A s o L xs) (hk28 : ∀ {cells slots : Nat} {T : z_T} {I : z_I} {Q : z_Q} {kc : Nat} {ks : Nat} {x1 : Option Nat} {x2 : Option Nat} {x3 : Option Nat} {x4 : Option Nat} {x5 : Int32} {H : Heap} {locs : List Loc} {ls : Array Slot}, z_HB G z_PL A s.heap T0 I0 Q0 T I Q H locs → cells + kc ≤ mc → slots + ks ≤ ms → lv_has ls 9 [(0, .ref o), (1, va_rf x1), (2, va_rf x2), (3, va_rf x3), (4, va_rf x4), (5, .int x5)] → k28 T I Q kc ks x1 x2 x3 x4 x5 → W p l e R s m args below meth c H locs cells slots (z_MQ below G z_PL A T0 I0 Q0 (z_qz Qk) z_no args s mc ms) (F0 m 28 ls [])) {cells slots : Nat} {T : z_T} {I : z_I} {Q : z_Q} {kc : Nat} {ks : Nat} {x1 : Option Nat} {x2 : Option Nat} {x3 : Option Nat} {x4 : Option Nat} {x5 : Int32} {H : Heap} {locs : List Loc} {ls : Array Slot} (hB : z_HB G z_PL A s.heap T0 I0 Q0 T I Q H locs) (hK1 : cells + kc ≤ mc) (hK2 : slots + ks ≤ ms) (hl : lv_has ls 9 [(0, .ref o), (1, va_rf x1), (2, va_rf x2), (3, va_rf x3), (4, va_rf x4), (5, .int x5)]) (h : wb_L_law_268 G.2.2 o L xs k28 Qk T I Q kc ks x1 x2 x3 x4 x5) : W p l e R s m args below meth c H locs cells slots (z_MQ below G z_PL A T0 I0 Q0 (z_qz Qk) z_no args s mc ms) (F0 m 268 ls []) := by
  obtain ⟨hx, hb, -⟩ := id X
  unfold wb_L_law_268 at h
  refine lv_goto (tgt := 1824) hx hb dL_law_268 (by decide) ?_
  exact ww_L_law_1824 X hS hk28 hB hK1 hK2 (lv_sub hl [0, 1, 2, 3, 4, 5] rfl) h
theorem ww_L_law_262 {o : Nat} {L : Nat} {xs : Nat → Int32} {k28 : z_T → z_I → z_Q → Nat → Nat → Option Nat → Option Nat → Option Nat → Option Nat → Int32 → Prop} {Qk : Int32 → z_T → z_I → z_Q → Prop} (X : z_X l G A p R s m args meth c cL_law 9 RX0 "law" (some .boolean) mc ms 30 605) (hS : z_scr A s o L xs) (hk28 : ∀ {cells slots : Nat} {T : z_T} {I : z_I} {Q : z_Q} {kc : Nat} {ks : Nat} {x1 : Option Nat} {x2 : Option Nat} {x3 : Option Nat} {x4 : Option Nat} {x5 : Int32} {H : Heap} {locs : List Loc} {ls : Array Slot}, z_HB G z_PL A s.heap T0 I0 Q0 T I Q H locs → cells + kc ≤ mc → slots + ks ≤ ms → lv_has ls 9 [(0, .ref o), (1, va_rf x1), (2, va_rf x2), (3, va_rf x3), (4, va_rf x4), (5, .int x5)] → k28 T I Q kc ks x1 x2 x3 x4 x5 → W p l e R s m args below meth c H locs cells slots (z_MQ below G z_PL A T0 I0 Q0 (z_qz Qk) z_no args s mc ms) (F0 m 28 ls [])) {cells slots : Nat} {T : z_T} {I : z_I} {Q : z_Q} {kc : Nat} {ks : Nat} {x1 : Option Nat} {x2 : Option Nat} {x3 : Option Nat} {x4 : Option Nat} {x5 : Int32} {s0 : Int64} {s1 : Int64} {H : Heap} {locs : List Loc} {ls : Array Slot} (hB : z_HB G z_PL A s.heap T0 I0 Q0 T I Q H locs) (hK1 : cells + kc ≤ mc) (hK2 : slots + ks ≤ ms) (hl : lv_has ls 9 [(0, .ref o), (1, va_rf x1), (2, va_rf x2), (3, va_rf x3), (4, va_rf x4), (5, .int x5)]) (h : wb_L_law_262 G.2.2 o L xs k28 Qk T I Q kc ks x1 x2 x3 x4 x5 s0 s1) : W p l e R s m args below meth c H locs cells slots (z_MQ below G z_PL A T0 I0 Q0 (z_qz Qk) z_no args s mc ms) (F0 m 262 ls [.long s1, .long s0]) := by
  obtain ⟨hx, hb, -⟩ := id X
  unfold wb_L_law_262 at h
  refine z_lcmp hx hb dL_law_262 ?_
  refine lv_if_eq (tgt := 268) hx hb dL_law_263 (by decide) (fun c576 => ?_) (fun c576 => ?_)
  · replace h := h.1 c576
    exact ww_L_law_268 X hS hk28 hB hK1 hK2 (lv_sub hl [0, 1, 2, 3, 4, 5] rfl) h
  · replace h := h.2 c576
    refine lv_iconst (v := 0) hx hb dL_law_266 (by decide) ?_
    exact z_zret X hB (Or.inl rfl) ⟨_, rfl, (Or.inl rfl), h⟩ (z_k3 hK1) (z_k3 hK2) dL_law_267
theorem ww_L_law_228 {o : Nat} {L : Nat} {xs : Nat → Int32} {k28 : z_T → z_I → z_Q → Nat → Nat → Option Nat → Option Nat → Option Nat → Option Nat → Int32 → Prop} {Qk : Int32 → z_T → z_I → z_Q → Prop} (X : z_X l G A p R s m args meth c cL_law 9 RX0 "law" (some .boolean) mc ms 30 605) (hS : z_scr A s o L xs) (hk28 : ∀ {cells slots : Nat} {T : z_T} {I : z_I} {Q : z_Q} {kc : Nat} {ks : Nat} {x1 : Option Nat} {x2 : Option Nat} {x3 : Option Nat} {x4 : Option Nat} {x5 : Int32} {H : Heap} {locs : List Loc} {ls : Array Slot}, z_HB G z_PL A s.heap T0 I0 Q0 T I Q H locs → cells + kc ≤ mc → slots + ks ≤ ms → lv_has ls 9 [(0, .ref o), (1, va_rf x1), (2, va_rf x2), (3, va_rf x3), (4, va_rf x4), (5, .int x5)] → k28 T I Q kc ks x1 x2 x3 x4 x5 → W p l e R s m args below meth c H locs cells slots (z_MQ below G z_PL A T0 I0 Q0 (z_qz Qk) z_no args s mc ms) (F0 m 28 ls [])) {cells slots : Nat} {T : z_T} {I : z_I} {Q : z_Q} {kc : Nat} {ks : Nat} {x1 : Option Nat} {x2 : Option Nat} {x3 : Option Nat} {x4 : Option Nat} {x5 : Int32} {x6 : Int32} {s0 : Option Nat} {s1 : Int32} {s2 : Int32} {s3 : Int32} {H : Heap} {locs : List Loc} {ls : Array Slot} (hB : z_HB G z_PL A s.heap T0 I0 Q0 T I Q H locs) (hK1 : cells + kc ≤ mc) (hK2 : slots + ks ≤ ms) (hl : lv_has ls 9 [(0, .ref o), (1, va_rf x1), (2, va_rf x2), (3, va_rf x3), (4, va_rf x4), (5, .int x5), (6, .int x6)]) (h : wb_L_law_228 G.2.2 o L xs k28 Qk T I Q kc ks x1 x2 x3 x4 x5 x6 s0 s1 s2 s3) : W p l e R s m args below meth c H locs cells slots (z_MQ below G z_PL A T0 I0 Q0 (z_qz Qk) z_no args s mc ms) (F0 m 228 ls [.int s3, .int s2, .int s1, va_rf s0]) := by
  obtain ⟨hx, hb, -⟩ := id X
  unfold wb_L_law_228 at h
  obtain ⟨a560, rfl, h⟩ := h
  obtain ⟨b561, m562, hL, hM, h⟩ := h
  refine z_lawz (z_runV (rest := []) [.int s1, .int s2, .int s3] pk_X5_setInterlock (met_X5_setInterlock hL hM s1 s2 s3 _ h) X hB (by decide) q3404 kc_X5 (by decide) (by rw [hL.1]) rfl hl.1 (Nat.le_of_ble_eq_true rfl) dL_law_228 (z_k4 hK1) (z_k4 hK2) (by decide) (by decide)) hB z_1L (fun r563 I565 H locs hz h9 hF hB => ?_)
  replace h := h9
  clear h9
  replace h := h hz I565 rfl hF
  refine lv_istore (lv' := [(7, .int r563), (0, .ref o), (1, va_rf x1), (2, va_rf x2), (3, va_rf x3), (4, va_rf x4), (5, .int x5), (6, .int x6)]) hx hb dL_law_231 hl (by decide) rfl (fun ls hl9 => ?_)
  replace hl := hl9
  clear hl9
  refine z_aload_n (x := x2) hx hb dL_law_233 rfl (lv_at hl 3 rfl) ?_
  obtain ⟨a566, rfl, h⟩ := h
  obtain ⟨b567, m568, hL, hM, h⟩ := h
  refine z_lawi (z_runV (rest := []) [] pk_X5_thrown (met_X5_thrown hL hM  _ h) X hB (by decide) q3400 kc_X5 (by decide) (by rw [hL.1]) rfl hl.1 (Nat.le_of_ble_eq_true rfl) dL_law_234 (z_k4 hK1) (z_k4 hK2) (by decide) (by decide)) hB z_1L (fun r569 I571 H locs h9 hF hB => ?_)
  replace h := h9
  clear h9
  obtain ⟨h, e9⟩ := h
  replace h := h I571 e9 hF
  refine lv_iload hx hb dL_law_237 (lv_at hl 7 rfl) ?_
  refine lv_icmp_eq (tgt := 244) hx hb dL_law_239 (by decide) (fun c572 => ?_) (fun c572 => ?_)
  · replace h := h.1 c572
    refine lv_iload hx hb dL_law_244 (lv_at hl 7 rfl) ?_
    refine lv_if_ne (tgt := 268) hx hb dL_law_246 (by decide) (fun c573 => ?_) (fun c573 => ?_)
    · replace h := h.1 c573
      exact ww_L_law_268 X hS hk28 hB hK1 hK2 (lv_sub hl [1, 2, 3, 4, 5, 6] rfl) h
    · replace h := h.2 c573
      refine z_aload_n (x := x3) hx hb dL_law_249 rfl (lv_at hl 4 rfl) ?_
      refine lv_iconst (v := 0) hx hb dL_law_250 (by decide) ?_
      obtain ⟨a574, rfl, h⟩ := h
      obtain ⟨hk_a574, h⟩ := h
      obtain ⟨h1, h⟩ := h
      refine z_lald X hB.1 hk_a574 h1 dL_law_251 ?_
      refine lv_iload hx hb dL_law_252 (lv_at hl 0 rfl) ?_
      refine lv_if_eq (tgt := 261) hx hb dL_law_254 (by decide) (fun c575 => ?_) (fun c575 => ?_)
      · replace h := h.1 c575
        refine lv_lconst hx hb dL_law_261 (v := (0 : Int32).toInt64) (by decide) ?_
        exact ww_L_law_262 X hS hk28 hB hK1 hK2 (lv_sub hl [1, 2, 3, 4, 5, 6] rfl) h
      · replace h := h.2 c575
        refine lv_lconst hx hb dL_law_257 (v := (1 : Int32).toInt64) (by decide) ?_
        refine lv_goto (tgt := 262) hx hb dL_law_258 (by decide) ?_
        exact ww_L_law_262 X hS hk28 hB hK1 hK2 (lv_sub hl [1, 2, 3, 4, 5, 6] rfl) h
  · replace h := h.2 c572
    refine lv_iconst (v := 0) hx hb dL_law_242 (by decide) ?_
    exact z_zret X hB (Or.inl rfl) ⟨_, rfl, (Or.inl rfl), h⟩ (z_k3 hK1) (z_k3 hK2) dL_law_243
theorem ww_L_law_195 {o : Nat} {L : Nat} {xs : Nat → Int32} {k28 : z_T → z_I → z_Q → Nat → Nat → Option Nat → Option Nat → Option Nat → Option Nat → Int32 → Prop} {Qk : Int32 → z_T → z_I → z_Q → Prop} (X : z_X l G A p R s m args meth c cL_law 9 RX0 "law" (some .boolean) mc ms 30 605) (hS : z_scr A s o L xs) (hk28 : ∀ {cells slots : Nat} {T : z_T} {I : z_I} {Q : z_Q} {kc : Nat} {ks : Nat} {x1 : Option Nat} {x2 : Option Nat} {x3 : Option Nat} {x4 : Option Nat} {x5 : Int32} {H : Heap} {locs : List Loc} {ls : Array Slot}, z_HB G z_PL A s.heap T0 I0 Q0 T I Q H locs → cells + kc ≤ mc → slots + ks ≤ ms → lv_has ls 9 [(0, .ref o), (1, va_rf x1), (2, va_rf x2), (3, va_rf x3), (4, va_rf x4), (5, .int x5)] → k28 T I Q kc ks x1 x2 x3 x4 x5 → W p l e R s m args below meth c H locs cells slots (z_MQ below G z_PL A T0 I0 Q0 (z_qz Qk) z_no args s mc ms) (F0 m 28 ls [])) {cells slots : Nat} {T : z_T} {I : z_I} {Q : z_Q} {kc : Nat} {ks : Nat} {x1 : Option Nat} {x2 : Option Nat} {x3 : Option Nat} {x4 : Option Nat} {x5 : Int32} {s0 : Option Nat} {s1 : Int32} {s2 : Int32} {s3 : Int32} {H : Heap} {locs : List Loc} {ls : Array Slot} (hB : z_HB G z_PL A s.heap T0 I0 Q0 T I Q H locs) (hK1 : cells + kc ≤ mc) (hK2 : slots + ks ≤ ms) (hl : lv_has ls 9 [(0, .ref o), (1, va_rf x1), (2, va_rf x2), (3, va_rf x3), (4, va_rf x4), (5, .int x5)]) (h : wb_L_law_195 G.2.2 o L xs k28 Qk T I Q kc ks x1 x2 x3 x4 x5 s0 s1 s2 s3) : W p l e R s m args below meth c H locs cells slots (z_MQ below G z_PL A T0 I0 Q0 (z_qz Qk) z_no args s mc ms) (F0 m 195 ls [.int s3, .int s2, .int s1, va_rf s0]) := by
  obtain ⟨hx, hb, -⟩ := id X
  unfold wb_L_law_195 at h
  refine z_aload_n (x := x3) hx hb dL_law_195 rfl (lv_at hl 3 rfl) ?_
  obtain ⟨kc554, ks555, g1, g2, h⟩ := h
  refine z_calli (z_runSW (rest := []) [va_rf s0, .int s1, .int s2, .int s3, va_rf x3] pk_X0_setInterlock (met_X0_setInterlock s0 s1 s2 s3 x3 kc554 ks555 _ h) X hB hB.2.2.2.2.2.2 q2356 rfl hl.1 (Nat.le_of_ble_eq_true rfl) dL_law_196 (z_k1 hK1 g1) (z_k1 hK2 g2) (by decide) (by decide)) hB (fun _ h => h) (fun r553 T556 I557 Q558 H locs h9 hF hB => ?_)
  replace h := h9
  clear h9
  replace h := h hF
  replace hK1 := z_k2 hK1 g1
  replace hK2 := z_k2 hK2 g2
  refine lv_istore (lv' := [(6, .int r553), (0, .ref o), (1, va_rf x1), (2, va_rf x2), (3, va_rf x3), (4, va_rf x4), (5, .int x5)]) hx hb dL_law_199 hl (by decide) rfl (fun ls hl9 => ?_)
  replace hl := hl9
  clear hl9
  refine z_aload_n (x := x2) hx hb dL_law_201 rfl (lv_at hl 3 rfl) ?_
  refine lv_aload_n (x := o) hx hb dL_law_202 rfl (lv_at hl 1 rfl) ?_
  refine lv_iload hx hb dL_law_203 (lv_at hl 6 rfl) ?_
  refine lv_iconst (v := 1) hx hb dL_law_205 (by decide) ?_
  refine lv_iadd hx hb dL_law_206 ?_
  obtain ⟨h1, h⟩ := h
  refine z_sld hS X hB h1 dL_law_207 ?_
  refine lv_aload_n (x := o) hx hb dL_law_208 rfl (lv_at hl 1 rfl) ?_
  refine lv_iload hx hb dL_law_209 (lv_at hl 6 rfl) ?_
  refine lv_iconst (v := 2) hx hb dL_law_211 (by decide) ?_
  refine lv_iadd hx hb dL_law_212 ?_
  obtain ⟨h1, h⟩ := h
  refine z_sld hS X hB h1 dL_law_213 ?_
  refine lv_aload_n (x := o) hx hb dL_law_214 rfl (lv_at hl 1 rfl) ?_
  refine lv_iload hx hb dL_law_215 (lv_at hl 6 rfl) ?_
  refine lv_iconst (v := 3) hx hb dL_law_217 (by decide) ?_
  refine lv_iadd hx hb dL_law_218 ?_
  obtain ⟨h1, h⟩ := h
  refine z_sld hS X hB h1 dL_law_219 ?_
  refine lv_if_eq (tgt := 227) hx hb dL_law_220 (by decide) (fun c559 => ?_) (fun c559 => ?_)
  · replace h := h.1 c559
    refine lv_iconst (v := 0) hx hb dL_law_227 (by decide) ?_
    exact ww_L_law_228 X hS hk28 hB hK1 hK2 (lv_sub hl [1, 2, 3, 4, 5, 6, 0] rfl) h
  · replace h := h.2 c559
    refine lv_iconst (v := 1) hx hb dL_law_223 (by decide) ?_
    refine lv_goto (tgt := 228) hx hb dL_law_224 (by decide) ?_
    exact ww_L_law_228 X hS hk28 hB hK1 hK2 (lv_sub hl [1, 2, 3, 4, 5, 6, 0] rfl) h
theorem ww_L_law_336 {o : Nat} {L : Nat} {xs : Nat → Int32} {k28 : z_T → z_I → z_Q → Nat → Nat → Option Nat → Option Nat → Option Nat → Option Nat → Int32 → Prop} {Qk : Int32 → z_T → z_I → z_Q → Prop} (X : z_X l G A p R s m args meth c cL_law 9 RX0 "law" (some .boolean) mc ms 30 605) (hS : z_scr A s o L xs) (hk28 : ∀ {cells slots : Nat} {T : z_T} {I : z_I} {Q : z_Q} {kc : Nat} {ks : Nat} {x1 : Option Nat} {x2 : Option Nat} {x3 : Option Nat} {x4 : Option Nat} {x5 : Int32} {H : Heap} {locs : List Loc} {ls : Array Slot}, z_HB G z_PL A s.heap T0 I0 Q0 T I Q H locs → cells + kc ≤ mc → slots + ks ≤ ms → lv_has ls 9 [(0, .ref o), (1, va_rf x1), (2, va_rf x2), (3, va_rf x3), (4, va_rf x4), (5, .int x5)] → k28 T I Q kc ks x1 x2 x3 x4 x5 → W p l e R s m args below meth c H locs cells slots (z_MQ below G z_PL A T0 I0 Q0 (z_qz Qk) z_no args s mc ms) (F0 m 28 ls [])) {cells slots : Nat} {T : z_T} {I : z_I} {Q : z_Q} {kc : Nat} {ks : Nat} {x1 : Option Nat} {x2 : Option Nat} {x3 : Option Nat} {x4 : Option Nat} {x5 : Int32} {H : Heap} {locs : List Loc} {ls : Array Slot} (hB : z_HB G z_PL A s.heap T0 I0 Q0 T I Q H locs) (hK1 : cells + kc ≤ mc) (hK2 : slots + ks ≤ ms) (hl : lv_has ls 9 [(0, .ref o), (1, va_rf x1), (2, va_rf x2), (3, va_rf x3), (4, va_rf x4), (5, .int x5)]) (h : wb_L_law_336 G.2.2 o L xs k28 Qk T I Q kc ks x1 x2 x3 x4 x5) : W p l e R s m args below meth c H locs cells slots (z_MQ below G z_PL A T0 I0 Q0 (z_qz Qk) z_no args s mc ms) (F0 m 336 ls []) := by
  obtain ⟨hx, hb, -⟩ := id X
  unfold wb_L_law_336 at h
  refine lv_goto (tgt := 1824) hx hb dL_law_336 (by decide) ?_
  exact ww_L_law_1824 X hS hk28 hB hK1 hK2 (lv_sub hl [0, 1, 2, 3, 4, 5] rfl) h
theorem ww_L_law_404 {o : Nat} {L : Nat} {xs : Nat → Int32} {k28 : z_T → z_I → z_Q → Nat → Nat → Option Nat → Option Nat → Option Nat → Option Nat → Int32 → Prop} {Qk : Int32 → z_T → z_I → z_Q → Prop} (X : z_X l G A p R s m args meth c cL_law 9 RX0 "law" (some .boolean) mc ms 30 605) (hS : z_scr A s o L xs) (hk28 : ∀ {cells slots : Nat} {T : z_T} {I : z_I} {Q : z_Q} {kc : Nat} {ks : Nat} {x1 : Option Nat} {x2 : Option Nat} {x3 : Option Nat} {x4 : Option Nat} {x5 : Int32} {H : Heap} {locs : List Loc} {ls : Array Slot}, z_HB G z_PL A s.heap T0 I0 Q0 T I Q H locs → cells + kc ≤ mc → slots + ks ≤ ms → lv_has ls 9 [(0, .ref o), (1, va_rf x1), (2, va_rf x2), (3, va_rf x3), (4, va_rf x4), (5, .int x5)] → k28 T I Q kc ks x1 x2 x3 x4 x5 → W p l e R s m args below meth c H locs cells slots (z_MQ below G z_PL A T0 I0 Q0 (z_qz Qk) z_no args s mc ms) (F0 m 28 ls [])) {cells slots : Nat} {T : z_T} {I : z_I} {Q : z_Q} {kc : Nat} {ks : Nat} {x1 : Option Nat} {x2 : Option Nat} {x3 : Option Nat} {x4 : Option Nat} {x5 : Int32} {H : Heap} {locs : List Loc} {ls : Array Slot} (hB : z_HB G z_PL A s.heap T0 I0 Q0 T I Q H locs) (hK1 : cells + kc ≤ mc) (hK2 : slots + ks ≤ ms) (hl : lv_has ls 9 [(0, .ref o), (1, va_rf x1), (2, va_rf x2), (3, va_rf x3), (4, va_rf x4), (5, .int x5)]) (h : wb_L_law_404 G.2.2 o L xs k28 Qk T I Q kc ks x1 x2 x3 x4 x5) : W p l e R s m args below meth c H locs cells slots (z_MQ below G z_PL A T0 I0 Q0 (z_qz Qk) z_no args s mc ms) (F0 m 404 ls []) := by
  obtain ⟨hx, hb, -⟩ := id X
  unfold wb_L_law_404 at h
  refine lv_goto (tgt := 1824) hx hb dL_law_404 (by decide) ?_
  exact ww_L_law_1824 X hS hk28 hB hK1 hK2 (lv_sub hl [0, 1, 2, 3, 4, 5] rfl) h
theorem ww_L_law_460 {o : Nat} {L : Nat} {xs : Nat → Int32} {k28 : z_T → z_I → z_Q → Nat → Nat → Option Nat → Option Nat → Option Nat → Option Nat → Int32 → Prop} {Qk : Int32 → z_T → z_I → z_Q → Prop} (X : z_X l G A p R s m args meth c cL_law 9 RX0 "law" (some .boolean) mc ms 30 605) (hS : z_scr A s o L xs) (hk28 : ∀ {cells slots : Nat} {T : z_T} {I : z_I} {Q : z_Q} {kc : Nat} {ks : Nat} {x1 : Option Nat} {x2 : Option Nat} {x3 : Option Nat} {x4 : Option Nat} {x5 : Int32} {H : Heap} {locs : List Loc} {ls : Array Slot}, z_HB G z_PL A s.heap T0 I0 Q0 T I Q H locs → cells + kc ≤ mc → slots + ks ≤ ms → lv_has ls 9 [(0, .ref o), (1, va_rf x1), (2, va_rf x2), (3, va_rf x3), (4, va_rf x4), (5, .int x5)] → k28 T I Q kc ks x1 x2 x3 x4 x5 → W p l e R s m args below meth c H locs cells slots (z_MQ below G z_PL A T0 I0 Q0 (z_qz Qk) z_no args s mc ms) (F0 m 28 ls [])) {cells slots : Nat} {T : z_T} {I : z_I} {Q : z_Q} {kc : Nat} {ks : Nat} {x1 : Option Nat} {x2 : Option Nat} {x3 : Option Nat} {x4 : Option Nat} {x5 : Int32} {H : Heap} {locs : List Loc} {ls : Array Slot} (hB : z_HB G z_PL A s.heap T0 I0 Q0 T I Q H locs) (hK1 : cells + kc ≤ mc) (hK2 : slots + ks ≤ ms) (hl : lv_has ls 9 [(0, .ref o), (1, va_rf x1), (2, va_rf x2), (3, va_rf x3), (4, va_rf x4), (5, .int x5)]) (h : wb_L_law_460 G.2.2 o L xs k28 Qk T I Q kc ks x1 x2 x3 x4 x5) : W p l e R s m args below meth c H locs cells slots (z_MQ below G z_PL A T0 I0 Q0 (z_qz Qk) z_no args s mc ms) (F0 m 460 ls []) := by
  obtain ⟨hx, hb, -⟩ := id X
  unfold wb_L_law_460 at h
  refine lv_goto (tgt := 1824) hx hb dL_law_460 (by decide) ?_
  exact ww_L_law_1824 X hS hk28 hB hK1 hK2 (lv_sub hl [0, 1, 2, 3, 4, 5] rfl) h
theorem ww_L_law_528 {o : Nat} {L : Nat} {xs : Nat → Int32} {k28 : z_T → z_I → z_Q → Nat → Nat → Option Nat → Option Nat → Option Nat → Option Nat → Int32 → Prop} {Qk : Int32 → z_T → z_I → z_Q → Prop} (X : z_X l G A p R s m args meth c cL_law 9 RX0 "law" (some .boolean) mc ms 30 605) (hS : z_scr A s o L xs) (hk28 : ∀ {cells slots : Nat} {T : z_T} {I : z_I} {Q : z_Q} {kc : Nat} {ks : Nat} {x1 : Option Nat} {x2 : Option Nat} {x3 : Option Nat} {x4 : Option Nat} {x5 : Int32} {H : Heap} {locs : List Loc} {ls : Array Slot}, z_HB G z_PL A s.heap T0 I0 Q0 T I Q H locs → cells + kc ≤ mc → slots + ks ≤ ms → lv_has ls 9 [(0, .ref o), (1, va_rf x1), (2, va_rf x2), (3, va_rf x3), (4, va_rf x4), (5, .int x5)] → k28 T I Q kc ks x1 x2 x3 x4 x5 → W p l e R s m args below meth c H locs cells slots (z_MQ below G z_PL A T0 I0 Q0 (z_qz Qk) z_no args s mc ms) (F0 m 28 ls [])) {cells slots : Nat} {T : z_T} {I : z_I} {Q : z_Q} {kc : Nat} {ks : Nat} {x1 : Option Nat} {x2 : Option Nat} {x3 : Option Nat} {x4 : Option Nat} {x5 : Int32} {H : Heap} {locs : List Loc} {ls : Array Slot} (hB : z_HB G z_PL A s.heap T0 I0 Q0 T I Q H locs) (hK1 : cells + kc ≤ mc) (hK2 : slots + ks ≤ ms) (hl : lv_has ls 9 [(0, .ref o), (1, va_rf x1), (2, va_rf x2), (3, va_rf x3), (4, va_rf x4), (5, .int x5)]) (h : wb_L_law_528 G.2.2 o L xs k28 Qk T I Q kc ks x1 x2 x3 x4 x5) : W p l e R s m args below meth c H locs cells slots (z_MQ below G z_PL A T0 I0 Q0 (z_qz Qk) z_no args s mc ms) (F0 m 528 ls []) := by
  obtain ⟨hx, hb, -⟩ := id X
  unfold wb_L_law_528 at h
  refine lv_goto (tgt := 1824) hx hb dL_law_528 (by decide) ?_
  exact ww_L_law_1824 X hS hk28 hB hK1 hK2 (lv_sub hl [0, 1, 2, 3, 4, 5] rfl) h
theorem ww_L_law_596 {o : Nat} {L : Nat} {xs : Nat → Int32} {k28 : z_T → z_I → z_Q → Nat → Nat → Option Nat → Option Nat → Option Nat → Option Nat → Int32 → Prop} {Qk : Int32 → z_T → z_I → z_Q → Prop} (X : z_X l G A p R s m args meth c cL_law 9 RX0 "law" (some .boolean) mc ms 30 605) (hS : z_scr A s o L xs) (hk28 : ∀ {cells slots : Nat} {T : z_T} {I : z_I} {Q : z_Q} {kc : Nat} {ks : Nat} {x1 : Option Nat} {x2 : Option Nat} {x3 : Option Nat} {x4 : Option Nat} {x5 : Int32} {H : Heap} {locs : List Loc} {ls : Array Slot}, z_HB G z_PL A s.heap T0 I0 Q0 T I Q H locs → cells + kc ≤ mc → slots + ks ≤ ms → lv_has ls 9 [(0, .ref o), (1, va_rf x1), (2, va_rf x2), (3, va_rf x3), (4, va_rf x4), (5, .int x5)] → k28 T I Q kc ks x1 x2 x3 x4 x5 → W p l e R s m args below meth c H locs cells slots (z_MQ below G z_PL A T0 I0 Q0 (z_qz Qk) z_no args s mc ms) (F0 m 28 ls [])) {cells slots : Nat} {T : z_T} {I : z_I} {Q : z_Q} {kc : Nat} {ks : Nat} {x1 : Option Nat} {x2 : Option Nat} {x3 : Option Nat} {x4 : Option Nat} {x5 : Int32} {H : Heap} {locs : List Loc} {ls : Array Slot} (hB : z_HB G z_PL A s.heap T0 I0 Q0 T I Q H locs) (hK1 : cells + kc ≤ mc) (hK2 : slots + ks ≤ ms) (hl : lv_has ls 9 [(0, .ref o), (1, va_rf x1), (2, va_rf x2), (3, va_rf x3), (4, va_rf x4), (5, .int x5)]) (h : wb_L_law_596 G.2.2 o L xs k28 Qk T I Q kc ks x1 x2 x3 x4 x5) : W p l e R s m args below meth c H locs cells slots (z_MQ below G z_PL A T0 I0 Q0 (z_qz Qk) z_no args s mc ms) (F0 m 596 ls []) := by
  obtain ⟨hx, hb, -⟩ := id X
  unfold wb_L_law_596 at h
  refine lv_goto (tgt := 1824) hx hb dL_law_596 (by decide) ?_
  exact ww_L_law_1824 X hS hk28 hB hK1 hK2 (lv_sub hl [0, 1, 2, 3, 4, 5] rfl) h
theorem ww_L_law_664 {o : Nat} {L : Nat} {xs : Nat → Int32} {k28 : z_T → z_I → z_Q → Nat → Nat → Option Nat → Option Nat → Option Nat → Option Nat → Int32 → Prop} {Qk : Int32 → z_T → z_I → z_Q → Prop} (X : z_X l G A p R s m args meth c cL_law 9 RX0 "law" (some .boolean) mc ms 30 605) (hS : z_scr A s o L xs) (hk28 : ∀ {cells slots : Nat} {T : z_T} {I : z_I} {Q : z_Q} {kc : Nat} {ks : Nat} {x1 : Option Nat} {x2 : Option Nat} {x3 : Option Nat} {x4 : Option Nat} {x5 : Int32} {H : Heap} {locs : List Loc} {ls : Array Slot}, z_HB G z_PL A s.heap T0 I0 Q0 T I Q H locs → cells + kc ≤ mc → slots + ks ≤ ms → lv_has ls 9 [(0, .ref o), (1, va_rf x1), (2, va_rf x2), (3, va_rf x3), (4, va_rf x4), (5, .int x5)] → k28 T I Q kc ks x1 x2 x3 x4 x5 → W p l e R s m args below meth c H locs cells slots (z_MQ below G z_PL A T0 I0 Q0 (z_qz Qk) z_no args s mc ms) (F0 m 28 ls [])) {cells slots : Nat} {T : z_T} {I : z_I} {Q : z_Q} {kc : Nat} {ks : Nat} {x1 : Option Nat} {x2 : Option Nat} {x3 : Option Nat} {x4 : Option Nat} {x5 : Int32} {H : Heap} {locs : List Loc} {ls : Array Slot} (hB : z_HB G z_PL A s.heap T0 I0 Q0 T I Q H locs) (hK1 : cells + kc ≤ mc) (hK2 : slots + ks ≤ ms) (hl : lv_has ls 9 [(0, .ref o), (1, va_rf x1), (2, va_rf x2), (3, va_rf x3), (4, va_rf x4), (5, .int x5)]) (h : wb_L_law_664 G.2.2 o L xs k28 Qk T I Q kc ks x1 x2 x3 x4 x5) : W p l e R s m args below meth c H locs cells slots (z_MQ below G z_PL A T0 I0 Q0 (z_qz Qk) z_no args s mc ms) (F0 m 664 ls []) := by
  obtain ⟨hx, hb, -⟩ := id X
  unfold wb_L_law_664 at h
  refine lv_goto (tgt := 1824) hx hb dL_law_664 (by decide) ?_
  exact ww_L_law_1824 X hS hk28 hB hK1 hK2 (lv_sub hl [0, 1, 2, 3, 4, 5] rfl) h
theorem ww_L_law_782 {o : Nat} {L : Nat} {xs : Nat → Int32} {k28 : z_T → z_I → z_Q → Nat → Nat → Option Nat → Option Nat → Option Nat → Option Nat → Int32 → Prop} {Qk : Int32 → z_T → z_I → z_Q → Prop} (X : z_X l G A p R s m args meth c cL_law 9 RX0 "law" (some .boolean) mc ms 30 605) (hS : z_scr A s o L xs) (hk28 : ∀ {cells slots : Nat} {T : z_T} {I : z_I} {Q : z_Q} {kc : Nat} {ks : Nat} {x1 : Option Nat} {x2 : Option Nat} {x3 : Option Nat} {x4 : Option Nat} {x5 : Int32} {H : Heap} {locs : List Loc} {ls : Array Slot}, z_HB G z_PL A s.heap T0 I0 Q0 T I Q H locs → cells + kc ≤ mc → slots + ks ≤ ms → lv_has ls 9 [(0, .ref o), (1, va_rf x1), (2, va_rf x2), (3, va_rf x3), (4, va_rf x4), (5, .int x5)] → k28 T I Q kc ks x1 x2 x3 x4 x5 → W p l e R s m args below meth c H locs cells slots (z_MQ below G z_PL A T0 I0 Q0 (z_qz Qk) z_no args s mc ms) (F0 m 28 ls [])) {cells slots : Nat} {T : z_T} {I : z_I} {Q : z_Q} {kc : Nat} {ks : Nat} {x1 : Option Nat} {x2 : Option Nat} {x3 : Option Nat} {x4 : Option Nat} {x5 : Int32} {H : Heap} {locs : List Loc} {ls : Array Slot} (hB : z_HB G z_PL A s.heap T0 I0 Q0 T I Q H locs) (hK1 : cells + kc ≤ mc) (hK2 : slots + ks ≤ ms) (hl : lv_has ls 9 [(0, .ref o), (1, va_rf x1), (2, va_rf x2), (3, va_rf x3), (4, va_rf x4), (5, .int x5)]) (h : wb_L_law_782 G.2.2 o L xs k28 Qk T I Q kc ks x1 x2 x3 x4 x5) : W p l e R s m args below meth c H locs cells slots (z_MQ below G z_PL A T0 I0 Q0 (z_qz Qk) z_no args s mc ms) (F0 m 782 ls []) := by
  obtain ⟨hx, hb, -⟩ := id X
  unfold wb_L_law_782 at h
  refine lv_goto (tgt := 1824) hx hb dL_law_782 (by decide) ?_
  exact ww_L_law_1824 X hS hk28 hB hK1 hK2 (lv_sub hl [0, 1, 2, 3, 4, 5] rfl) h
theorem ww_L_law_838 {o : Nat} {L : Nat} {xs : Nat → Int32} {k28 : z_T → z_I → z_Q → Nat → Nat → Option Nat → Option Nat → Option Nat → Option Nat → Int32 → Prop} {Qk : Int32 → z_T → z_I → z_Q → Prop} (X : z_X l G A p R s m args meth c cL_law 9 RX0 "law" (some .boolean) mc ms 30 605) (hS : z_scr A s o L xs) (hk28 : ∀ {cells slots : Nat} {T : z_T} {I : z_I} {Q : z_Q} {kc : Nat} {ks : Nat} {x1 : Option Nat} {x2 : Option Nat} {x3 : Option Nat} {x4 : Option Nat} {x5 : Int32} {H : Heap} {locs : List Loc} {ls : Array Slot}, z_HB G z_PL A s.heap T0 I0 Q0 T I Q H locs → cells + kc ≤ mc → slots + ks ≤ ms → lv_has ls 9 [(0, .ref o), (1, va_rf x1), (2, va_rf x2), (3, va_rf x3), (4, va_rf x4), (5, .int x5)] → k28 T I Q kc ks x1 x2 x3 x4 x5 → W p l e R s m args below meth c H locs cells slots (z_MQ below G z_PL A T0 I0 Q0 (z_qz Qk) z_no args s mc ms) (F0 m 28 ls [])) {cells slots : Nat} {T : z_T} {I : z_I} {Q : z_Q} {kc : Nat} {ks : Nat} {x1 : Option Nat} {x2 : Option Nat} {x3 : Option Nat} {x4 : Option Nat} {x5 : Int32} {H : Heap} {locs : List Loc} {ls : Array Slot} (hB : z_HB G z_PL A s.heap T0 I0 Q0 T I Q H locs) (hK1 : cells + kc ≤ mc) (hK2 : slots + ks ≤ ms) (hl : lv_has ls 9 [(0, .ref o), (1, va_rf x1), (2, va_rf x2), (3, va_rf x3), (4, va_rf x4), (5, .int x5)]) (h : wb_L_law_838 G.2.2 o L xs k28 Qk T I Q kc ks x1 x2 x3 x4 x5) : W p l e R s m args below meth c H locs cells slots (z_MQ below G z_PL A T0 I0 Q0 (z_qz Qk) z_no args s mc ms) (F0 m 838 ls []) := by
  obtain ⟨hx, hb, -⟩ := id X
  unfold wb_L_law_838 at h
  refine lv_goto (tgt := 1824) hx hb dL_law_838 (by decide) ?_
  exact ww_L_law_1824 X hS hk28 hB hK1 hK2 (lv_sub hl [0, 1, 2, 3, 4, 5] rfl) h
theorem ww_L_law_906 {o : Nat} {L : Nat} {xs : Nat → Int32} {k28 : z_T → z_I → z_Q → Nat → Nat → Option Nat → Option Nat → Option Nat → Option Nat → Int32 → Prop} {Qk : Int32 → z_T → z_I → z_Q → Prop} (X : z_X l G A p R s m args meth c cL_law 9 RX0 "law" (some .boolean) mc ms 30 605) (hS : z_scr A s o L xs) (hk28 : ∀ {cells slots : Nat} {T : z_T} {I : z_I} {Q : z_Q} {kc : Nat} {ks : Nat} {x1 : Option Nat} {x2 : Option Nat} {x3 : Option Nat} {x4 : Option Nat} {x5 : Int32} {H : Heap} {locs : List Loc} {ls : Array Slot}, z_HB G z_PL A s.heap T0 I0 Q0 T I Q H locs → cells + kc ≤ mc → slots + ks ≤ ms → lv_has ls 9 [(0, .ref o), (1, va_rf x1), (2, va_rf x2), (3, va_rf x3), (4, va_rf x4), (5, .int x5)] → k28 T I Q kc ks x1 x2 x3 x4 x5 → W p l e R s m args below meth c H locs cells slots (z_MQ below G z_PL A T0 I0 Q0 (z_qz Qk) z_no args s mc ms) (F0 m 28 ls [])) {cells slots : Nat} {T : z_T} {I : z_I} {Q : z_Q} {kc : Nat} {ks : Nat} {x1 : Option Nat} {x2 : Option Nat} {x3 : Option Nat} {x4 : Option Nat} {x5 : Int32} {H : Heap} {locs : List Loc} {ls : Array Slot} (hB : z_HB G z_PL A s.heap T0 I0 Q0 T I Q H locs) (hK1 : cells + kc ≤ mc) (hK2 : slots + ks ≤ ms) (hl : lv_has ls 9 [(0, .ref o), (1, va_rf x1), (2, va_rf x2), (3, va_rf x3), (4, va_rf x4), (5, .int x5)]) (h : wb_L_law_906 G.2.2 o L xs k28 Qk T I Q kc ks x1 x2 x3 x4 x5) : W p l e R s m args below meth c H locs cells slots (z_MQ below G z_PL A T0 I0 Q0 (z_qz Qk) z_no args s mc ms) (F0 m 906 ls []) := by
  obtain ⟨hx, hb, -⟩ := id X
  unfold wb_L_law_906 at h
  refine lv_goto (tgt := 1824) hx hb dL_law_906 (by decide) ?_
  exact ww_L_law_1824 X hS hk28 hB hK1 hK2 (lv_sub hl [0, 1, 2, 3, 4, 5] rfl) h
theorem ww_L_law_974 {o : Nat} {L : Nat} {xs : Nat → Int32} {k28 : z_T → z_I → z_Q → Nat → Nat → Option Nat → Option Nat → Option Nat → Option Nat → Int32 → Prop} {Qk : Int32 → z_T → z_I → z_Q → Prop} (X : z_X l G A p R s m args meth c cL_law 9 RX0 "law" (some .boolean) mc ms 30 605) (hS : z_scr A s o L xs) (hk28 : ∀ {cells slots : Nat} {T : z_T} {I : z_I} {Q : z_Q} {kc : Nat} {ks : Nat} {x1 : Option Nat} {x2 : Option Nat} {x3 : Option Nat} {x4 : Option Nat} {x5 : Int32} {H : Heap} {locs : List Loc} {ls : Array Slot}, z_HB G z_PL A s.heap T0 I0 Q0 T I Q H locs → cells + kc ≤ mc → slots + ks ≤ ms → lv_has ls 9 [(0, .ref o), (1, va_rf x1), (2, va_rf x2), (3, va_rf x3), (4, va_rf x4), (5, .int x5)] → k28 T I Q kc ks x1 x2 x3 x4 x5 → W p l e R s m args below meth c H locs cells slots (z_MQ below G z_PL A T0 I0 Q0 (z_qz Qk) z_no args s mc ms) (F0 m 28 ls [])) {cells slots : Nat} {T : z_T} {I : z_I} {Q : z_Q} {kc : Nat} {ks : Nat} {x1 : Option Nat} {x2 : Option Nat} {x3 : Option Nat} {x4 : Option Nat} {x5 : Int32} {H : Heap} {locs : List Loc} {ls : Array Slot} (hB : z_HB G z_PL A s.heap T0 I0 Q0 T I Q H locs) (hK1 : cells + kc ≤ mc) (hK2 : slots + ks ≤ ms) (hl : lv_has ls 9 [(0, .ref o), (1, va_rf x1), (2, va_rf x2), (3, va_rf x3), (4, va_rf x4), (5, .int x5)]) (h : wb_L_law_974 G.2.2 o L xs k28 Qk T I Q kc ks x1 x2 x3 x4 x5) : W p l e R s m args below meth c H locs cells slots (z_MQ below G z_PL A T0 I0 Q0 (z_qz Qk) z_no args s mc ms) (F0 m 974 ls []) := by
  obtain ⟨hx, hb, -⟩ := id X
  unfold wb_L_law_974 at h
  refine lv_goto (tgt := 1824) hx hb dL_law_974 (by decide) ?_
  exact ww_L_law_1824 X hS hk28 hB hK1 hK2 (lv_sub hl [0, 1, 2, 3, 4, 5] rfl) h
theorem ww_L_law_1042 {o : Nat} {L : Nat} {xs : Nat → Int32} {k28 : z_T → z_I → z_Q → Nat → Nat → Option Nat → Option Nat → Option Nat → Option Nat → Int32 → Prop} {Qk : Int32 → z_T → z_I → z_Q → Prop} (X : z_X l G A p R s m args meth c cL_law 9 RX0 "law" (some .boolean) mc ms 30 605) (hS : z_scr A s o L xs) (hk28 : ∀ {cells slots : Nat} {T : z_T} {I : z_I} {Q : z_Q} {kc : Nat} {ks : Nat} {x1 : Option Nat} {x2 : Option Nat} {x3 : Option Nat} {x4 : Option Nat} {x5 : Int32} {H : Heap} {locs : List Loc} {ls : Array Slot}, z_HB G z_PL A s.heap T0 I0 Q0 T I Q H locs → cells + kc ≤ mc → slots + ks ≤ ms → lv_has ls 9 [(0, .ref o), (1, va_rf x1), (2, va_rf x2), (3, va_rf x3), (4, va_rf x4), (5, .int x5)] → k28 T I Q kc ks x1 x2 x3 x4 x5 → W p l e R s m args below meth c H locs cells slots (z_MQ below G z_PL A T0 I0 Q0 (z_qz Qk) z_no args s mc ms) (F0 m 28 ls [])) {cells slots : Nat} {T : z_T} {I : z_I} {Q : z_Q} {kc : Nat} {ks : Nat} {x1 : Option Nat} {x2 : Option Nat} {x3 : Option Nat} {x4 : Option Nat} {x5 : Int32} {H : Heap} {locs : List Loc} {ls : Array Slot} (hB : z_HB G z_PL A s.heap T0 I0 Q0 T I Q H locs) (hK1 : cells + kc ≤ mc) (hK2 : slots + ks ≤ ms) (hl : lv_has ls 9 [(0, .ref o), (1, va_rf x1), (2, va_rf x2), (3, va_rf x3), (4, va_rf x4), (5, .int x5)]) (h : wb_L_law_1042 G.2.2 o L xs k28 Qk T I Q kc ks x1 x2 x3 x4 x5) : W p l e R s m args below meth c H locs cells slots (z_MQ below G z_PL A T0 I0 Q0 (z_qz Qk) z_no args s mc ms) (F0 m 1042 ls []) := by
  obtain ⟨hx, hb, -⟩ := id X
  unfold wb_L_law_1042 at h
  refine lv_goto (tgt := 1824) hx hb dL_law_1042 (by decide) ?_
  exact ww_L_law_1824 X hS hk28 hB hK1 hK2 (lv_sub hl [0, 1, 2, 3, 4, 5] rfl) h
theorem ww_L_law_1098 {o : Nat} {L : Nat} {xs : Nat → Int32} {k28 : z_T → z_I → z_Q → Nat → Nat → Option Nat → Option Nat → Option Nat → Option Nat → Int32 → Prop} {Qk : Int32 → z_T → z_I → z_Q → Prop} (X : z_X l G A p R s m args meth c cL_law 9 RX0 "law" (some .boolean) mc ms 30 605) (hS : z_scr A s o L xs) (hk28 : ∀ {cells slots : Nat} {T : z_T} {I : z_I} {Q : z_Q} {kc : Nat} {ks : Nat} {x1 : Option Nat} {x2 : Option Nat} {x3 : Option Nat} {x4 : Option Nat} {x5 : Int32} {H : Heap} {locs : List Loc} {ls : Array Slot}, z_HB G z_PL A s.heap T0 I0 Q0 T I Q H locs → cells + kc ≤ mc → slots + ks ≤ ms → lv_has ls 9 [(0, .ref o), (1, va_rf x1), (2, va_rf x2), (3, va_rf x3), (4, va_rf x4), (5, .int x5)] → k28 T I Q kc ks x1 x2 x3 x4 x5 → W p l e R s m args below meth c H locs cells slots (z_MQ below G z_PL A T0 I0 Q0 (z_qz Qk) z_no args s mc ms) (F0 m 28 ls [])) {cells slots : Nat} {T : z_T} {I : z_I} {Q : z_Q} {kc : Nat} {ks : Nat} {x1 : Option Nat} {x2 : Option Nat} {x3 : Option Nat} {x4 : Option Nat} {x5 : Int32} {H : Heap} {locs : List Loc} {ls : Array Slot} (hB : z_HB G z_PL A s.heap T0 I0 Q0 T I Q H locs) (hK1 : cells + kc ≤ mc) (hK2 : slots + ks ≤ ms) (hl : lv_has ls 9 [(0, .ref o), (1, va_rf x1), (2, va_rf x2), (3, va_rf x3), (4, va_rf x4), (5, .int x5)]) (h : wb_L_law_1098 G.2.2 o L xs k28 Qk T I Q kc ks x1 x2 x3 x4 x5) : W p l e R s m args below meth c H locs cells slots (z_MQ below G z_PL A T0 I0 Q0 (z_qz Qk) z_no args s mc ms) (F0 m 1098 ls []) := by
  obtain ⟨hx, hb, -⟩ := id X
  unfold wb_L_law_1098 at h
  refine lv_goto (tgt := 1824) hx hb dL_law_1098 (by decide) ?_
  exact ww_L_law_1824 X hS hk28 hB hK1 hK2 (lv_sub hl [0, 1, 2, 3, 4, 5] rfl) h
theorem ww_L_law_1182 {o : Nat} {L : Nat} {xs : Nat → Int32} {k28 : z_T → z_I → z_Q → Nat → Nat → Option Nat → Option Nat → Option Nat → Option Nat → Int32 → Prop} {Qk : Int32 → z_T → z_I → z_Q → Prop} (X : z_X l G A p R s m args meth c cL_law 9 RX0 "law" (some .boolean) mc ms 30 605) (hS : z_scr A s o L xs) (hk28 : ∀ {cells slots : Nat} {T : z_T} {I : z_I} {Q : z_Q} {kc : Nat} {ks : Nat} {x1 : Option Nat} {x2 : Option Nat} {x3 : Option Nat} {x4 : Option Nat} {x5 : Int32} {H : Heap} {locs : List Loc} {ls : Array Slot}, z_HB G z_PL A s.heap T0 I0 Q0 T I Q H locs → cells + kc ≤ mc → slots + ks ≤ ms → lv_has ls 9 [(0, .ref o), (1, va_rf x1), (2, va_rf x2), (3, va_rf x3), (4, va_rf x4), (5, .int x5)] → k28 T I Q kc ks x1 x2 x3 x4 x5 → W p l e R s m args below meth c H locs cells slots (z_MQ below G z_PL A T0 I0 Q0 (z_qz Qk) z_no args s mc ms) (F0 m 28 ls [])) {cells slots : Nat} {T : z_T} {I : z_I} {Q : z_Q} {kc : Nat} {ks : Nat} {x1 : Option Nat} {x2 : Option Nat} {x3 : Option Nat} {x4 : Option Nat} {x5 : Int32} {H : Heap} {locs : List Loc} {ls : Array Slot} (hB : z_HB G z_PL A s.heap T0 I0 Q0 T I Q H locs) (hK1 : cells + kc ≤ mc) (hK2 : slots + ks ≤ ms) (hl : lv_has ls 9 [(0, .ref o), (1, va_rf x1), (2, va_rf x2), (3, va_rf x3), (4, va_rf x4), (5, .int x5)]) (h : wb_L_law_1182 G.2.2 o L xs k28 Qk T I Q kc ks x1 x2 x3 x4 x5) : W p l e R s m args below meth c H locs cells slots (z_MQ below G z_PL A T0 I0 Q0 (z_qz Qk) z_no args s mc ms) (F0 m 1182 ls []) := by
  obtain ⟨hx, hb, -⟩ := id X
  unfold wb_L_law_1182 at h
  refine lv_goto (tgt := 1824) hx hb dL_law_1182 (by decide) ?_
  exact ww_L_law_1824 X hS hk28 hB hK1 hK2 (lv_sub hl [0, 1, 2, 3, 4, 5] rfl) h
theorem ww_L_law_1149 {o : Nat} {L : Nat} {xs : Nat → Int32} {k28 : z_T → z_I → z_Q → Nat → Nat → Option Nat → Option Nat → Option Nat → Option Nat → Int32 → Prop} {Qk : Int32 → z_T → z_I → z_Q → Prop} (X : z_X l G A p R s m args meth c cL_law 9 RX0 "law" (some .boolean) mc ms 30 605) (hS : z_scr A s o L xs) (hk28 : ∀ {cells slots : Nat} {T : z_T} {I : z_I} {Q : z_Q} {kc : Nat} {ks : Nat} {x1 : Option Nat} {x2 : Option Nat} {x3 : Option Nat} {x4 : Option Nat} {x5 : Int32} {H : Heap} {locs : List Loc} {ls : Array Slot}, z_HB G z_PL A s.heap T0 I0 Q0 T I Q H locs → cells + kc ≤ mc → slots + ks ≤ ms → lv_has ls 9 [(0, .ref o), (1, va_rf x1), (2, va_rf x2), (3, va_rf x3), (4, va_rf x4), (5, .int x5)] → k28 T I Q kc ks x1 x2 x3 x4 x5 → W p l e R s m args below meth c H locs cells slots (z_MQ below G z_PL A T0 I0 Q0 (z_qz Qk) z_no args s mc ms) (F0 m 28 ls [])) {cells slots : Nat} {T : z_T} {I : z_I} {Q : z_Q} {kc : Nat} {ks : Nat} {x1 : Option Nat} {x2 : Option Nat} {x3 : Option Nat} {x4 : Option Nat} {x5 : Int32} {x6 : Int32} {s0 : Option Nat} {s1 : Int32} {s2 : Int32} {H : Heap} {locs : List Loc} {ls : Array Slot} (hB : z_HB G z_PL A s.heap T0 I0 Q0 T I Q H locs) (hK1 : cells + kc ≤ mc) (hK2 : slots + ks ≤ ms) (hl : lv_has ls 9 [(0, .ref o), (1, va_rf x1), (2, va_rf x2), (3, va_rf x3), (4, va_rf x4), (5, .int x5), (6, .int x6)]) (h : wb_L_law_1149 G.2.2 o L xs k28 Qk T I Q kc ks x1 x2 x3 x4 x5 x6 s0 s1 s2) : W p l e R s m args below meth c H locs cells slots (z_MQ below G z_PL A T0 I0 Q0 (z_qz Qk) z_no args s mc ms) (F0 m 1149 ls [.int s2, .int s1, va_rf s0]) := by
  obtain ⟨hx, hb, -⟩ := id X
  unfold wb_L_law_1149 at h
  obtain ⟨a584, rfl, h⟩ := h
  obtain ⟨b585, m586, hL, hM, h⟩ := h
  refine z_lawi (z_runV (rest := []) [.int s1, .int s2] pk_X5_reason (met_X5_reason hL hM s1 s2 _ h) X hB (by decide) q3613 kc_X5 (by decide) (by rw [hL.1]) rfl hl.1 (Nat.le_of_ble_eq_true rfl) dL_law_1149 (z_k4 hK1) (z_k4 hK2) (by decide) (by decide)) hB z_1L (fun r587 I589 H locs h9 hF hB => ?_)
  replace h := h9
  clear h9
  replace h := h I589 rfl hF
  refine lv_istore (lv' := [(7, .int r587), (0, .ref o), (1, va_rf x1), (2, va_rf x2), (3, va_rf x3), (4, va_rf x4), (5, .int x5), (6, .int x6)]) hx hb dL_law_1152 hl (by decide) rfl (fun ls hl9 => ?_)
  replace hl := hl9
  clear hl9
  refine z_aload_n (x := x2) hx hb dL_law_1154 rfl (lv_at hl 3 rfl) ?_
  obtain ⟨a590, rfl, h⟩ := h
  obtain ⟨b591, m592, hL, hM, h⟩ := h
  refine z_lawi (z_runV (rest := []) [] pk_X5_thrown (met_X5_thrown hL hM  _ h) X hB (by decide) q3400 kc_X5 (by decide) (by rw [hL.1]) rfl hl.1 (Nat.le_of_ble_eq_true rfl) dL_law_1155 (z_k4 hK1) (z_k4 hK2) (by decide) (by decide)) hB z_1L (fun r593 I595 H locs h9 hF hB => ?_)
  replace h := h9
  clear h9
  obtain ⟨h, e9⟩ := h
  replace h := h I595 e9 hF
  refine lv_iload hx hb dL_law_1158 (lv_at hl 7 rfl) ?_
  refine lv_icmp_eq (tgt := 1165) hx hb dL_law_1160 (by decide) (fun c596 => ?_) (fun c596 => ?_)
  · replace h := h.1 c596
    refine lv_iload hx hb dL_law_1165 (lv_at hl 7 rfl) ?_
    refine lv_if_ne (tgt := 1182) hx hb dL_law_1167 (by decide) (fun c597 => ?_) (fun c597 => ?_)
    · replace h := h.1 c597
      exact ww_L_law_1182 X hS hk28 hB hK1 hK2 (lv_sub hl [1, 2, 3, 4, 5, 6] rfl) h
    · replace h := h.2 c597
      refine z_aload_n (x := x3) hx hb dL_law_1170 rfl (lv_at hl 4 rfl) ?_
      refine lv_iconst (v := 0) hx hb dL_law_1171 (by decide) ?_
      obtain ⟨a598, rfl, h⟩ := h
      obtain ⟨hk_a598, h⟩ := h
      obtain ⟨h1, h⟩ := h
      refine z_lald X hB.1 hk_a598 h1 dL_law_1172 ?_
      refine lv_iload hx hb dL_law_1173 (lv_at hl 0 rfl) ?_
      refine lv_i2l hx hb dL_law_1175 rfl ?_
      refine z_lcmp hx hb dL_law_1176 ?_
      refine lv_if_eq (tgt := 1182) hx hb dL_law_1177 (by decide) (fun c599 => ?_) (fun c599 => ?_)
      · replace h := h.1 c599
        exact ww_L_law_1182 X hS hk28 hB hK1 hK2 (lv_sub hl [1, 2, 3, 4, 5, 6] rfl) h
      · replace h := h.2 c599
        refine lv_iconst (v := 0) hx hb dL_law_1180 (by decide) ?_
        exact z_zret X hB (Or.inl rfl) ⟨_, rfl, (Or.inl rfl), h⟩ (z_k3 hK1) (z_k3 hK2) dL_law_1181
  · replace h := h.2 c596
    refine lv_iconst (v := 0) hx hb dL_law_1163 (by decide) ?_
    exact z_zret X hB (Or.inl rfl) ⟨_, rfl, (Or.inl rfl), h⟩ (z_k3 hK1) (z_k3 hK2) dL_law_1164
theorem ww_L_law_1122 {o : Nat} {L : Nat} {xs : Nat → Int32} {k28 : z_T → z_I → z_Q → Nat → Nat → Option Nat → Option Nat → Option Nat → Option Nat → Int32 → Prop} {Qk : Int32 → z_T → z_I → z_Q → Prop} (X : z_X l G A p R s m args meth c cL_law 9 RX0 "law" (some .boolean) mc ms 30 605) (hS : z_scr A s o L xs) (hk28 : ∀ {cells slots : Nat} {T : z_T} {I : z_I} {Q : z_Q} {kc : Nat} {ks : Nat} {x1 : Option Nat} {x2 : Option Nat} {x3 : Option Nat} {x4 : Option Nat} {x5 : Int32} {H : Heap} {locs : List Loc} {ls : Array Slot}, z_HB G z_PL A s.heap T0 I0 Q0 T I Q H locs → cells + kc ≤ mc → slots + ks ≤ ms → lv_has ls 9 [(0, .ref o), (1, va_rf x1), (2, va_rf x2), (3, va_rf x3), (4, va_rf x4), (5, .int x5)] → k28 T I Q kc ks x1 x2 x3 x4 x5 → W p l e R s m args below meth c H locs cells slots (z_MQ below G z_PL A T0 I0 Q0 (z_qz Qk) z_no args s mc ms) (F0 m 28 ls [])) {cells slots : Nat} {T : z_T} {I : z_I} {Q : z_Q} {kc : Nat} {ks : Nat} {x1 : Option Nat} {x2 : Option Nat} {x3 : Option Nat} {x4 : Option Nat} {x5 : Int32} {s0 : Option Nat} {s1 : Int32} {s2 : Int32} {H : Heap} {locs : List Loc} {ls : Array Slot} (hB : z_HB G z_PL A s.heap T0 I0 Q0 T I Q H locs) (hK1 : cells + kc ≤ mc) (hK2 : slots + ks ≤ ms) (hl : lv_has ls 9 [(0, .ref o), (1, va_rf x1), (2, va_rf x2), (3, va_rf x3), (4, va_rf x4), (5, .int x5)]) (h : wb_L_law_1122 G.2.2 o L xs k28 Qk T I Q kc ks x1 x2 x3 x4 x5 s0 s1 s2) : W p l e R s m args below meth c H locs cells slots (z_MQ below G z_PL A T0 I0 Q0 (z_qz Qk) z_no args s mc ms) (F0 m 1122 ls [.int s2, .int s1, va_rf s0]) := by
  obtain ⟨hx, hb, -⟩ := id X
  unfold wb_L_law_1122 at h
  refine z_aload_n (x := x3) hx hb dL_law_1122 rfl (lv_at hl 3 rfl) ?_
  obtain ⟨kc578, ks579, g1, g2, h⟩ := h
  refine z_calli (z_runSW (rest := []) [va_rf s0, .int s1, .int s2, va_rf x3] pk_X0_reason (met_X0_reason s0 s1 s2 x3 kc578 ks579 _ h) X hB hB.2.2.2.2.2.2 q2905 rfl hl.1 (Nat.le_of_ble_eq_true rfl) dL_law_1123 (z_k1 hK1 g1) (z_k1 hK2 g2) (by decide) (by decide)) hB (fun _ h => h) (fun r577 T580 I581 Q582 H locs h9 hF hB => ?_)
  replace h := h9
  clear h9
  replace h := h hF
  replace hK1 := z_k2 hK1 g1
  replace hK2 := z_k2 hK2 g2
  refine lv_istore (lv' := [(6, .int r577), (0, .ref o), (1, va_rf x1), (2, va_rf x2), (3, va_rf x3), (4, va_rf x4), (5, .int x5)]) hx hb dL_law_1126 hl (by decide) rfl (fun ls hl9 => ?_)
  replace hl := hl9
  clear hl9
  refine z_aload_n (x := x2) hx hb dL_law_1128 rfl (lv_at hl 3 rfl) ?_
  refine lv_aload_n (x := o) hx hb dL_law_1129 rfl (lv_at hl 1 rfl) ?_
  refine lv_iload hx hb dL_law_1130 (lv_at hl 6 rfl) ?_
  refine lv_iconst (v := 1) hx hb dL_law_1132 (by decide) ?_
  refine lv_iadd hx hb dL_law_1133 ?_
  obtain ⟨h1, h⟩ := h
  refine z_sld hS X hB h1 dL_law_1134 ?_
  refine lv_aload_n (x := o) hx hb dL_law_1135 rfl (lv_at hl 1 rfl) ?_
  refine lv_iload hx hb dL_law_1136 (lv_at hl 6 rfl) ?_
  refine lv_iconst (v := 2) hx hb dL_law_1138 (by decide) ?_
  refine lv_iadd hx hb dL_law_1139 ?_
  obtain ⟨h1, h⟩ := h
  refine z_sld hS X hB h1 dL_law_1140 ?_
  refine lv_if_eq (tgt := 1148) hx hb dL_law_1141 (by decide) (fun c583 => ?_) (fun c583 => ?_)
  · replace h := h.1 c583
    refine lv_iconst (v := 0) hx hb dL_law_1148 (by decide) ?_
    exact ww_L_law_1149 X hS hk28 hB hK1 hK2 (lv_sub hl [1, 2, 3, 4, 5, 6, 0] rfl) h
  · replace h := h.2 c583
    refine lv_iconst (v := 1) hx hb dL_law_1144 (by decide) ?_
    refine lv_goto (tgt := 1149) hx hb dL_law_1145 (by decide) ?_
    exact ww_L_law_1149 X hS hk28 hB hK1 hK2 (lv_sub hl [1, 2, 3, 4, 5, 6, 0] rfl) h
theorem ww_L_law_1238 {o : Nat} {L : Nat} {xs : Nat → Int32} {k28 : z_T → z_I → z_Q → Nat → Nat → Option Nat → Option Nat → Option Nat → Option Nat → Int32 → Prop} {Qk : Int32 → z_T → z_I → z_Q → Prop} (X : z_X l G A p R s m args meth c cL_law 9 RX0 "law" (some .boolean) mc ms 30 605) (hS : z_scr A s o L xs) (hk28 : ∀ {cells slots : Nat} {T : z_T} {I : z_I} {Q : z_Q} {kc : Nat} {ks : Nat} {x1 : Option Nat} {x2 : Option Nat} {x3 : Option Nat} {x4 : Option Nat} {x5 : Int32} {H : Heap} {locs : List Loc} {ls : Array Slot}, z_HB G z_PL A s.heap T0 I0 Q0 T I Q H locs → cells + kc ≤ mc → slots + ks ≤ ms → lv_has ls 9 [(0, .ref o), (1, va_rf x1), (2, va_rf x2), (3, va_rf x3), (4, va_rf x4), (5, .int x5)] → k28 T I Q kc ks x1 x2 x3 x4 x5 → W p l e R s m args below meth c H locs cells slots (z_MQ below G z_PL A T0 I0 Q0 (z_qz Qk) z_no args s mc ms) (F0 m 28 ls [])) {cells slots : Nat} {T : z_T} {I : z_I} {Q : z_Q} {kc : Nat} {ks : Nat} {x1 : Option Nat} {x2 : Option Nat} {x3 : Option Nat} {x4 : Option Nat} {x5 : Int32} {H : Heap} {locs : List Loc} {ls : Array Slot} (hB : z_HB G z_PL A s.heap T0 I0 Q0 T I Q H locs) (hK1 : cells + kc ≤ mc) (hK2 : slots + ks ≤ ms) (hl : lv_has ls 9 [(0, .ref o), (1, va_rf x1), (2, va_rf x2), (3, va_rf x3), (4, va_rf x4), (5, .int x5)]) (h : wb_L_law_1238 G.2.2 o L xs k28 Qk T I Q kc ks x1 x2 x3 x4 x5) : W p l e R s m args below meth c H locs cells slots (z_MQ below G z_PL A T0 I0 Q0 (z_qz Qk) z_no args s mc ms) (F0 m 1238 ls []) := by
  obtain ⟨hx, hb, -⟩ := id X
  unfold wb_L_law_1238 at h
  refine lv_goto (tgt := 1824) hx hb dL_law_1238 (by decide) ?_
  exact ww_L_law_1824 X hS hk28 hB hK1 hK2 (lv_sub hl [0, 1, 2, 3, 4, 5] rfl) h
theorem ww_L_law_1294 {o : Nat} {L : Nat} {xs : Nat → Int32} {k28 : z_T → z_I → z_Q → Nat → Nat → Option Nat → Option Nat → Option Nat → Option Nat → Int32 → Prop} {Qk : Int32 → z_T → z_I → z_Q → Prop} (X : z_X l G A p R s m args meth c cL_law 9 RX0 "law" (some .boolean) mc ms 30 605) (hS : z_scr A s o L xs) (hk28 : ∀ {cells slots : Nat} {T : z_T} {I : z_I} {Q : z_Q} {kc : Nat} {ks : Nat} {x1 : Option Nat} {x2 : Option Nat} {x3 : Option Nat} {x4 : Option Nat} {x5 : Int32} {H : Heap} {locs : List Loc} {ls : Array Slot}, z_HB G z_PL A s.heap T0 I0 Q0 T I Q H locs → cells + kc ≤ mc → slots + ks ≤ ms → lv_has ls 9 [(0, .ref o), (1, va_rf x1), (2, va_rf x2), (3, va_rf x3), (4, va_rf x4), (5, .int x5)] → k28 T I Q kc ks x1 x2 x3 x4 x5 → W p l e R s m args below meth c H locs cells slots (z_MQ below G z_PL A T0 I0 Q0 (z_qz Qk) z_no args s mc ms) (F0 m 28 ls [])) {cells slots : Nat} {T : z_T} {I : z_I} {Q : z_Q} {kc : Nat} {ks : Nat} {x1 : Option Nat} {x2 : Option Nat} {x3 : Option Nat} {x4 : Option Nat} {x5 : Int32} {H : Heap} {locs : List Loc} {ls : Array Slot} (hB : z_HB G z_PL A s.heap T0 I0 Q0 T I Q H locs) (hK1 : cells + kc ≤ mc) (hK2 : slots + ks ≤ ms) (hl : lv_has ls 9 [(0, .ref o), (1, va_rf x1), (2, va_rf x2), (3, va_rf x3), (4, va_rf x4), (5, .int x5)]) (h : wb_L_law_1294 G.2.2 o L xs k28 Qk T I Q kc ks x1 x2 x3 x4 x5) : W p l e R s m args below meth c H locs cells slots (z_MQ below G z_PL A T0 I0 Q0 (z_qz Qk) z_no args s mc ms) (F0 m 1294 ls []) := by
  obtain ⟨hx, hb, -⟩ := id X
  unfold wb_L_law_1294 at h
  refine lv_goto (tgt := 1824) hx hb dL_law_1294 (by decide) ?_
  exact ww_L_law_1824 X hS hk28 hB hK1 hK2 (lv_sub hl [0, 1, 2, 3, 4, 5] rfl) h
theorem ww_L_law_1338 {o : Nat} {L : Nat} {xs : Nat → Int32} {k28 : z_T → z_I → z_Q → Nat → Nat → Option Nat → Option Nat → Option Nat → Option Nat → Int32 → Prop} {Qk : Int32 → z_T → z_I → z_Q → Prop} (X : z_X l G A p R s m args meth c cL_law 9 RX0 "law" (some .boolean) mc ms 30 605) (hS : z_scr A s o L xs) (hk28 : ∀ {cells slots : Nat} {T : z_T} {I : z_I} {Q : z_Q} {kc : Nat} {ks : Nat} {x1 : Option Nat} {x2 : Option Nat} {x3 : Option Nat} {x4 : Option Nat} {x5 : Int32} {H : Heap} {locs : List Loc} {ls : Array Slot}, z_HB G z_PL A s.heap T0 I0 Q0 T I Q H locs → cells + kc ≤ mc → slots + ks ≤ ms → lv_has ls 9 [(0, .ref o), (1, va_rf x1), (2, va_rf x2), (3, va_rf x3), (4, va_rf x4), (5, .int x5)] → k28 T I Q kc ks x1 x2 x3 x4 x5 → W p l e R s m args below meth c H locs cells slots (z_MQ below G z_PL A T0 I0 Q0 (z_qz Qk) z_no args s mc ms) (F0 m 28 ls [])) {cells slots : Nat} {T : z_T} {I : z_I} {Q : z_Q} {kc : Nat} {ks : Nat} {x1 : Option Nat} {x2 : Option Nat} {x3 : Option Nat} {x4 : Option Nat} {x5 : Int32} {H : Heap} {locs : List Loc} {ls : Array Slot} (hB : z_HB G z_PL A s.heap T0 I0 Q0 T I Q H locs) (hK1 : cells + kc ≤ mc) (hK2 : slots + ks ≤ ms) (hl : lv_has ls 9 [(0, .ref o), (1, va_rf x1), (2, va_rf x2), (3, va_rf x3), (4, va_rf x4), (5, .int x5)]) (h : wb_L_law_1338 G.2.2 o L xs k28 Qk T I Q kc ks x1 x2 x3 x4 x5) : W p l e R s m args below meth c H locs cells slots (z_MQ below G z_PL A T0 I0 Q0 (z_qz Qk) z_no args s mc ms) (F0 m 1338 ls []) := by
  obtain ⟨hx, hb, -⟩ := id X
  unfold wb_L_law_1338 at h
  refine lv_goto (tgt := 1824) hx hb dL_law_1338 (by decide) ?_
  exact ww_L_law_1824 X hS hk28 hB hK1 hK2 (lv_sub hl [0, 1, 2, 3, 4, 5] rfl) h
theorem ww_L_law_1419 {o : Nat} {L : Nat} {xs : Nat → Int32} {k28 : z_T → z_I → z_Q → Nat → Nat → Option Nat → Option Nat → Option Nat → Option Nat → Int32 → Prop} {Qk : Int32 → z_T → z_I → z_Q → Prop} (X : z_X l G A p R s m args meth c cL_law 9 RX0 "law" (some .boolean) mc ms 30 605) (hS : z_scr A s o L xs) (hk28 : ∀ {cells slots : Nat} {T : z_T} {I : z_I} {Q : z_Q} {kc : Nat} {ks : Nat} {x1 : Option Nat} {x2 : Option Nat} {x3 : Option Nat} {x4 : Option Nat} {x5 : Int32} {H : Heap} {locs : List Loc} {ls : Array Slot}, z_HB G z_PL A s.heap T0 I0 Q0 T I Q H locs → cells + kc ≤ mc → slots + ks ≤ ms → lv_has ls 9 [(0, .ref o), (1, va_rf x1), (2, va_rf x2), (3, va_rf x3), (4, va_rf x4), (5, .int x5)] → k28 T I Q kc ks x1 x2 x3 x4 x5 → W p l e R s m args below meth c H locs cells slots (z_MQ below G z_PL A T0 I0 Q0 (z_qz Qk) z_no args s mc ms) (F0 m 28 ls [])) {cells slots : Nat} {T : z_T} {I : z_I} {Q : z_Q} {kc : Nat} {ks : Nat} {x1 : Option Nat} {x2 : Option Nat} {x3 : Option Nat} {x4 : Option Nat} {x5 : Int32} {H : Heap} {locs : List Loc} {ls : Array Slot} (hB : z_HB G z_PL A s.heap T0 I0 Q0 T I Q H locs) (hK1 : cells + kc ≤ mc) (hK2 : slots + ks ≤ ms) (hl : lv_has ls 9 [(0, .ref o), (1, va_rf x1), (2, va_rf x2), (3, va_rf x3), (4, va_rf x4), (5, .int x5)]) (h : wb_L_law_1419 G.2.2 o L xs k28 Qk T I Q kc ks x1 x2 x3 x4 x5) : W p l e R s m args below meth c H locs cells slots (z_MQ below G z_PL A T0 I0 Q0 (z_qz Qk) z_no args s mc ms) (F0 m 1419 ls []) := by
  obtain ⟨hx, hb, -⟩ := id X
  unfold wb_L_law_1419 at h
  refine lv_goto (tgt := 1824) hx hb dL_law_1419 (by decide) ?_
  exact ww_L_law_1824 X hS hk28 hB hK1 hK2 (lv_sub hl [0, 1, 2, 3, 4, 5] rfl) h
theorem ww_L_law_1475 {o : Nat} {L : Nat} {xs : Nat → Int32} {k28 : z_T → z_I → z_Q → Nat → Nat → Option Nat → Option Nat → Option Nat → Option Nat → Int32 → Prop} {Qk : Int32 → z_T → z_I → z_Q → Prop} (X : z_X l G A p R s m args meth c cL_law 9 RX0 "law" (some .boolean) mc ms 30 605) (hS : z_scr A s o L xs) (hk28 : ∀ {cells slots : Nat} {T : z_T} {I : z_I} {Q : z_Q} {kc : Nat} {ks : Nat} {x1 : Option Nat} {x2 : Option Nat} {x3 : Option Nat} {x4 : Option Nat} {x5 : Int32} {H : Heap} {locs : List Loc} {ls : Array Slot}, z_HB G z_PL A s.heap T0 I0 Q0 T I Q H locs → cells + kc ≤ mc → slots + ks ≤ ms → lv_has ls 9 [(0, .ref o), (1, va_rf x1), (2, va_rf x2), (3, va_rf x3), (4, va_rf x4), (5, .int x5)] → k28 T I Q kc ks x1 x2 x3 x4 x5 → W p l e R s m args below meth c H locs cells slots (z_MQ below G z_PL A T0 I0 Q0 (z_qz Qk) z_no args s mc ms) (F0 m 28 ls [])) {cells slots : Nat} {T : z_T} {I : z_I} {Q : z_Q} {kc : Nat} {ks : Nat} {x1 : Option Nat} {x2 : Option Nat} {x3 : Option Nat} {x4 : Option Nat} {x5 : Int32} {H : Heap} {locs : List Loc} {ls : Array Slot} (hB : z_HB G z_PL A s.heap T0 I0 Q0 T I Q H locs) (hK1 : cells + kc ≤ mc) (hK2 : slots + ks ≤ ms) (hl : lv_has ls 9 [(0, .ref o), (1, va_rf x1), (2, va_rf x2), (3, va_rf x3), (4, va_rf x4), (5, .int x5)]) (h : wb_L_law_1475 G.2.2 o L xs k28 Qk T I Q kc ks x1 x2 x3 x4 x5) : W p l e R s m args below meth c H locs cells slots (z_MQ below G z_PL A T0 I0 Q0 (z_qz Qk) z_no args s mc ms) (F0 m 1475 ls []) := by
  obtain ⟨hx, hb, -⟩ := id X
  unfold wb_L_law_1475 at h
  refine lv_goto (tgt := 1824) hx hb dL_law_1475 (by decide) ?_
  exact ww_L_law_1824 X hS hk28 hB hK1 hK2 (lv_sub hl [0, 1, 2, 3, 4, 5] rfl) h
theorem ww_L_law_1551 {o : Nat} {L : Nat} {xs : Nat → Int32} {Qk : Int32 → z_T → z_I → z_Q → Prop} (X : z_X l G A p R s m args meth c cL_law 9 RX0 "law" (some .boolean) mc ms 30 605) (hS : z_scr A s o L xs) {cells slots : Nat} {T : z_T} {I : z_I} {Q : z_Q} {kc : Nat} {ks : Nat} {H : Heap} {locs : List Loc} {ls : Array Slot} (hB : z_HB G z_PL A s.heap T0 I0 Q0 T I Q H locs) (hK1 : cells + kc ≤ mc) (hK2 : slots + ks ≤ ms) (hl : lv_has ls 9 []) (h : wb_L_law_1551 G.2.2 o L xs Qk T I Q kc ks) : W p l e R s m args below meth c H locs cells slots (z_MQ below G z_PL A T0 I0 Q0 (z_qz Qk) z_no args s mc ms) (F0 m 1551 ls []) := by
  obtain ⟨hx, hb, -⟩ := id X
  unfold wb_L_law_1551 at h
  refine lv_iconst (v := 0) hx hb dL_law_1551 (by decide) ?_
  exact z_zret X hB (Or.inl rfl) ⟨_, rfl, (Or.inl rfl), h⟩ (z_k3 hK1) (z_k3 hK2) dL_law_1552
theorem ww_L_law_1553 {o : Nat} {L : Nat} {xs : Nat → Int32} {k28 : z_T → z_I → z_Q → Nat → Nat → Option Nat → Option Nat → Option Nat → Option Nat → Int32 → Prop} {Qk : Int32 → z_T → z_I → z_Q → Prop} (X : z_X l G A p R s m args meth c cL_law 9 RX0 "law" (some .boolean) mc ms 30 605) (hS : z_scr A s o L xs) (hk28 : ∀ {cells slots : Nat} {T : z_T} {I : z_I} {Q : z_Q} {kc : Nat} {ks : Nat} {x1 : Option Nat} {x2 : Option Nat} {x3 : Option Nat} {x4 : Option Nat} {x5 : Int32} {H : Heap} {locs : List Loc} {ls : Array Slot}, z_HB G z_PL A s.heap T0 I0 Q0 T I Q H locs → cells + kc ≤ mc → slots + ks ≤ ms → lv_has ls 9 [(0, .ref o), (1, va_rf x1), (2, va_rf x2), (3, va_rf x3), (4, va_rf x4), (5, .int x5)] → k28 T I Q kc ks x1 x2 x3 x4 x5 → W p l e R s m args below meth c H locs cells slots (z_MQ below G z_PL A T0 I0 Q0 (z_qz Qk) z_no args s mc ms) (F0 m 28 ls [])) {cells slots : Nat} {T : z_T} {I : z_I} {Q : z_Q} {kc : Nat} {ks : Nat} {x1 : Option Nat} {x2 : Option Nat} {x3 : Option Nat} {x4 : Option Nat} {x5 : Int32} {H : Heap} {locs : List Loc} {ls : Array Slot} (hB : z_HB G z_PL A s.heap T0 I0 Q0 T I Q H locs) (hK1 : cells + kc ≤ mc) (hK2 : slots + ks ≤ ms) (hl : lv_has ls 9 [(0, .ref o), (1, va_rf x1), (2, va_rf x2), (3, va_rf x3), (4, va_rf x4), (5, .int x5)]) (h : wb_L_law_1553 G.2.2 o L xs k28 Qk T I Q kc ks x1 x2 x3 x4 x5) : W p l e R s m args below meth c H locs cells slots (z_MQ below G z_PL A T0 I0 Q0 (z_qz Qk) z_no args s mc ms) (F0 m 1553 ls []) := by
  obtain ⟨hx, hb, -⟩ := id X
  unfold wb_L_law_1553 at h
  refine lv_goto (tgt := 1824) hx hb dL_law_1553 (by decide) ?_
  exact ww_L_law_1824 X hS hk28 hB hK1 hK2 (lv_sub hl [0, 1, 2, 3, 4, 5] rfl) h
theorem ww_L_law_1616 {o : Nat} {L : Nat} {xs : Nat → Int32} {Qk : Int32 → z_T → z_I → z_Q → Prop} (X : z_X l G A p R s m args meth c cL_law 9 RX0 "law" (some .boolean) mc ms 30 605) (hS : z_scr A s o L xs) {cells slots : Nat} {T : z_T} {I : z_I} {Q : z_Q} {kc : Nat} {ks : Nat} {H : Heap} {locs : List Loc} {ls : Array Slot} (hB : z_HB G z_PL A s.heap T0 I0 Q0 T I Q H locs) (hK1 : cells + kc ≤ mc) (hK2 : slots + ks ≤ ms) (hl : lv_has ls 9 []) (h : wb_L_law_1616 G.2.2 o L xs Qk T I Q kc ks) : W p l e R s m args below meth c H locs cells slots (z_MQ below G z_PL A T0 I0 Q0 (z_qz Qk) z_no args s mc ms) (F0 m 1616 ls []) := by
  obtain ⟨hx, hb, -⟩ := id X
  unfold wb_L_law_1616 at h
  refine lv_iconst (v := 0) hx hb dL_law_1616 (by decide) ?_
  exact z_zret X hB (Or.inl rfl) ⟨_, rfl, (Or.inl rfl), h⟩ (z_k3 hK1) (z_k3 hK2) dL_law_1617
theorem ww_L_law_1618 {o : Nat} {L : Nat} {xs : Nat → Int32} {k28 : z_T → z_I → z_Q → Nat → Nat → Option Nat → Option Nat → Option Nat → Option Nat → Int32 → Prop} {Qk : Int32 → z_T → z_I → z_Q → Prop} (X : z_X l G A p R s m args meth c cL_law 9 RX0 "law" (some .boolean) mc ms 30 605) (hS : z_scr A s o L xs) (hk28 : ∀ {cells slots : Nat} {T : z_T} {I : z_I} {Q : z_Q} {kc : Nat} {ks : Nat} {x1 : Option Nat} {x2 : Option Nat} {x3 : Option Nat} {x4 : Option Nat} {x5 : Int32} {H : Heap} {locs : List Loc} {ls : Array Slot}, z_HB G z_PL A s.heap T0 I0 Q0 T I Q H locs → cells + kc ≤ mc → slots + ks ≤ ms → lv_has ls 9 [(0, .ref o), (1, va_rf x1), (2, va_rf x2), (3, va_rf x3), (4, va_rf x4), (5, .int x5)] → k28 T I Q kc ks x1 x2 x3 x4 x5 → W p l e R s m args below meth c H locs cells slots (z_MQ below G z_PL A T0 I0 Q0 (z_qz Qk) z_no args s mc ms) (F0 m 28 ls [])) {cells slots : Nat} {T : z_T} {I : z_I} {Q : z_Q} {kc : Nat} {ks : Nat} {x1 : Option Nat} {x2 : Option Nat} {x3 : Option Nat} {x4 : Option Nat} {x5 : Int32} {H : Heap} {locs : List Loc} {ls : Array Slot} (hB : z_HB G z_PL A s.heap T0 I0 Q0 T I Q H locs) (hK1 : cells + kc ≤ mc) (hK2 : slots + ks ≤ ms) (hl : lv_has ls 9 [(0, .ref o), (1, va_rf x1), (2, va_rf x2), (3, va_rf x3), (4, va_rf x4), (5, .int x5)]) (h : wb_L_law_1618 G.2.2 o L xs k28 Qk T I Q kc ks x1 x2 x3 x4 x5) : W p l e R s m args below meth c H locs cells slots (z_MQ below G z_PL A T0 I0 Q0 (z_qz Qk) z_no args s mc ms) (F0 m 1618 ls []) := by
  obtain ⟨hx, hb, -⟩ := id X
  unfold wb_L_law_1618 at h
  refine lv_goto (tgt := 1824) hx hb dL_law_1618 (by decide) ?_
  exact ww_L_law_1824 X hS hk28 hB hK1 hK2 (lv_sub hl [0, 1, 2, 3, 4, 5] rfl) h
theorem ww_L_law_1676 {o : Nat} {L : Nat} {xs : Nat → Int32} {k28 : z_T → z_I → z_Q → Nat → Nat → Option Nat → Option Nat → Option Nat → Option Nat → Int32 → Prop} {Qk : Int32 → z_T → z_I → z_Q → Prop} (X : z_X l G A p R s m args meth c cL_law 9 RX0 "law" (some .boolean) mc ms 30 605) (hS : z_scr A s o L xs) (hk28 : ∀ {cells slots : Nat} {T : z_T} {I : z_I} {Q : z_Q} {kc : Nat} {ks : Nat} {x1 : Option Nat} {x2 : Option Nat} {x3 : Option Nat} {x4 : Option Nat} {x5 : Int32} {H : Heap} {locs : List Loc} {ls : Array Slot}, z_HB G z_PL A s.heap T0 I0 Q0 T I Q H locs → cells + kc ≤ mc → slots + ks ≤ ms → lv_has ls 9 [(0, .ref o), (1, va_rf x1), (2, va_rf x2), (3, va_rf x3), (4, va_rf x4), (5, .int x5)] → k28 T I Q kc ks x1 x2 x3 x4 x5 → W p l e R s m args below meth c H locs cells slots (z_MQ below G z_PL A T0 I0 Q0 (z_qz Qk) z_no args s mc ms) (F0 m 28 ls [])) {cells slots : Nat} {T : z_T} {I : z_I} {Q : z_Q} {kc : Nat} {ks : Nat} {x1 : Option Nat} {x2 : Option Nat} {x3 : Option Nat} {x4 : Option Nat} {x5 : Int32} {H : Heap} {locs : List Loc} {ls : Array Slot} (hB : z_HB G z_PL A s.heap T0 I0 Q0 T I Q H locs) (hK1 : cells + kc ≤ mc) (hK2 : slots + ks ≤ ms) (hl : lv_has ls 9 [(0, .ref o), (1, va_rf x1), (2, va_rf x2), (3, va_rf x3), (4, va_rf x4), (5, .int x5)]) (h : wb_L_law_1676 G.2.2 o L xs k28 Qk T I Q kc ks x1 x2 x3 x4 x5) : W p l e R s m args below meth c H locs cells slots (z_MQ below G z_PL A T0 I0 Q0 (z_qz Qk) z_no args s mc ms) (F0 m 1676 ls []) := by
  obtain ⟨hx, hb, -⟩ := id X
  unfold wb_L_law_1676 at h
  refine lv_goto (tgt := 1824) hx hb dL_law_1676 (by decide) ?_
  exact ww_L_law_1824 X hS hk28 hB hK1 hK2 (lv_sub hl [0, 1, 2, 3, 4, 5] rfl) h
theorem ww_L_law_1720 {o : Nat} {L : Nat} {xs : Nat → Int32} {k28 : z_T → z_I → z_Q → Nat → Nat → Option Nat → Option Nat → Option Nat → Option Nat → Int32 → Prop} {Qk : Int32 → z_T → z_I → z_Q → Prop} (X : z_X l G A p R s m args meth c cL_law 9 RX0 "law" (some .boolean) mc ms 30 605) (hS : z_scr A s o L xs) (hk28 : ∀ {cells slots : Nat} {T : z_T} {I : z_I} {Q : z_Q} {kc : Nat} {ks : Nat} {x1 : Option Nat} {x2 : Option Nat} {x3 : Option Nat} {x4 : Option Nat} {x5 : Int32} {H : Heap} {locs : List Loc} {ls : Array Slot}, z_HB G z_PL A s.heap T0 I0 Q0 T I Q H locs → cells + kc ≤ mc → slots + ks ≤ ms → lv_has ls 9 [(0, .ref o), (1, va_rf x1), (2, va_rf x2), (3, va_rf x3), (4, va_rf x4), (5, .int x5)] → k28 T I Q kc ks x1 x2 x3 x4 x5 → W p l e R s m args below meth c H locs cells slots (z_MQ below G z_PL A T0 I0 Q0 (z_qz Qk) z_no args s mc ms) (F0 m 28 ls [])) {cells slots : Nat} {T : z_T} {I : z_I} {Q : z_Q} {kc : Nat} {ks : Nat} {x1 : Option Nat} {x2 : Option Nat} {x3 : Option Nat} {x4 : Option Nat} {x5 : Int32} {H : Heap} {locs : List Loc} {ls : Array Slot} (hB : z_HB G z_PL A s.heap T0 I0 Q0 T I Q H locs) (hK1 : cells + kc ≤ mc) (hK2 : slots + ks ≤ ms) (hl : lv_has ls 9 [(0, .ref o), (1, va_rf x1), (2, va_rf x2), (3, va_rf x3), (4, va_rf x4), (5, .int x5)]) (h : wb_L_law_1720 G.2.2 o L xs k28 Qk T I Q kc ks x1 x2 x3 x4 x5) : W p l e R s m args below meth c H locs cells slots (z_MQ below G z_PL A T0 I0 Q0 (z_qz Qk) z_no args s mc ms) (F0 m 1720 ls []) := by
  obtain ⟨hx, hb, -⟩ := id X
  unfold wb_L_law_1720 at h
  refine lv_goto (tgt := 1824) hx hb dL_law_1720 (by decide) ?_
  exact ww_L_law_1824 X hS hk28 hB hK1 hK2 (lv_sub hl [0, 1, 2, 3, 4, 5] rfl) h
theorem ww_L_law_1764 {o : Nat} {L : Nat} {xs : Nat → Int32} {k28 : z_T → z_I → z_Q → Nat → Nat → Option Nat → Option Nat → Option Nat → Option Nat → Int32 → Prop} {Qk : Int32 → z_T → z_I → z_Q → Prop} (X : z_X l G A p R s m args meth c cL_law 9 RX0 "law" (some .boolean) mc ms 30 605) (hS : z_scr A s o L xs) (hk28 : ∀ {cells slots : Nat} {T : z_T} {I : z_I} {Q : z_Q} {kc : Nat} {ks : Nat} {x1 : Option Nat} {x2 : Option Nat} {x3 : Option Nat} {x4 : Option Nat} {x5 : Int32} {H : Heap} {locs : List Loc} {ls : Array Slot}, z_HB G z_PL A s.heap T0 I0 Q0 T I Q H locs → cells + kc ≤ mc → slots + ks ≤ ms → lv_has ls 9 [(0, .ref o), (1, va_rf x1), (2, va_rf x2), (3, va_rf x3), (4, va_rf x4), (5, .int x5)] → k28 T I Q kc ks x1 x2 x3 x4 x5 → W p l e R s m args below meth c H locs cells slots (z_MQ below G z_PL A T0 I0 Q0 (z_qz Qk) z_no args s mc ms) (F0 m 28 ls [])) {cells slots : Nat} {T : z_T} {I : z_I} {Q : z_Q} {kc : Nat} {ks : Nat} {x1 : Option Nat} {x2 : Option Nat} {x3 : Option Nat} {x4 : Option Nat} {x5 : Int32} {H : Heap} {locs : List Loc} {ls : Array Slot} (hB : z_HB G z_PL A s.heap T0 I0 Q0 T I Q H locs) (hK1 : cells + kc ≤ mc) (hK2 : slots + ks ≤ ms) (hl : lv_has ls 9 [(0, .ref o), (1, va_rf x1), (2, va_rf x2), (3, va_rf x3), (4, va_rf x4), (5, .int x5)]) (h : wb_L_law_1764 G.2.2 o L xs k28 Qk T I Q kc ks x1 x2 x3 x4 x5) : W p l e R s m args below meth c H locs cells slots (z_MQ below G z_PL A T0 I0 Q0 (z_qz Qk) z_no args s mc ms) (F0 m 1764 ls []) := by
  obtain ⟨hx, hb, -⟩ := id X
  unfold wb_L_law_1764 at h
  refine lv_goto (tgt := 1824) hx hb dL_law_1764 (by decide) ?_
  exact ww_L_law_1824 X hS hk28 hB hK1 hK2 (lv_sub hl [0, 1, 2, 3, 4, 5] rfl) h
theorem ww_L_law_1821 {o : Nat} {L : Nat} {xs : Nat → Int32} {k28 : z_T → z_I → z_Q → Nat → Nat → Option Nat → Option Nat → Option Nat → Option Nat → Int32 → Prop} {Qk : Int32 → z_T → z_I → z_Q → Prop} (X : z_X l G A p R s m args meth c cL_law 9 RX0 "law" (some .boolean) mc ms 30 605) (hS : z_scr A s o L xs) (hk28 : ∀ {cells slots : Nat} {T : z_T} {I : z_I} {Q : z_Q} {kc : Nat} {ks : Nat} {x1 : Option Nat} {x2 : Option Nat} {x3 : Option Nat} {x4 : Option Nat} {x5 : Int32} {H : Heap} {locs : List Loc} {ls : Array Slot}, z_HB G z_PL A s.heap T0 I0 Q0 T I Q H locs → cells + kc ≤ mc → slots + ks ≤ ms → lv_has ls 9 [(0, .ref o), (1, va_rf x1), (2, va_rf x2), (3, va_rf x3), (4, va_rf x4), (5, .int x5)] → k28 T I Q kc ks x1 x2 x3 x4 x5 → W p l e R s m args below meth c H locs cells slots (z_MQ below G z_PL A T0 I0 Q0 (z_qz Qk) z_no args s mc ms) (F0 m 28 ls [])) {cells slots : Nat} {T : z_T} {I : z_I} {Q : z_Q} {kc : Nat} {ks : Nat} {x1 : Option Nat} {x2 : Option Nat} {x3 : Option Nat} {x4 : Option Nat} {x5 : Int32} {H : Heap} {locs : List Loc} {ls : Array Slot} (hB : z_HB G z_PL A s.heap T0 I0 Q0 T I Q H locs) (hK1 : cells + kc ≤ mc) (hK2 : slots + ks ≤ ms) (hl : lv_has ls 9 [(0, .ref o), (1, va_rf x1), (2, va_rf x2), (3, va_rf x3), (4, va_rf x4), (5, .int x5)]) (h : wb_L_law_1821 G.2.2 o L xs k28 Qk T I Q kc ks x1 x2 x3 x4 x5) : W p l e R s m args below meth c H locs cells slots (z_MQ below G z_PL A T0 I0 Q0 (z_qz Qk) z_no args s mc ms) (F0 m 1821 ls []) := by
  obtain ⟨hx, hb, -⟩ := id X
  unfold wb_L_law_1821 at h
  refine lv_goto (tgt := 1824) hx hb dL_law_1821 (by decide) ?_
  exact ww_L_law_1824 X hS hk28 hB hK1 hK2 (lv_sub hl [0, 1, 2, 3, 4, 5] rfl) h
theorem wv_L_law_28 {o : Nat} {L : Nat} {xs : Nat → Int32} {Qk : Int32 → z_T → z_I → z_Q → Prop} (X : z_X l G A p R s m args meth c cL_law 9 RX0 "law" (some .boolean) mc ms 30 605) (hS : z_scr A s o L xs) : ∀ (n : Nat) {cells slots : Nat} {T : z_T} {I : z_I} {Q : z_Q} {kc : Nat} {ks : Nat} {x1 : Option Nat} {x2 : Option Nat} {x3 : Option Nat} {x4 : Option Nat} {x5 : Int32} {H : Heap} {locs : List Loc} {ls : Array Slot}, z_HB G z_PL A s.heap T0 I0 Q0 T I Q H locs → cells + kc ≤ mc → slots + ks ≤ ms → lv_has ls 9 [(0, .ref o), (1, va_rf x1), (2, va_rf x2), (3, va_rf x3), (4, va_rf x4), (5, .int x5)] → wl_L_law_28 G.2.2 o L xs Qk n T I Q kc ks x1 x2 x3 x4 x5 → W p l e R s m args below meth c H locs cells slots (z_MQ below G z_PL A T0 I0 Q0 (z_qz Qk) z_no args s mc ms) (F0 m 28 ls []) := by
  intro n
  induction n with
  | zero =>
    intro cells slots T I Q kc ks x1 x2 x3 x4 x5 H locs ls hB hK1 hK2 hl h
    exact h.elim
  | succ n ih =>
    intro cells slots T I Q kc ks x1 x2 x3 x4 x5 H locs ls hB hK1 hK2 hl h
    obtain ⟨hx, hb, -⟩ := id X
    unfold wl_L_law_28 at h
    refine lv_iload hx hb dL_law_28 (lv_at hl 5 rfl) ?_
    refine lv_aload_n (x := o) hx hb dL_law_30 rfl (lv_at hl 0 rfl) ?_
    refine z_slen hS X hB dL_law_31 ?_
    refine lv_bipush (v := 7) hx hb dL_law_32 (by decide) ?_
    refine lv_isub hx hb dL_law_34 ?_
    refine lv_icmp_gt (tgt := 1830) hx hb dL_law_35 (by decide) (fun c34 => ?_) (fun c34 => ?_)
    · replace h := h.1 c34
      refine lv_iconst (v := 1) hx hb dL_law_1830 (by decide) ?_
      exact z_zret X hB (Or.inr rfl) ⟨_, rfl, (Or.inr rfl), h⟩ (z_k3 hK1) (z_k3 hK2) dL_law_1831
    · replace h := h.2 c34
      refine lv_aload_n (x := o) hx hb dL_law_38 rfl (lv_at hl 0 rfl) ?_
      refine lv_iload hx hb dL_law_39 (lv_at hl 5 rfl) ?_
      obtain ⟨h1, h⟩ := h
      refine z_sld hS X hB h1 dL_law_41 ?_
      refine lv_bipush (v := 31) hx hb dL_law_42 (by decide) ?_
      refine lv_iand hx hb dL_law_44 ?_
      by_cases c35_0 : ((xs x5.toNatClampNeg) &&& 31) = 0
      · replace h := h.1 c35_0
        refine lv_tableIn (off := 123) (tgt := 168) hx hb dL_law_45 (by rw [c35_0]; decide) (by rw [c35_0]; decide) (by rw [c35_0]; rfl) (by decide) ?_
        refine z_aload_n (x := x1) hx hb dL_law_168 rfl (lv_at hl 1 rfl) ?_
        refine lv_aload_n (x := o) hx hb dL_law_169 rfl (lv_at hl 0 rfl) ?_
        refine lv_iload hx hb dL_law_170 (lv_at hl 5 rfl) ?_
        refine lv_iconst (v := 1) hx hb dL_law_172 (by decide) ?_
        refine lv_iadd hx hb dL_law_173 ?_
        obtain ⟨h1, h⟩ := h
        refine z_sld hS X hB h1 dL_law_174 ?_
        refine lv_aload_n (x := o) hx hb dL_law_175 rfl (lv_at hl 0 rfl) ?_
        refine lv_iload hx hb dL_law_176 (lv_at hl 5 rfl) ?_
        refine lv_iconst (v := 2) hx hb dL_law_178 (by decide) ?_
        refine lv_iadd hx hb dL_law_179 ?_
        obtain ⟨h1, h⟩ := h
        refine z_sld hS X hB h1 dL_law_180 ?_
        refine lv_aload_n (x := o) hx hb dL_law_181 rfl (lv_at hl 0 rfl) ?_
        refine lv_iload hx hb dL_law_182 (lv_at hl 5 rfl) ?_
        refine lv_iconst (v := 3) hx hb dL_law_184 (by decide) ?_
        refine lv_iadd hx hb dL_law_185 ?_
        obtain ⟨h1, h⟩ := h
        refine z_sld hS X hB h1 dL_law_186 ?_
        refine lv_if_eq (tgt := 194) hx hb dL_law_187 (by decide) (fun c36 => ?_) (fun c36 => ?_)
        · replace h := h.1 c36
          refine lv_iconst (v := 0) hx hb dL_law_194 (by decide) ?_
          exact ww_L_law_195 X hS (fun hB hK1 hK2 hl h => ih hB hK1 hK2 hl h) hB hK1 hK2 (lv_sub hl [0, 1, 2, 3, 4, 5] rfl) h
        · replace h := h.2 c36
          refine lv_iconst (v := 1) hx hb dL_law_190 (by decide) ?_
          refine lv_goto (tgt := 195) hx hb dL_law_191 (by decide) ?_
          exact ww_L_law_195 X hS (fun hB hK1 hK2 hl h => ih hB hK1 hK2 hl h) hB hK1 hK2 (lv_sub hl [0, 1, 2, 3, 4, 5] rfl) h
      · by_cases c35_1 : ((xs x5.toNatClampNeg) &&& 31) = 1
        · replace h := h.2.1 c35_1
          refine lv_tableIn (off := 226) (tgt := 271) hx hb dL_law_45 (by rw [c35_1]; decide) (by rw [c35_1]; decide) (by rw [c35_1]; rfl) (by decide) ?_
          refine z_aload_n (x := x1) hx hb dL_law_271 rfl (lv_at hl 1 rfl) ?_
          refine lv_aload_n (x := o) hx hb dL_law_272 rfl (lv_at hl 0 rfl) ?_
          refine lv_iload hx hb dL_law_273 (lv_at hl 5 rfl) ?_
          refine lv_iconst (v := 1) hx hb dL_law_275 (by decide) ?_
          refine lv_iadd hx hb dL_law_276 ?_
          obtain ⟨h1, h⟩ := h
          refine z_sld hS X hB h1 dL_law_277 ?_
          refine lv_aload_n (x := o) hx hb dL_law_278 rfl (lv_at hl 0 rfl) ?_
          refine lv_iload hx hb dL_law_279 (lv_at hl 5 rfl) ?_
          refine lv_iconst (v := 2) hx hb dL_law_281 (by decide) ?_
          refine lv_iadd hx hb dL_law_282 ?_
          obtain ⟨h1, h⟩ := h
          refine z_sld hS X hB h1 dL_law_283 ?_
          refine z_aload_n (x := x3) hx hb dL_law_284 rfl (lv_at hl 3 rfl) ?_
          obtain ⟨kc38, ks39, g1, g2, h⟩ := h
          refine z_calli (z_runSW (rest := []) [va_rf x1, .int (xs (x5 + 1).toNatClampNeg), .int (xs (x5 + 2).toNatClampNeg), va_rf x3] pk_X0_setReach (met_X0_setReach x1 (xs (x5 + 1).toNatClampNeg) (xs (x5 + 2).toNatClampNeg) x3 kc38 ks39 _ h) X hB hB.2.2.2.2.2.2 q2514 rfl hl.1 (Nat.le_of_ble_eq_true rfl) dL_law_285 (z_k1 hK1 g1) (z_k1 hK2 g2) (by decide) (by decide)) hB (fun _ h => h) (fun r37 T40 I41 Q42 H locs h9 hF hB => ?_)
          replace h := h9
          clear h9
          replace h := h hF
          replace hK1 := z_k2 hK1 g1
          replace hK2 := z_k2 hK2 g2
          refine lv_istore (lv' := [(6, .int r37), (0, .ref o), (1, va_rf x1), (2, va_rf x2), (3, va_rf x3), (4, va_rf x4), (5, .int x5)]) hx hb dL_law_288 hl (by decide) rfl (fun ls hl9 => ?_)
          replace hl := hl9
          clear hl9
          refine z_aload_n (x := x2) hx hb dL_law_290 rfl (lv_at hl 3 rfl) ?_
          refine lv_aload_n (x := o) hx hb dL_law_291 rfl (lv_at hl 1 rfl) ?_
          refine lv_iload hx hb dL_law_292 (lv_at hl 6 rfl) ?_
          refine lv_iconst (v := 1) hx hb dL_law_294 (by decide) ?_
          refine lv_iadd hx hb dL_law_295 ?_
          obtain ⟨h1, h⟩ := h
          refine z_sld hS X hB h1 dL_law_296 ?_
          refine lv_aload_n (x := o) hx hb dL_law_297 rfl (lv_at hl 1 rfl) ?_
          refine lv_iload hx hb dL_law_298 (lv_at hl 6 rfl) ?_
          refine lv_iconst (v := 2) hx hb dL_law_300 (by decide) ?_
          refine lv_iadd hx hb dL_law_301 ?_
          obtain ⟨h1, h⟩ := h
          refine z_sld hS X hB h1 dL_law_302 ?_
          obtain ⟨a43, rfl, h⟩ := h
          obtain ⟨b44, m45, hL, hM, h⟩ := h
          refine z_lawi (z_runV (rest := []) [.int (xs (x5 + 1).toNatClampNeg), .int (xs (x5 + 2).toNatClampNeg)] pk_X5_setReach (met_X5_setReach hL hM (xs (x5 + 1).toNatClampNeg) (xs (x5 + 2).toNatClampNeg) _ h) X hB (by decide) q3465 kc_X5 (by decide) (by rw [hL.1]) rfl hl.1 (Nat.le_of_ble_eq_true rfl) dL_law_303 (z_k4 hK1) (z_k4 hK2) (by decide) (by decide)) hB z_1L (fun r46 I48 H locs h9 hF hB => ?_)
          replace h := h9
          clear h9
          replace h := h I48 rfl hF
          refine lv_istore (lv' := [(7, .int r46), (6, .int r37), (0, .ref o), (1, va_rf x1), (2, .ref a43), (3, va_rf x3), (4, va_rf x4), (5, .int x5)]) hx hb dL_law_306 hl (by decide) rfl (fun ls hl9 => ?_)
          replace hl := hl9
          clear hl9
          refine lv_aload_n (x := a43) hx hb dL_law_308 rfl (lv_at hl 4 rfl) ?_
          obtain ⟨b49, m50, hL, hM, h⟩ := h
          refine z_lawi (z_runV (rest := []) [] pk_X5_thrown (met_X5_thrown hL hM  _ h) X hB (by decide) q3400 kc_X5 (by decide) (by rw [hL.1]) rfl hl.1 (Nat.le_of_ble_eq_true rfl) dL_law_309 (z_k4 hK1) (z_k4 hK2) (by decide) (by decide)) hB z_1L (fun r51 I53 H locs h9 hF hB => ?_)
          replace h := h9
          clear h9
          obtain ⟨h, e9⟩ := h
          replace h := h I53 e9 hF
          refine lv_iload hx hb dL_law_312 (lv_at hl 1 rfl) ?_
          refine lv_icmp_eq (tgt := 319) hx hb dL_law_314 (by decide) (fun c54 => ?_) (fun c54 => ?_)
          · replace h := h.1 c54
            refine lv_iload hx hb dL_law_319 (lv_at hl 1 rfl) ?_
            refine lv_if_ne (tgt := 336) hx hb dL_law_321 (by decide) (fun c55 => ?_) (fun c55 => ?_)
            · replace h := h.1 c55
              exact ww_L_law_336 X hS (fun hB hK1 hK2 hl h => ih hB hK1 hK2 hl h) hB hK1 hK2 (lv_sub hl [2, 3, 4, 5, 6, 7] rfl) h
            · replace h := h.2 c55
              refine z_aload_n (x := x3) hx hb dL_law_324 rfl (lv_at hl 5 rfl) ?_
              refine lv_iconst (v := 0) hx hb dL_law_325 (by decide) ?_
              obtain ⟨a56, rfl, h⟩ := h
              obtain ⟨hk_a56, h⟩ := h
              obtain ⟨h1, h⟩ := h
              refine z_lald X hB.1 hk_a56 h1 dL_law_326 ?_
              refine lv_iload hx hb dL_law_327 (lv_at hl 0 rfl) ?_
              refine lv_i2l hx hb dL_law_329 rfl ?_
              refine z_lcmp hx hb dL_law_330 ?_
              refine lv_if_eq (tgt := 336) hx hb dL_law_331 (by decide) (fun c57 => ?_) (fun c57 => ?_)
              · replace h := h.1 c57
                exact ww_L_law_336 X hS (fun hB hK1 hK2 hl h => ih hB hK1 hK2 hl h) hB hK1 hK2 (lv_sub hl [2, 3, 4, 5, 6, 7] rfl) h
              · replace h := h.2 c57
                refine lv_iconst (v := 0) hx hb dL_law_334 (by decide) ?_
                exact z_zret X hB (Or.inl rfl) ⟨_, rfl, (Or.inl rfl), h⟩ (z_k3 hK1) (z_k3 hK2) dL_law_335
          · replace h := h.2 c54
            refine lv_iconst (v := 0) hx hb dL_law_317 (by decide) ?_
            exact z_zret X hB (Or.inl rfl) ⟨_, rfl, (Or.inl rfl), h⟩ (z_k3 hK1) (z_k3 hK2) dL_law_318
        · by_cases c35_2 : ((xs x5.toNatClampNeg) &&& 31) = 2
          · replace h := h.2.2.1 c35_2
            refine lv_tableIn (off := 294) (tgt := 339) hx hb dL_law_45 (by rw [c35_2]; decide) (by rw [c35_2]; decide) (by rw [c35_2]; rfl) (by decide) ?_
            refine z_aload_n (x := x1) hx hb dL_law_339 rfl (lv_at hl 1 rfl) ?_
            refine lv_aload_n (x := o) hx hb dL_law_340 rfl (lv_at hl 0 rfl) ?_
            refine lv_iload hx hb dL_law_341 (lv_at hl 5 rfl) ?_
            refine lv_iconst (v := 1) hx hb dL_law_343 (by decide) ?_
            refine lv_iadd hx hb dL_law_344 ?_
            obtain ⟨h1, h⟩ := h
            refine z_sld hS X hB h1 dL_law_345 ?_
            refine lv_aload_n (x := o) hx hb dL_law_346 rfl (lv_at hl 0 rfl) ?_
            refine lv_iload hx hb dL_law_347 (lv_at hl 5 rfl) ?_
            refine lv_iconst (v := 2) hx hb dL_law_349 (by decide) ?_
            refine lv_iadd hx hb dL_law_350 ?_
            obtain ⟨h1, h⟩ := h
            refine z_sld hS X hB h1 dL_law_351 ?_
            refine z_aload_n (x := x3) hx hb dL_law_352 rfl (lv_at hl 3 rfl) ?_
            obtain ⟨kc59, ks60, g1, g2, h⟩ := h
            refine z_calli (z_runSW (rest := []) [va_rf x1, .int (xs (x5 + 1).toNatClampNeg), .int (xs (x5 + 2).toNatClampNeg), va_rf x3] pk_X0_setCapacity (met_X0_setCapacity x1 (xs (x5 + 1).toNatClampNeg) (xs (x5 + 2).toNatClampNeg) x3 kc59 ks60 _ h) X hB hB.2.2.2.2.2.2 q2521 rfl hl.1 (Nat.le_of_ble_eq_true rfl) dL_law_353 (z_k1 hK1 g1) (z_k1 hK2 g2) (by decide) (by decide)) hB (fun _ h => h) (fun r58 T61 I62 Q63 H locs h9 hF hB => ?_)
            replace h := h9
            clear h9
            replace h := h hF
            replace hK1 := z_k2 hK1 g1
            replace hK2 := z_k2 hK2 g2
            refine lv_istore (lv' := [(6, .int r58), (0, .ref o), (1, va_rf x1), (2, va_rf x2), (3, va_rf x3), (4, va_rf x4), (5, .int x5)]) hx hb dL_law_356 hl (by decide) rfl (fun ls hl9 => ?_)
            replace hl := hl9
            clear hl9
            refine z_aload_n (x := x2) hx hb dL_law_358 rfl (lv_at hl 3 rfl) ?_
            refine lv_aload_n (x := o) hx hb dL_law_359 rfl (lv_at hl 1 rfl) ?_
            refine lv_iload hx hb dL_law_360 (lv_at hl 6 rfl) ?_
            refine lv_iconst (v := 1) hx hb dL_law_362 (by decide) ?_
            refine lv_iadd hx hb dL_law_363 ?_
            obtain ⟨h1, h⟩ := h
            refine z_sld hS X hB h1 dL_law_364 ?_
            refine lv_aload_n (x := o) hx hb dL_law_365 rfl (lv_at hl 1 rfl) ?_
            refine lv_iload hx hb dL_law_366 (lv_at hl 6 rfl) ?_
            refine lv_iconst (v := 2) hx hb dL_law_368 (by decide) ?_
            refine lv_iadd hx hb dL_law_369 ?_
            obtain ⟨h1, h⟩ := h
            refine z_sld hS X hB h1 dL_law_370 ?_
            obtain ⟨a64, rfl, h⟩ := h
            obtain ⟨b65, m66, hL, hM, h⟩ := h
            refine z_lawi (z_runV (rest := []) [.int (xs (x5 + 1).toNatClampNeg), .int (xs (x5 + 2).toNatClampNeg)] pk_X5_setCapacity (met_X5_setCapacity hL hM (xs (x5 + 1).toNatClampNeg) (xs (x5 + 2).toNatClampNeg) _ h) X hB (by decide) q3476 kc_X5 (by decide) (by rw [hL.1]) rfl hl.1 (Nat.le_of_ble_eq_true rfl) dL_law_371 (z_k4 hK1) (z_k4 hK2) (by decide) (by decide)) hB z_1L (fun r67 I69 H locs h9 hF hB => ?_)
            replace h := h9
            clear h9
            replace h := h I69 rfl hF
            refine lv_istore (lv' := [(7, .int r67), (6, .int r58), (0, .ref o), (1, va_rf x1), (2, .ref a64), (3, va_rf x3), (4, va_rf x4), (5, .int x5)]) hx hb dL_law_374 hl (by decide) rfl (fun ls hl9 => ?_)
            replace hl := hl9
            clear hl9
            refine lv_aload_n (x := a64) hx hb dL_law_376 rfl (lv_at hl 4 rfl) ?_
            obtain ⟨b70, m71, hL, hM, h⟩ := h
            refine z_lawi (z_runV (rest := []) [] pk_X5_thrown (met_X5_thrown hL hM  _ h) X hB (by decide) q3400 kc_X5 (by decide) (by rw [hL.1]) rfl hl.1 (Nat.le_of_ble_eq_true rfl) dL_law_377 (z_k4 hK1) (z_k4 hK2) (by decide) (by decide)) hB z_1L (fun r72 I74 H locs h9 hF hB => ?_)
            replace h := h9
            clear h9
            obtain ⟨h, e9⟩ := h
            replace h := h I74 e9 hF
            refine lv_iload hx hb dL_law_380 (lv_at hl 1 rfl) ?_
            refine lv_icmp_eq (tgt := 387) hx hb dL_law_382 (by decide) (fun c75 => ?_) (fun c75 => ?_)
            · replace h := h.1 c75
              refine lv_iload hx hb dL_law_387 (lv_at hl 1 rfl) ?_
              refine lv_if_ne (tgt := 404) hx hb dL_law_389 (by decide) (fun c76 => ?_) (fun c76 => ?_)
              · replace h := h.1 c76
                exact ww_L_law_404 X hS (fun hB hK1 hK2 hl h => ih hB hK1 hK2 hl h) hB hK1 hK2 (lv_sub hl [2, 3, 4, 5, 6, 7] rfl) h
              · replace h := h.2 c76
                refine z_aload_n (x := x3) hx hb dL_law_392 rfl (lv_at hl 5 rfl) ?_
                refine lv_iconst (v := 0) hx hb dL_law_393 (by decide) ?_
                obtain ⟨a77, rfl, h⟩ := h
                obtain ⟨hk_a77, h⟩ := h
                obtain ⟨h1, h⟩ := h
                refine z_lald X hB.1 hk_a77 h1 dL_law_394 ?_
                refine lv_iload hx hb dL_law_395 (lv_at hl 0 rfl) ?_
                refine lv_i2l hx hb dL_law_397 rfl ?_
                refine z_lcmp hx hb dL_law_398 ?_
                refine lv_if_eq (tgt := 404) hx hb dL_law_399 (by decide) (fun c78 => ?_) (fun c78 => ?_)
                · replace h := h.1 c78
                  exact ww_L_law_404 X hS (fun hB hK1 hK2 hl h => ih hB hK1 hK2 hl h) hB hK1 hK2 (lv_sub hl [2, 3, 4, 5, 6, 7] rfl) h
                · replace h := h.2 c78
                  refine lv_iconst (v := 0) hx hb dL_law_402 (by decide) ?_
                  exact z_zret X hB (Or.inl rfl) ⟨_, rfl, (Or.inl rfl), h⟩ (z_k3 hK1) (z_k3 hK2) dL_law_403
            · replace h := h.2 c75
              refine lv_iconst (v := 0) hx hb dL_law_385 (by decide) ?_
              exact z_zret X hB (Or.inl rfl) ⟨_, rfl, (Or.inl rfl), h⟩ (z_k3 hK1) (z_k3 hK2) dL_law_386
          · by_cases c35_3 : ((xs x5.toNatClampNeg) &&& 31) = 3
            · replace h := h.2.2.2.1 c35_3
              refine lv_tableIn (off := 362) (tgt := 407) hx hb dL_law_45 (by rw [c35_3]; decide) (by rw [c35_3]; decide) (by rw [c35_3]; rfl) (by decide) ?_
              refine z_aload_n (x := x1) hx hb dL_law_407 rfl (lv_at hl 1 rfl) ?_
              refine lv_aload_n (x := o) hx hb dL_law_408 rfl (lv_at hl 0 rfl) ?_
              refine lv_iload hx hb dL_law_409 (lv_at hl 5 rfl) ?_
              refine lv_iconst (v := 1) hx hb dL_law_411 (by decide) ?_
              refine lv_iadd hx hb dL_law_412 ?_
              obtain ⟨h1, h⟩ := h
              refine z_sld hS X hB h1 dL_law_413 ?_
              refine z_aload_n (x := x3) hx hb dL_law_414 rfl (lv_at hl 3 rfl) ?_
              obtain ⟨kc80, ks81, g1, g2, h⟩ := h
              refine z_calli (z_runSW (rest := []) [va_rf x1, .int (xs (x5 + 1).toNatClampNeg), va_rf x3] pk_X0_supply (met_X0_supply x1 (xs (x5 + 1).toNatClampNeg) x3 kc80 ks81 _ h) X hB hB.2.2.2.2.2.2 q2528 rfl hl.1 (Nat.le_of_ble_eq_true rfl) dL_law_415 (z_k1 hK1 g1) (z_k1 hK2 g2) (by decide) (by decide)) hB (fun _ h => h) (fun r79 T82 I83 Q84 H locs h9 hF hB => ?_)
              replace h := h9
              clear h9
              replace h := h hF
              replace hK1 := z_k2 hK1 g1
              replace hK2 := z_k2 hK2 g2
              refine lv_istore (lv' := [(6, .int r79), (0, .ref o), (1, va_rf x1), (2, va_rf x2), (3, va_rf x3), (4, va_rf x4), (5, .int x5)]) hx hb dL_law_418 hl (by decide) rfl (fun ls hl9 => ?_)
              replace hl := hl9
              clear hl9
              refine z_aload_n (x := x2) hx hb dL_law_420 rfl (lv_at hl 3 rfl) ?_
              refine lv_aload_n (x := o) hx hb dL_law_421 rfl (lv_at hl 1 rfl) ?_
              refine lv_iload hx hb dL_law_422 (lv_at hl 6 rfl) ?_
              refine lv_iconst (v := 1) hx hb dL_law_424 (by decide) ?_
              refine lv_iadd hx hb dL_law_425 ?_
              obtain ⟨h1, h⟩ := h
              refine z_sld hS X hB h1 dL_law_426 ?_
              obtain ⟨a85, rfl, h⟩ := h
              obtain ⟨b86, m87, hL, hM, h⟩ := h
              refine z_lawi (z_runV (rest := []) [.int (xs (x5 + 1).toNatClampNeg)] pk_X5_supply (met_X5_supply hL hM (xs (x5 + 1).toNatClampNeg) _ h) X hB (by decide) q3483 kc_X5 (by decide) (by rw [hL.1]) rfl hl.1 (Nat.le_of_ble_eq_true rfl) dL_law_427 (z_k4 hK1) (z_k4 hK2) (by decide) (by decide)) hB z_1L (fun r88 I90 H locs h9 hF hB => ?_)
              replace h := h9
              clear h9
              replace h := h I90 rfl hF
              refine lv_istore (lv' := [(7, .int r88), (6, .int r79), (0, .ref o), (1, va_rf x1), (2, .ref a85), (3, va_rf x3), (4, va_rf x4), (5, .int x5)]) hx hb dL_law_430 hl (by decide) rfl (fun ls hl9 => ?_)
              replace hl := hl9
              clear hl9
              refine lv_aload_n (x := a85) hx hb dL_law_432 rfl (lv_at hl 4 rfl) ?_
              obtain ⟨b91, m92, hL, hM, h⟩ := h
              refine z_lawi (z_runV (rest := []) [] pk_X5_thrown (met_X5_thrown hL hM  _ h) X hB (by decide) q3400 kc_X5 (by decide) (by rw [hL.1]) rfl hl.1 (Nat.le_of_ble_eq_true rfl) dL_law_433 (z_k4 hK1) (z_k4 hK2) (by decide) (by decide)) hB z_1L (fun r93 I95 H locs h9 hF hB => ?_)
              replace h := h9
              clear h9
              obtain ⟨h, e9⟩ := h
              replace h := h I95 e9 hF
              refine lv_iload hx hb dL_law_436 (lv_at hl 1 rfl) ?_
              refine lv_icmp_eq (tgt := 443) hx hb dL_law_438 (by decide) (fun c96 => ?_) (fun c96 => ?_)
              · replace h := h.1 c96
                refine lv_iload hx hb dL_law_443 (lv_at hl 1 rfl) ?_
                refine lv_if_ne (tgt := 460) hx hb dL_law_445 (by decide) (fun c97 => ?_) (fun c97 => ?_)
                · replace h := h.1 c97
                  exact ww_L_law_460 X hS (fun hB hK1 hK2 hl h => ih hB hK1 hK2 hl h) hB hK1 hK2 (lv_sub hl [2, 3, 4, 5, 6, 7] rfl) h
                · replace h := h.2 c97
                  refine z_aload_n (x := x3) hx hb dL_law_448 rfl (lv_at hl 5 rfl) ?_
                  refine lv_iconst (v := 0) hx hb dL_law_449 (by decide) ?_
                  obtain ⟨a98, rfl, h⟩ := h
                  obtain ⟨hk_a98, h⟩ := h
                  obtain ⟨h1, h⟩ := h
                  refine z_lald X hB.1 hk_a98 h1 dL_law_450 ?_
                  refine lv_iload hx hb dL_law_451 (lv_at hl 0 rfl) ?_
                  refine lv_i2l hx hb dL_law_453 rfl ?_
                  refine z_lcmp hx hb dL_law_454 ?_
                  refine lv_if_eq (tgt := 460) hx hb dL_law_455 (by decide) (fun c99 => ?_) (fun c99 => ?_)
                  · replace h := h.1 c99
                    exact ww_L_law_460 X hS (fun hB hK1 hK2 hl h => ih hB hK1 hK2 hl h) hB hK1 hK2 (lv_sub hl [2, 3, 4, 5, 6, 7] rfl) h
                  · replace h := h.2 c99
                    refine lv_iconst (v := 0) hx hb dL_law_458 (by decide) ?_
                    exact z_zret X hB (Or.inl rfl) ⟨_, rfl, (Or.inl rfl), h⟩ (z_k3 hK1) (z_k3 hK2) dL_law_459
              · replace h := h.2 c96
                refine lv_iconst (v := 0) hx hb dL_law_441 (by decide) ?_
                exact z_zret X hB (Or.inl rfl) ⟨_, rfl, (Or.inl rfl), h⟩ (z_k3 hK1) (z_k3 hK2) dL_law_442
            · by_cases c35_4 : ((xs x5.toNatClampNeg) &&& 31) = 4
              · replace h := h.2.2.2.2.1 c35_4
                refine lv_tableIn (off := 418) (tgt := 463) hx hb dL_law_45 (by rw [c35_4]; decide) (by rw [c35_4]; decide) (by rw [c35_4]; rfl) (by decide) ?_
                refine z_aload_n (x := x1) hx hb dL_law_463 rfl (lv_at hl 1 rfl) ?_
                refine lv_aload_n (x := o) hx hb dL_law_464 rfl (lv_at hl 0 rfl) ?_
                refine lv_iload hx hb dL_law_465 (lv_at hl 5 rfl) ?_
                refine lv_iconst (v := 1) hx hb dL_law_467 (by decide) ?_
                refine lv_iadd hx hb dL_law_468 ?_
                obtain ⟨h1, h⟩ := h
                refine z_sld hS X hB h1 dL_law_469 ?_
                refine lv_aload_n (x := o) hx hb dL_law_470 rfl (lv_at hl 0 rfl) ?_
                refine lv_iload hx hb dL_law_471 (lv_at hl 5 rfl) ?_
                refine lv_iconst (v := 2) hx hb dL_law_473 (by decide) ?_
                refine lv_iadd hx hb dL_law_474 ?_
                obtain ⟨h1, h⟩ := h
                refine z_sld hS X hB h1 dL_law_475 ?_
                refine z_aload_n (x := x3) hx hb dL_law_476 rfl (lv_at hl 3 rfl) ?_
                obtain ⟨kc101, ks102, g1, g2, h⟩ := h
                refine z_calli (z_runSW (rest := []) [va_rf x1, .int (xs (x5 + 1).toNatClampNeg), .int (xs (x5 + 2).toNatClampNeg), va_rf x3] pk_X0_zone (met_X0_zone x1 (xs (x5 + 1).toNatClampNeg) (xs (x5 + 2).toNatClampNeg) x3 kc101 ks102 _ h) X hB hB.2.2.2.2.2.2 q2567 rfl hl.1 (Nat.le_of_ble_eq_true rfl) dL_law_477 (z_k1 hK1 g1) (z_k1 hK2 g2) (by decide) (by decide)) hB (fun _ h => h) (fun r100 T103 I104 Q105 H locs h9 hF hB => ?_)
                replace h := h9
                clear h9
                replace h := h hF
                replace hK1 := z_k2 hK1 g1
                replace hK2 := z_k2 hK2 g2
                refine lv_istore (lv' := [(6, .int r100), (0, .ref o), (1, va_rf x1), (2, va_rf x2), (3, va_rf x3), (4, va_rf x4), (5, .int x5)]) hx hb dL_law_480 hl (by decide) rfl (fun ls hl9 => ?_)
                replace hl := hl9
                clear hl9
                refine z_aload_n (x := x2) hx hb dL_law_482 rfl (lv_at hl 3 rfl) ?_
                refine lv_aload_n (x := o) hx hb dL_law_483 rfl (lv_at hl 1 rfl) ?_
                refine lv_iload hx hb dL_law_484 (lv_at hl 6 rfl) ?_
                refine lv_iconst (v := 1) hx hb dL_law_486 (by decide) ?_
                refine lv_iadd hx hb dL_law_487 ?_
                obtain ⟨h1, h⟩ := h
                refine z_sld hS X hB h1 dL_law_488 ?_
                refine lv_aload_n (x := o) hx hb dL_law_489 rfl (lv_at hl 1 rfl) ?_
                refine lv_iload hx hb dL_law_490 (lv_at hl 6 rfl) ?_
                refine lv_iconst (v := 2) hx hb dL_law_492 (by decide) ?_
                refine lv_iadd hx hb dL_law_493 ?_
                obtain ⟨h1, h⟩ := h
                refine z_sld hS X hB h1 dL_law_494 ?_
                obtain ⟨a106, rfl, h⟩ := h
                obtain ⟨b107, m108, hL, hM, h⟩ := h
                refine z_lawi (z_runV (rest := []) [.int (xs (x5 + 1).toNatClampNeg), .int (xs (x5 + 2).toNatClampNeg)] pk_X5_zone (met_X5_zone hL hM (xs (x5 + 1).toNatClampNeg) (xs (x5 + 2).toNatClampNeg) _ h) X hB (by decide) q3491 kc_X5 (by decide) (by rw [hL.1]) rfl hl.1 (Nat.le_of_ble_eq_true rfl) dL_law_495 (z_k4 hK1) (z_k4 hK2) (by decide) (by decide)) hB z_1L (fun r109 I111 H locs h9 hF hB => ?_)
                replace h := h9
                clear h9
                replace h := h I111 rfl hF
                refine lv_istore (lv' := [(7, .int r109), (6, .int r100), (0, .ref o), (1, va_rf x1), (2, .ref a106), (3, va_rf x3), (4, va_rf x4), (5, .int x5)]) hx hb dL_law_498 hl (by decide) rfl (fun ls hl9 => ?_)
                replace hl := hl9
                clear hl9
                refine lv_aload_n (x := a106) hx hb dL_law_500 rfl (lv_at hl 4 rfl) ?_
                obtain ⟨b112, m113, hL, hM, h⟩ := h
                refine z_lawi (z_runV (rest := []) [] pk_X5_thrown (met_X5_thrown hL hM  _ h) X hB (by decide) q3400 kc_X5 (by decide) (by rw [hL.1]) rfl hl.1 (Nat.le_of_ble_eq_true rfl) dL_law_501 (z_k4 hK1) (z_k4 hK2) (by decide) (by decide)) hB z_1L (fun r114 I116 H locs h9 hF hB => ?_)
                replace h := h9
                clear h9
                obtain ⟨h, e9⟩ := h
                replace h := h I116 e9 hF
                refine lv_iload hx hb dL_law_504 (lv_at hl 1 rfl) ?_
                refine lv_icmp_eq (tgt := 511) hx hb dL_law_506 (by decide) (fun c117 => ?_) (fun c117 => ?_)
                · replace h := h.1 c117
                  refine lv_iload hx hb dL_law_511 (lv_at hl 1 rfl) ?_
                  refine lv_if_ne (tgt := 528) hx hb dL_law_513 (by decide) (fun c118 => ?_) (fun c118 => ?_)
                  · replace h := h.1 c118
                    exact ww_L_law_528 X hS (fun hB hK1 hK2 hl h => ih hB hK1 hK2 hl h) hB hK1 hK2 (lv_sub hl [2, 3, 4, 5, 6, 7] rfl) h
                  · replace h := h.2 c118
                    refine z_aload_n (x := x3) hx hb dL_law_516 rfl (lv_at hl 5 rfl) ?_
                    refine lv_iconst (v := 0) hx hb dL_law_517 (by decide) ?_
                    obtain ⟨a119, rfl, h⟩ := h
                    obtain ⟨hk_a119, h⟩ := h
                    obtain ⟨h1, h⟩ := h
                    refine z_lald X hB.1 hk_a119 h1 dL_law_518 ?_
                    refine lv_iload hx hb dL_law_519 (lv_at hl 0 rfl) ?_
                    refine lv_i2l hx hb dL_law_521 rfl ?_
                    refine z_lcmp hx hb dL_law_522 ?_
                    refine lv_if_eq (tgt := 528) hx hb dL_law_523 (by decide) (fun c120 => ?_) (fun c120 => ?_)
                    · replace h := h.1 c120
                      exact ww_L_law_528 X hS (fun hB hK1 hK2 hl h => ih hB hK1 hK2 hl h) hB hK1 hK2 (lv_sub hl [2, 3, 4, 5, 6, 7] rfl) h
                    · replace h := h.2 c120
                      refine lv_iconst (v := 0) hx hb dL_law_526 (by decide) ?_
                      exact z_zret X hB (Or.inl rfl) ⟨_, rfl, (Or.inl rfl), h⟩ (z_k3 hK1) (z_k3 hK2) dL_law_527
                · replace h := h.2 c117
                  refine lv_iconst (v := 0) hx hb dL_law_509 (by decide) ?_
                  exact z_zret X hB (Or.inl rfl) ⟨_, rfl, (Or.inl rfl), h⟩ (z_k3 hK1) (z_k3 hK2) dL_law_510
              · by_cases c35_5 : ((xs x5.toNatClampNeg) &&& 31) = 5
                · replace h := h.2.2.2.2.2.1 c35_5
                  refine lv_tableIn (off := 486) (tgt := 531) hx hb dL_law_45 (by rw [c35_5]; decide) (by rw [c35_5]; decide) (by rw [c35_5]; rfl) (by decide) ?_
                  refine z_aload_n (x := x1) hx hb dL_law_531 rfl (lv_at hl 1 rfl) ?_
                  refine lv_aload_n (x := o) hx hb dL_law_532 rfl (lv_at hl 0 rfl) ?_
                  refine lv_iload hx hb dL_law_533 (lv_at hl 5 rfl) ?_
                  refine lv_iconst (v := 1) hx hb dL_law_535 (by decide) ?_
                  refine lv_iadd hx hb dL_law_536 ?_
                  obtain ⟨h1, h⟩ := h
                  refine z_sld hS X hB h1 dL_law_537 ?_
                  refine lv_aload_n (x := o) hx hb dL_law_538 rfl (lv_at hl 0 rfl) ?_
                  refine lv_iload hx hb dL_law_539 (lv_at hl 5 rfl) ?_
                  refine lv_iconst (v := 2) hx hb dL_law_541 (by decide) ?_
                  refine lv_iadd hx hb dL_law_542 ?_
                  obtain ⟨h1, h⟩ := h
                  refine z_sld hS X hB h1 dL_law_543 ?_
                  refine z_aload_n (x := x3) hx hb dL_law_544 rfl (lv_at hl 3 rfl) ?_
                  obtain ⟨kc122, ks123, g1, g2, h⟩ := h
                  refine z_calli (z_runSW (rest := []) [va_rf x1, .int (xs (x5 + 1).toNatClampNeg), .int (xs (x5 + 2).toNatClampNeg), va_rf x3] pk_X0_buffer (met_X0_buffer x1 (xs (x5 + 1).toNatClampNeg) (xs (x5 + 2).toNatClampNeg) x3 kc122 ks123 _ h) X hB hB.2.2.2.2.2.2 q2575 rfl hl.1 (Nat.le_of_ble_eq_true rfl) dL_law_545 (z_k1 hK1 g1) (z_k1 hK2 g2) (by decide) (by decide)) hB (fun _ h => h) (fun r121 T124 I125 Q126 H locs h9 hF hB => ?_)
                  replace h := h9
                  clear h9
                  replace h := h hF
                  replace hK1 := z_k2 hK1 g1
                  replace hK2 := z_k2 hK2 g2
                  refine lv_istore (lv' := [(6, .int r121), (0, .ref o), (1, va_rf x1), (2, va_rf x2), (3, va_rf x3), (4, va_rf x4), (5, .int x5)]) hx hb dL_law_548 hl (by decide) rfl (fun ls hl9 => ?_)
                  replace hl := hl9
                  clear hl9
                  refine z_aload_n (x := x2) hx hb dL_law_550 rfl (lv_at hl 3 rfl) ?_
                  refine lv_aload_n (x := o) hx hb dL_law_551 rfl (lv_at hl 1 rfl) ?_
                  refine lv_iload hx hb dL_law_552 (lv_at hl 6 rfl) ?_
                  refine lv_iconst (v := 1) hx hb dL_law_554 (by decide) ?_
                  refine lv_iadd hx hb dL_law_555 ?_
                  obtain ⟨h1, h⟩ := h
                  refine z_sld hS X hB h1 dL_law_556 ?_
                  refine lv_aload_n (x := o) hx hb dL_law_557 rfl (lv_at hl 1 rfl) ?_
                  refine lv_iload hx hb dL_law_558 (lv_at hl 6 rfl) ?_
                  refine lv_iconst (v := 2) hx hb dL_law_560 (by decide) ?_
                  refine lv_iadd hx hb dL_law_561 ?_
                  obtain ⟨h1, h⟩ := h
                  refine z_sld hS X hB h1 dL_law_562 ?_
                  obtain ⟨a127, rfl, h⟩ := h
                  obtain ⟨b128, m129, hL, hM, h⟩ := h
                  refine z_lawi (z_runV (rest := []) [.int (xs (x5 + 1).toNatClampNeg), .int (xs (x5 + 2).toNatClampNeg)] pk_X5_buffer (met_X5_buffer hL hM (xs (x5 + 1).toNatClampNeg) (xs (x5 + 2).toNatClampNeg) _ h) X hB (by decide) q3499 kc_X5 (by decide) (by rw [hL.1]) rfl hl.1 (Nat.le_of_ble_eq_true rfl) dL_law_563 (z_k4 hK1) (z_k4 hK2) (by decide) (by decide)) hB z_1L (fun r130 I132 H locs h9 hF hB => ?_)
                  replace h := h9
                  clear h9
                  replace h := h I132 rfl hF
                  refine lv_istore (lv' := [(7, .int r130), (6, .int r121), (0, .ref o), (1, va_rf x1), (2, .ref a127), (3, va_rf x3), (4, va_rf x4), (5, .int x5)]) hx hb dL_law_566 hl (by decide) rfl (fun ls hl9 => ?_)
                  replace hl := hl9
                  clear hl9
                  refine lv_aload_n (x := a127) hx hb dL_law_568 rfl (lv_at hl 4 rfl) ?_
                  obtain ⟨b133, m134, hL, hM, h⟩ := h
                  refine z_lawi (z_runV (rest := []) [] pk_X5_thrown (met_X5_thrown hL hM  _ h) X hB (by decide) q3400 kc_X5 (by decide) (by rw [hL.1]) rfl hl.1 (Nat.le_of_ble_eq_true rfl) dL_law_569 (z_k4 hK1) (z_k4 hK2) (by decide) (by decide)) hB z_1L (fun r135 I137 H locs h9 hF hB => ?_)
                  replace h := h9
                  clear h9
                  obtain ⟨h, e9⟩ := h
                  replace h := h I137 e9 hF
                  refine lv_iload hx hb dL_law_572 (lv_at hl 1 rfl) ?_
                  refine lv_icmp_eq (tgt := 579) hx hb dL_law_574 (by decide) (fun c138 => ?_) (fun c138 => ?_)
                  · replace h := h.1 c138
                    refine lv_iload hx hb dL_law_579 (lv_at hl 1 rfl) ?_
                    refine lv_if_ne (tgt := 596) hx hb dL_law_581 (by decide) (fun c139 => ?_) (fun c139 => ?_)
                    · replace h := h.1 c139
                      exact ww_L_law_596 X hS (fun hB hK1 hK2 hl h => ih hB hK1 hK2 hl h) hB hK1 hK2 (lv_sub hl [2, 3, 4, 5, 6, 7] rfl) h
                    · replace h := h.2 c139
                      refine z_aload_n (x := x3) hx hb dL_law_584 rfl (lv_at hl 5 rfl) ?_
                      refine lv_iconst (v := 0) hx hb dL_law_585 (by decide) ?_
                      obtain ⟨a140, rfl, h⟩ := h
                      obtain ⟨hk_a140, h⟩ := h
                      obtain ⟨h1, h⟩ := h
                      refine z_lald X hB.1 hk_a140 h1 dL_law_586 ?_
                      refine lv_iload hx hb dL_law_587 (lv_at hl 0 rfl) ?_
                      refine lv_i2l hx hb dL_law_589 rfl ?_
                      refine z_lcmp hx hb dL_law_590 ?_
                      refine lv_if_eq (tgt := 596) hx hb dL_law_591 (by decide) (fun c141 => ?_) (fun c141 => ?_)
                      · replace h := h.1 c141
                        exact ww_L_law_596 X hS (fun hB hK1 hK2 hl h => ih hB hK1 hK2 hl h) hB hK1 hK2 (lv_sub hl [2, 3, 4, 5, 6, 7] rfl) h
                      · replace h := h.2 c141
                        refine lv_iconst (v := 0) hx hb dL_law_594 (by decide) ?_
                        exact z_zret X hB (Or.inl rfl) ⟨_, rfl, (Or.inl rfl), h⟩ (z_k3 hK1) (z_k3 hK2) dL_law_595
                  · replace h := h.2 c138
                    refine lv_iconst (v := 0) hx hb dL_law_577 (by decide) ?_
                    exact z_zret X hB (Or.inl rfl) ⟨_, rfl, (Or.inl rfl), h⟩ (z_k3 hK1) (z_k3 hK2) dL_law_578
                · by_cases c35_6 : ((xs x5.toNatClampNeg) &&& 31) = 6
                  · replace h := h.2.2.2.2.2.2.1 c35_6
                    refine lv_tableIn (off := 554) (tgt := 599) hx hb dL_law_45 (by rw [c35_6]; decide) (by rw [c35_6]; decide) (by rw [c35_6]; rfl) (by decide) ?_
                    refine z_aload_n (x := x1) hx hb dL_law_599 rfl (lv_at hl 1 rfl) ?_
                    refine lv_aload_n (x := o) hx hb dL_law_600 rfl (lv_at hl 0 rfl) ?_
                    refine lv_iload hx hb dL_law_601 (lv_at hl 5 rfl) ?_
                    refine lv_iconst (v := 1) hx hb dL_law_603 (by decide) ?_
                    refine lv_iadd hx hb dL_law_604 ?_
                    obtain ⟨h1, h⟩ := h
                    refine z_sld hS X hB h1 dL_law_605 ?_
                    refine lv_aload_n (x := o) hx hb dL_law_606 rfl (lv_at hl 0 rfl) ?_
                    refine lv_iload hx hb dL_law_607 (lv_at hl 5 rfl) ?_
                    refine lv_iconst (v := 2) hx hb dL_law_609 (by decide) ?_
                    refine lv_iadd hx hb dL_law_610 ?_
                    obtain ⟨h1, h⟩ := h
                    refine z_sld hS X hB h1 dL_law_611 ?_
                    refine z_aload_n (x := x3) hx hb dL_law_612 rfl (lv_at hl 3 rfl) ?_
                    obtain ⟨kc143, ks144, g1, g2, h⟩ := h
                    refine z_calli (z_runSW (rest := []) [va_rf x1, .int (xs (x5 + 1).toNatClampNeg), .int (xs (x5 + 2).toNatClampNeg), va_rf x3] pk_X0_part (met_X0_part x1 (xs (x5 + 1).toNatClampNeg) (xs (x5 + 2).toNatClampNeg) x3 kc143 ks144 _ h) X hB hB.2.2.2.2.2.2 q2586 rfl hl.1 (Nat.le_of_ble_eq_true rfl) dL_law_613 (z_k1 hK1 g1) (z_k1 hK2 g2) (by decide) (by decide)) hB (fun _ h => h) (fun r142 T145 I146 Q147 H locs h9 hF hB => ?_)
                    replace h := h9
                    clear h9
                    replace h := h hF
                    replace hK1 := z_k2 hK1 g1
                    replace hK2 := z_k2 hK2 g2
                    refine lv_istore (lv' := [(6, .int r142), (0, .ref o), (1, va_rf x1), (2, va_rf x2), (3, va_rf x3), (4, va_rf x4), (5, .int x5)]) hx hb dL_law_616 hl (by decide) rfl (fun ls hl9 => ?_)
                    replace hl := hl9
                    clear hl9
                    refine z_aload_n (x := x2) hx hb dL_law_618 rfl (lv_at hl 3 rfl) ?_
                    refine lv_aload_n (x := o) hx hb dL_law_619 rfl (lv_at hl 1 rfl) ?_
                    refine lv_iload hx hb dL_law_620 (lv_at hl 6 rfl) ?_
                    refine lv_iconst (v := 1) hx hb dL_law_622 (by decide) ?_
                    refine lv_iadd hx hb dL_law_623 ?_
                    obtain ⟨h1, h⟩ := h
                    refine z_sld hS X hB h1 dL_law_624 ?_
                    refine lv_aload_n (x := o) hx hb dL_law_625 rfl (lv_at hl 1 rfl) ?_
                    refine lv_iload hx hb dL_law_626 (lv_at hl 6 rfl) ?_
                    refine lv_iconst (v := 2) hx hb dL_law_628 (by decide) ?_
                    refine lv_iadd hx hb dL_law_629 ?_
                    obtain ⟨h1, h⟩ := h
                    refine z_sld hS X hB h1 dL_law_630 ?_
                    obtain ⟨a148, rfl, h⟩ := h
                    obtain ⟨b149, m150, hL, hM, h⟩ := h
                    refine z_lawi (z_runV (rest := []) [.int (xs (x5 + 1).toNatClampNeg), .int (xs (x5 + 2).toNatClampNeg)] pk_X5_part (met_X5_part hL hM (xs (x5 + 1).toNatClampNeg) (xs (x5 + 2).toNatClampNeg) _ h) X hB (by decide) q3503 kc_X5 (by decide) (by rw [hL.1]) rfl hl.1 (Nat.le_of_ble_eq_true rfl) dL_law_631 (z_k4 hK1) (z_k4 hK2) (by decide) (by decide)) hB z_1L (fun r151 I153 H locs h9 hF hB => ?_)
                    replace h := h9
                    clear h9
                    replace h := h I153 rfl hF
                    refine lv_istore (lv' := [(7, .int r151), (6, .int r142), (0, .ref o), (1, va_rf x1), (2, .ref a148), (3, va_rf x3), (4, va_rf x4), (5, .int x5)]) hx hb dL_law_634 hl (by decide) rfl (fun ls hl9 => ?_)
                    replace hl := hl9
                    clear hl9
                    refine lv_aload_n (x := a148) hx hb dL_law_636 rfl (lv_at hl 4 rfl) ?_
                    obtain ⟨b154, m155, hL, hM, h⟩ := h
                    refine z_lawi (z_runV (rest := []) [] pk_X5_thrown (met_X5_thrown hL hM  _ h) X hB (by decide) q3400 kc_X5 (by decide) (by rw [hL.1]) rfl hl.1 (Nat.le_of_ble_eq_true rfl) dL_law_637 (z_k4 hK1) (z_k4 hK2) (by decide) (by decide)) hB z_1L (fun r156 I158 H locs h9 hF hB => ?_)
                    replace h := h9
                    clear h9
                    obtain ⟨h, e9⟩ := h
                    replace h := h I158 e9 hF
                    refine lv_iload hx hb dL_law_640 (lv_at hl 1 rfl) ?_
                    refine lv_icmp_eq (tgt := 647) hx hb dL_law_642 (by decide) (fun c159 => ?_) (fun c159 => ?_)
                    · replace h := h.1 c159
                      refine lv_iload hx hb dL_law_647 (lv_at hl 1 rfl) ?_
                      refine lv_if_ne (tgt := 664) hx hb dL_law_649 (by decide) (fun c160 => ?_) (fun c160 => ?_)
                      · replace h := h.1 c160
                        exact ww_L_law_664 X hS (fun hB hK1 hK2 hl h => ih hB hK1 hK2 hl h) hB hK1 hK2 (lv_sub hl [2, 3, 4, 5, 6, 7] rfl) h
                      · replace h := h.2 c160
                        refine z_aload_n (x := x3) hx hb dL_law_652 rfl (lv_at hl 5 rfl) ?_
                        refine lv_iconst (v := 0) hx hb dL_law_653 (by decide) ?_
                        obtain ⟨a161, rfl, h⟩ := h
                        obtain ⟨hk_a161, h⟩ := h
                        obtain ⟨h1, h⟩ := h
                        refine z_lald X hB.1 hk_a161 h1 dL_law_654 ?_
                        refine lv_iload hx hb dL_law_655 (lv_at hl 0 rfl) ?_
                        refine lv_i2l hx hb dL_law_657 rfl ?_
                        refine z_lcmp hx hb dL_law_658 ?_
                        refine lv_if_eq (tgt := 664) hx hb dL_law_659 (by decide) (fun c162 => ?_) (fun c162 => ?_)
                        · replace h := h.1 c162
                          exact ww_L_law_664 X hS (fun hB hK1 hK2 hl h => ih hB hK1 hK2 hl h) hB hK1 hK2 (lv_sub hl [2, 3, 4, 5, 6, 7] rfl) h
                        · replace h := h.2 c162
                          refine lv_iconst (v := 0) hx hb dL_law_662 (by decide) ?_
                          exact z_zret X hB (Or.inl rfl) ⟨_, rfl, (Or.inl rfl), h⟩ (z_k3 hK1) (z_k3 hK2) dL_law_663
                    · replace h := h.2 c159
                      refine lv_iconst (v := 0) hx hb dL_law_645 (by decide) ?_
                      exact z_zret X hB (Or.inl rfl) ⟨_, rfl, (Or.inl rfl), h⟩ (z_k3 hK1) (z_k3 hK2) dL_law_646
                  · by_cases c35_7 : ((xs x5.toNatClampNeg) &&& 31) = 7
                    · replace h := h.2.2.2.2.2.2.2.1 c35_7
                      refine lv_tableIn (off := 622) (tgt := 667) hx hb dL_law_45 (by rw [c35_7]; decide) (by rw [c35_7]; decide) (by rw [c35_7]; rfl) (by decide) ?_
                      refine z_aload_n (x := x1) hx hb dL_law_667 rfl (lv_at hl 1 rfl) ?_
                      refine lv_aload_n (x := o) hx hb dL_law_668 rfl (lv_at hl 0 rfl) ?_
                      refine lv_iload hx hb dL_law_669 (lv_at hl 5 rfl) ?_
                      refine lv_iconst (v := 1) hx hb dL_law_671 (by decide) ?_
                      refine lv_iadd hx hb dL_law_672 ?_
                      obtain ⟨h1, h⟩ := h
                      refine z_sld hS X hB h1 dL_law_673 ?_
                      refine lv_aload_n (x := o) hx hb dL_law_674 rfl (lv_at hl 0 rfl) ?_
                      refine lv_iload hx hb dL_law_675 (lv_at hl 5 rfl) ?_
                      refine lv_iconst (v := 2) hx hb dL_law_677 (by decide) ?_
                      refine lv_iadd hx hb dL_law_678 ?_
                      obtain ⟨h1, h⟩ := h
                      refine z_sld hS X hB h1 dL_law_679 ?_
                      refine lv_aload_n (x := o) hx hb dL_law_680 rfl (lv_at hl 0 rfl) ?_
                      refine lv_iload hx hb dL_law_681 (lv_at hl 5 rfl) ?_
                      refine lv_iconst (v := 3) hx hb dL_law_683 (by decide) ?_
                      refine lv_iadd hx hb dL_law_684 ?_
                      obtain ⟨h1, h⟩ := h
                      refine z_sld hS X hB h1 dL_law_685 ?_
                      refine lv_aload_n (x := o) hx hb dL_law_686 rfl (lv_at hl 0 rfl) ?_
                      refine lv_iload hx hb dL_law_687 (lv_at hl 5 rfl) ?_
                      refine lv_iconst (v := 4) hx hb dL_law_689 (by decide) ?_
                      refine lv_iadd hx hb dL_law_690 ?_
                      obtain ⟨h1, h⟩ := h
                      refine z_sld hS X hB h1 dL_law_691 ?_
                      refine lv_aload_n (x := o) hx hb dL_law_692 rfl (lv_at hl 0 rfl) ?_
                      refine lv_iload hx hb dL_law_693 (lv_at hl 5 rfl) ?_
                      refine lv_iconst (v := 5) hx hb dL_law_695 (by decide) ?_
                      refine lv_iadd hx hb dL_law_696 ?_
                      obtain ⟨h1, h⟩ := h
                      refine z_sld hS X hB h1 dL_law_697 ?_
                      refine lv_aload_n (x := o) hx hb dL_law_698 rfl (lv_at hl 0 rfl) ?_
                      refine lv_iload hx hb dL_law_699 (lv_at hl 5 rfl) ?_
                      refine lv_bipush (v := 6) hx hb dL_law_701 (by decide) ?_
                      refine lv_iadd hx hb dL_law_703 ?_
                      obtain ⟨h1, h⟩ := h
                      refine z_sld hS X hB h1 dL_law_704 ?_
                      refine z_aload_n (x := x3) hx hb dL_law_705 rfl (lv_at hl 3 rfl) ?_
                      obtain ⟨kc164, ks165, g1, g2, h⟩ := h
                      refine z_calli (z_runSW (rest := []) [va_rf x1, .int (xs (x5 + 1).toNatClampNeg), .int (xs (x5 + 2).toNatClampNeg), .int (xs (x5 + 3).toNatClampNeg), .int (xs (x5 + 4).toNatClampNeg), .int (xs (x5 + 5).toNatClampNeg), .int (xs (x5 + 6).toNatClampNeg), va_rf x3] pk_X0_give (met_X0_give x1 (xs (x5 + 1).toNatClampNeg) (xs (x5 + 2).toNatClampNeg) (xs (x5 + 3).toNatClampNeg) (xs (x5 + 4).toNatClampNeg) (xs (x5 + 5).toNatClampNeg) (xs (x5 + 6).toNatClampNeg) x3 kc164 ks165 _ h) X hB hB.2.2.2.2.2.2 q2626 rfl hl.1 (Nat.le_of_ble_eq_true rfl) dL_law_706 (z_k1 hK1 g1) (z_k1 hK2 g2) (by decide) (by decide)) hB (fun _ h => h) (fun r163 T166 I167 Q168 H locs h9 hF hB => ?_)
                      replace h := h9
                      clear h9
                      replace h := h hF
                      replace hK1 := z_k2 hK1 g1
                      replace hK2 := z_k2 hK2 g2
                      refine lv_istore (lv' := [(6, .int r163), (0, .ref o), (1, va_rf x1), (2, va_rf x2), (3, va_rf x3), (4, va_rf x4), (5, .int x5)]) hx hb dL_law_709 hl (by decide) rfl (fun ls hl9 => ?_)
                      replace hl := hl9
                      clear hl9
                      refine z_aload_n (x := x2) hx hb dL_law_711 rfl (lv_at hl 3 rfl) ?_
                      refine lv_aload_n (x := o) hx hb dL_law_712 rfl (lv_at hl 1 rfl) ?_
                      refine lv_iload hx hb dL_law_713 (lv_at hl 6 rfl) ?_
                      refine lv_iconst (v := 1) hx hb dL_law_715 (by decide) ?_
                      refine lv_iadd hx hb dL_law_716 ?_
                      obtain ⟨h1, h⟩ := h
                      refine z_sld hS X hB h1 dL_law_717 ?_
                      refine lv_aload_n (x := o) hx hb dL_law_718 rfl (lv_at hl 1 rfl) ?_
                      refine lv_iload hx hb dL_law_719 (lv_at hl 6 rfl) ?_
                      refine lv_iconst (v := 2) hx hb dL_law_721 (by decide) ?_
                      refine lv_iadd hx hb dL_law_722 ?_
                      obtain ⟨h1, h⟩ := h
                      refine z_sld hS X hB h1 dL_law_723 ?_
                      refine lv_aload_n (x := o) hx hb dL_law_724 rfl (lv_at hl 1 rfl) ?_
                      refine lv_iload hx hb dL_law_725 (lv_at hl 6 rfl) ?_
                      refine lv_iconst (v := 3) hx hb dL_law_727 (by decide) ?_
                      refine lv_iadd hx hb dL_law_728 ?_
                      obtain ⟨h1, h⟩ := h
                      refine z_sld hS X hB h1 dL_law_729 ?_
                      refine lv_aload_n (x := o) hx hb dL_law_730 rfl (lv_at hl 1 rfl) ?_
                      refine lv_iload hx hb dL_law_731 (lv_at hl 6 rfl) ?_
                      refine lv_iconst (v := 4) hx hb dL_law_733 (by decide) ?_
                      refine lv_iadd hx hb dL_law_734 ?_
                      obtain ⟨h1, h⟩ := h
                      refine z_sld hS X hB h1 dL_law_735 ?_
                      refine lv_aload_n (x := o) hx hb dL_law_736 rfl (lv_at hl 1 rfl) ?_
                      refine lv_iload hx hb dL_law_737 (lv_at hl 6 rfl) ?_
                      refine lv_iconst (v := 5) hx hb dL_law_739 (by decide) ?_
                      refine lv_iadd hx hb dL_law_740 ?_
                      obtain ⟨h1, h⟩ := h
                      refine z_sld hS X hB h1 dL_law_741 ?_
                      refine lv_aload_n (x := o) hx hb dL_law_742 rfl (lv_at hl 1 rfl) ?_
                      refine lv_iload hx hb dL_law_743 (lv_at hl 6 rfl) ?_
                      refine lv_bipush (v := 6) hx hb dL_law_745 (by decide) ?_
                      refine lv_iadd hx hb dL_law_747 ?_
                      obtain ⟨h1, h⟩ := h
                      refine z_sld hS X hB h1 dL_law_748 ?_
                      obtain ⟨a169, rfl, h⟩ := h
                      obtain ⟨b170, m171, hL, hM, h⟩ := h
                      refine z_lawi (z_runV (rest := []) [.int (xs (x5 + 1).toNatClampNeg), .int (xs (x5 + 2).toNatClampNeg), .int (xs (x5 + 3).toNatClampNeg), .int (xs (x5 + 4).toNatClampNeg), .int (xs (x5 + 5).toNatClampNeg), .int (xs (x5 + 6).toNatClampNeg)] pk_X5_give (met_X5_give hL hM (xs (x5 + 1).toNatClampNeg) (xs (x5 + 2).toNatClampNeg) (xs (x5 + 3).toNatClampNeg) (xs (x5 + 4).toNatClampNeg) (xs (x5 + 5).toNatClampNeg) (xs (x5 + 6).toNatClampNeg) _ h) X hB (by decide) q3507 kc_X5 (by decide) (by rw [hL.1]) rfl hl.1 (Nat.le_of_ble_eq_true rfl) dL_law_749 (z_k4 hK1) (z_k4 hK2) (by decide) (by decide)) hB z_1L (fun r172 I174 H locs h9 hF hB => ?_)
                      replace h := h9
                      clear h9
                      replace h := h I174 rfl hF
                      refine lv_istore (lv' := [(7, .int r172), (6, .int r163), (0, .ref o), (1, va_rf x1), (2, .ref a169), (3, va_rf x3), (4, va_rf x4), (5, .int x5)]) hx hb dL_law_752 hl (by decide) rfl (fun ls hl9 => ?_)
                      replace hl := hl9
                      clear hl9
                      refine lv_aload_n (x := a169) hx hb dL_law_754 rfl (lv_at hl 4 rfl) ?_
                      obtain ⟨b175, m176, hL, hM, h⟩ := h
                      refine z_lawi (z_runV (rest := []) [] pk_X5_thrown (met_X5_thrown hL hM  _ h) X hB (by decide) q3400 kc_X5 (by decide) (by rw [hL.1]) rfl hl.1 (Nat.le_of_ble_eq_true rfl) dL_law_755 (z_k4 hK1) (z_k4 hK2) (by decide) (by decide)) hB z_1L (fun r177 I179 H locs h9 hF hB => ?_)
                      replace h := h9
                      clear h9
                      obtain ⟨h, e9⟩ := h
                      replace h := h I179 e9 hF
                      refine lv_iload hx hb dL_law_758 (lv_at hl 1 rfl) ?_
                      refine lv_icmp_eq (tgt := 765) hx hb dL_law_760 (by decide) (fun c180 => ?_) (fun c180 => ?_)
                      · replace h := h.1 c180
                        refine lv_iload hx hb dL_law_765 (lv_at hl 1 rfl) ?_
                        refine lv_if_ne (tgt := 782) hx hb dL_law_767 (by decide) (fun c181 => ?_) (fun c181 => ?_)
                        · replace h := h.1 c181
                          exact ww_L_law_782 X hS (fun hB hK1 hK2 hl h => ih hB hK1 hK2 hl h) hB hK1 hK2 (lv_sub hl [2, 3, 4, 5, 6, 7] rfl) h
                        · replace h := h.2 c181
                          refine z_aload_n (x := x3) hx hb dL_law_770 rfl (lv_at hl 5 rfl) ?_
                          refine lv_iconst (v := 0) hx hb dL_law_771 (by decide) ?_
                          obtain ⟨a182, rfl, h⟩ := h
                          obtain ⟨hk_a182, h⟩ := h
                          obtain ⟨h1, h⟩ := h
                          refine z_lald X hB.1 hk_a182 h1 dL_law_772 ?_
                          refine lv_iload hx hb dL_law_773 (lv_at hl 0 rfl) ?_
                          refine lv_i2l hx hb dL_law_775 rfl ?_
                          refine z_lcmp hx hb dL_law_776 ?_
                          refine lv_if_eq (tgt := 782) hx hb dL_law_777 (by decide) (fun c183 => ?_) (fun c183 => ?_)
                          · replace h := h.1 c183
                            exact ww_L_law_782 X hS (fun hB hK1 hK2 hl h => ih hB hK1 hK2 hl h) hB hK1 hK2 (lv_sub hl [2, 3, 4, 5, 6, 7] rfl) h
                          · replace h := h.2 c183
                            refine lv_iconst (v := 0) hx hb dL_law_780 (by decide) ?_
                            exact z_zret X hB (Or.inl rfl) ⟨_, rfl, (Or.inl rfl), h⟩ (z_k3 hK1) (z_k3 hK2) dL_law_781
                      · replace h := h.2 c180
                        refine lv_iconst (v := 0) hx hb dL_law_763 (by decide) ?_
                        exact z_zret X hB (Or.inl rfl) ⟨_, rfl, (Or.inl rfl), h⟩ (z_k3 hK1) (z_k3 hK2) dL_law_764
                    · by_cases c35_8 : ((xs x5.toNatClampNeg) &&& 31) = 8
                      · replace h := h.2.2.2.2.2.2.2.2.1 c35_8
                        refine lv_tableIn (off := 740) (tgt := 785) hx hb dL_law_45 (by rw [c35_8]; decide) (by rw [c35_8]; decide) (by rw [c35_8]; rfl) (by decide) ?_
                        refine z_aload_n (x := x1) hx hb dL_law_785 rfl (lv_at hl 1 rfl) ?_
                        refine lv_aload_n (x := o) hx hb dL_law_786 rfl (lv_at hl 0 rfl) ?_
                        refine lv_iload hx hb dL_law_787 (lv_at hl 5 rfl) ?_
                        refine lv_iconst (v := 1) hx hb dL_law_789 (by decide) ?_
                        refine lv_iadd hx hb dL_law_790 ?_
                        obtain ⟨h1, h⟩ := h
                        refine z_sld hS X hB h1 dL_law_791 ?_
                        refine z_aload_n (x := x3) hx hb dL_law_792 rfl (lv_at hl 3 rfl) ?_
                        obtain ⟨kc185, ks186, g1, g2, h⟩ := h
                        refine z_calli (z_runSW (rest := []) [va_rf x1, .int (xs (x5 + 1).toNatClampNeg), va_rf x3] pk_X0_withdraw (met_X0_withdraw x1 (xs (x5 + 1).toNatClampNeg) x3 kc185 ks186 _ h) X hB hB.2.2.2.2.2.2 q2711 rfl hl.1 (Nat.le_of_ble_eq_true rfl) dL_law_793 (z_k1 hK1 g1) (z_k1 hK2 g2) (by decide) (by decide)) hB (fun _ h => h) (fun r184 T187 I188 Q189 H locs h9 hF hB => ?_)
                        replace h := h9
                        clear h9
                        replace h := h hF
                        replace hK1 := z_k2 hK1 g1
                        replace hK2 := z_k2 hK2 g2
                        refine lv_istore (lv' := [(6, .int r184), (0, .ref o), (1, va_rf x1), (2, va_rf x2), (3, va_rf x3), (4, va_rf x4), (5, .int x5)]) hx hb dL_law_796 hl (by decide) rfl (fun ls hl9 => ?_)
                        replace hl := hl9
                        clear hl9
                        refine z_aload_n (x := x2) hx hb dL_law_798 rfl (lv_at hl 3 rfl) ?_
                        refine lv_aload_n (x := o) hx hb dL_law_799 rfl (lv_at hl 1 rfl) ?_
                        refine lv_iload hx hb dL_law_800 (lv_at hl 6 rfl) ?_
                        refine lv_iconst (v := 1) hx hb dL_law_802 (by decide) ?_
                        refine lv_iadd hx hb dL_law_803 ?_
                        obtain ⟨h1, h⟩ := h
                        refine z_sld hS X hB h1 dL_law_804 ?_
                        obtain ⟨a190, rfl, h⟩ := h
                        obtain ⟨b191, m192, hL, hM, h⟩ := h
                        refine z_lawi (z_runV (rest := []) [.int (xs (x5 + 1).toNatClampNeg)] pk_X5_withdraw (met_X5_withdraw hL hM (xs (x5 + 1).toNatClampNeg) _ h) X hB (by decide) q3525 kc_X5 (by decide) (by rw [hL.1]) rfl hl.1 (Nat.le_of_ble_eq_true rfl) dL_law_805 (z_k4 hK1) (z_k4 hK2) (by decide) (by decide)) hB z_1L (fun r193 I195 H locs h9 hF hB => ?_)
                        replace h := h9
                        clear h9
                        replace h := h I195 rfl hF
                        refine lv_istore (lv' := [(7, .int r193), (6, .int r184), (0, .ref o), (1, va_rf x1), (2, .ref a190), (3, va_rf x3), (4, va_rf x4), (5, .int x5)]) hx hb dL_law_808 hl (by decide) rfl (fun ls hl9 => ?_)
                        replace hl := hl9
                        clear hl9
                        refine lv_aload_n (x := a190) hx hb dL_law_810 rfl (lv_at hl 4 rfl) ?_
                        obtain ⟨b196, m197, hL, hM, h⟩ := h
                        refine z_lawi (z_runV (rest := []) [] pk_X5_thrown (met_X5_thrown hL hM  _ h) X hB (by decide) q3400 kc_X5 (by decide) (by rw [hL.1]) rfl hl.1 (Nat.le_of_ble_eq_true rfl) dL_law_811 (z_k4 hK1) (z_k4 hK2) (by decide) (by decide)) hB z_1L (fun r198 I200 H locs h9 hF hB => ?_)
                        replace h := h9
                        clear h9
                        obtain ⟨h, e9⟩ := h
                        replace h := h I200 e9 hF
                        refine lv_iload hx hb dL_law_814 (lv_at hl 1 rfl) ?_
                        refine lv_icmp_eq (tgt := 821) hx hb dL_law_816 (by decide) (fun c201 => ?_) (fun c201 => ?_)
                        · replace h := h.1 c201
                          refine lv_iload hx hb dL_law_821 (lv_at hl 1 rfl) ?_
                          refine lv_if_ne (tgt := 838) hx hb dL_law_823 (by decide) (fun c202 => ?_) (fun c202 => ?_)
                          · replace h := h.1 c202
                            exact ww_L_law_838 X hS (fun hB hK1 hK2 hl h => ih hB hK1 hK2 hl h) hB hK1 hK2 (lv_sub hl [2, 3, 4, 5, 6, 7] rfl) h
                          · replace h := h.2 c202
                            refine z_aload_n (x := x3) hx hb dL_law_826 rfl (lv_at hl 5 rfl) ?_
                            refine lv_iconst (v := 0) hx hb dL_law_827 (by decide) ?_
                            obtain ⟨a203, rfl, h⟩ := h
                            obtain ⟨hk_a203, h⟩ := h
                            obtain ⟨h1, h⟩ := h
                            refine z_lald X hB.1 hk_a203 h1 dL_law_828 ?_
                            refine lv_iload hx hb dL_law_829 (lv_at hl 0 rfl) ?_
                            refine lv_i2l hx hb dL_law_831 rfl ?_
                            refine z_lcmp hx hb dL_law_832 ?_
                            refine lv_if_eq (tgt := 838) hx hb dL_law_833 (by decide) (fun c204 => ?_) (fun c204 => ?_)
                            · replace h := h.1 c204
                              exact ww_L_law_838 X hS (fun hB hK1 hK2 hl h => ih hB hK1 hK2 hl h) hB hK1 hK2 (lv_sub hl [2, 3, 4, 5, 6, 7] rfl) h
                            · replace h := h.2 c204
                              refine lv_iconst (v := 0) hx hb dL_law_836 (by decide) ?_
                              exact z_zret X hB (Or.inl rfl) ⟨_, rfl, (Or.inl rfl), h⟩ (z_k3 hK1) (z_k3 hK2) dL_law_837
                        · replace h := h.2 c201
                          refine lv_iconst (v := 0) hx hb dL_law_819 (by decide) ?_
                          exact z_zret X hB (Or.inl rfl) ⟨_, rfl, (Or.inl rfl), h⟩ (z_k3 hK1) (z_k3 hK2) dL_law_820
                      · by_cases c35_9 : ((xs x5.toNatClampNeg) &&& 31) = 9
                        · replace h := h.2.2.2.2.2.2.2.2.2.1 c35_9
                          refine lv_tableIn (off := 796) (tgt := 841) hx hb dL_law_45 (by rw [c35_9]; decide) (by rw [c35_9]; decide) (by rw [c35_9]; rfl) (by decide) ?_
                          refine z_aload_n (x := x1) hx hb dL_law_841 rfl (lv_at hl 1 rfl) ?_
                          refine lv_aload_n (x := o) hx hb dL_law_842 rfl (lv_at hl 0 rfl) ?_
                          refine lv_iload hx hb dL_law_843 (lv_at hl 5 rfl) ?_
                          refine lv_iconst (v := 1) hx hb dL_law_845 (by decide) ?_
                          refine lv_iadd hx hb dL_law_846 ?_
                          obtain ⟨h1, h⟩ := h
                          refine z_sld hS X hB h1 dL_law_847 ?_
                          refine lv_aload_n (x := o) hx hb dL_law_848 rfl (lv_at hl 0 rfl) ?_
                          refine lv_iload hx hb dL_law_849 (lv_at hl 5 rfl) ?_
                          refine lv_iconst (v := 2) hx hb dL_law_851 (by decide) ?_
                          refine lv_iadd hx hb dL_law_852 ?_
                          obtain ⟨h1, h⟩ := h
                          refine z_sld hS X hB h1 dL_law_853 ?_
                          refine z_aload_n (x := x3) hx hb dL_law_854 rfl (lv_at hl 3 rfl) ?_
                          obtain ⟨kc206, ks207, g1, g2, h⟩ := h
                          refine z_calli (z_runSW (rest := []) [va_rf x1, .int (xs (x5 + 1).toNatClampNeg), .int (xs (x5 + 2).toNatClampNeg), va_rf x3] pk_X0_job (met_X0_job x1 (xs (x5 + 1).toNatClampNeg) (xs (x5 + 2).toNatClampNeg) x3 kc206 ks207 _ h) X hB hB.2.2.2.2.2.2 q2733 rfl hl.1 (Nat.le_of_ble_eq_true rfl) dL_law_855 (z_k1 hK1 g1) (z_k1 hK2 g2) (by decide) (by decide)) hB (fun _ h => h) (fun r205 T208 I209 Q210 H locs h9 hF hB => ?_)
                          replace h := h9
                          clear h9
                          replace h := h hF
                          replace hK1 := z_k2 hK1 g1
                          replace hK2 := z_k2 hK2 g2
                          refine lv_istore (lv' := [(6, .int r205), (0, .ref o), (1, va_rf x1), (2, va_rf x2), (3, va_rf x3), (4, va_rf x4), (5, .int x5)]) hx hb dL_law_858 hl (by decide) rfl (fun ls hl9 => ?_)
                          replace hl := hl9
                          clear hl9
                          refine z_aload_n (x := x2) hx hb dL_law_860 rfl (lv_at hl 3 rfl) ?_
                          refine lv_aload_n (x := o) hx hb dL_law_861 rfl (lv_at hl 1 rfl) ?_
                          refine lv_iload hx hb dL_law_862 (lv_at hl 6 rfl) ?_
                          refine lv_iconst (v := 1) hx hb dL_law_864 (by decide) ?_
                          refine lv_iadd hx hb dL_law_865 ?_
                          obtain ⟨h1, h⟩ := h
                          refine z_sld hS X hB h1 dL_law_866 ?_
                          refine lv_aload_n (x := o) hx hb dL_law_867 rfl (lv_at hl 1 rfl) ?_
                          refine lv_iload hx hb dL_law_868 (lv_at hl 6 rfl) ?_
                          refine lv_iconst (v := 2) hx hb dL_law_870 (by decide) ?_
                          refine lv_iadd hx hb dL_law_871 ?_
                          obtain ⟨h1, h⟩ := h
                          refine z_sld hS X hB h1 dL_law_872 ?_
                          obtain ⟨a211, rfl, h⟩ := h
                          obtain ⟨b212, m213, hL, hM, h⟩ := h
                          refine z_lawi (z_runV (rest := []) [.int (xs (x5 + 1).toNatClampNeg), .int (xs (x5 + 2).toNatClampNeg)] pk_X5_job (met_X5_job hL hM (xs (x5 + 1).toNatClampNeg) (xs (x5 + 2).toNatClampNeg) _ h) X hB (by decide) q3529 kc_X5 (by decide) (by rw [hL.1]) rfl hl.1 (Nat.le_of_ble_eq_true rfl) dL_law_873 (z_k4 hK1) (z_k4 hK2) (by decide) (by decide)) hB z_1L (fun r214 I216 H locs h9 hF hB => ?_)
                          replace h := h9
                          clear h9
                          replace h := h I216 rfl hF
                          refine lv_istore (lv' := [(7, .int r214), (6, .int r205), (0, .ref o), (1, va_rf x1), (2, .ref a211), (3, va_rf x3), (4, va_rf x4), (5, .int x5)]) hx hb dL_law_876 hl (by decide) rfl (fun ls hl9 => ?_)
                          replace hl := hl9
                          clear hl9
                          refine lv_aload_n (x := a211) hx hb dL_law_878 rfl (lv_at hl 4 rfl) ?_
                          obtain ⟨b217, m218, hL, hM, h⟩ := h
                          refine z_lawi (z_runV (rest := []) [] pk_X5_thrown (met_X5_thrown hL hM  _ h) X hB (by decide) q3400 kc_X5 (by decide) (by rw [hL.1]) rfl hl.1 (Nat.le_of_ble_eq_true rfl) dL_law_879 (z_k4 hK1) (z_k4 hK2) (by decide) (by decide)) hB z_1L (fun r219 I221 H locs h9 hF hB => ?_)
                          replace h := h9
                          clear h9
                          obtain ⟨h, e9⟩ := h
                          replace h := h I221 e9 hF
                          refine lv_iload hx hb dL_law_882 (lv_at hl 1 rfl) ?_
                          refine lv_icmp_eq (tgt := 889) hx hb dL_law_884 (by decide) (fun c222 => ?_) (fun c222 => ?_)
                          · replace h := h.1 c222
                            refine lv_iload hx hb dL_law_889 (lv_at hl 1 rfl) ?_
                            refine lv_if_ne (tgt := 906) hx hb dL_law_891 (by decide) (fun c223 => ?_) (fun c223 => ?_)
                            · replace h := h.1 c223
                              exact ww_L_law_906 X hS (fun hB hK1 hK2 hl h => ih hB hK1 hK2 hl h) hB hK1 hK2 (lv_sub hl [2, 3, 4, 5, 6, 7] rfl) h
                            · replace h := h.2 c223
                              refine z_aload_n (x := x3) hx hb dL_law_894 rfl (lv_at hl 5 rfl) ?_
                              refine lv_iconst (v := 0) hx hb dL_law_895 (by decide) ?_
                              obtain ⟨a224, rfl, h⟩ := h
                              obtain ⟨hk_a224, h⟩ := h
                              obtain ⟨h1, h⟩ := h
                              refine z_lald X hB.1 hk_a224 h1 dL_law_896 ?_
                              refine lv_iload hx hb dL_law_897 (lv_at hl 0 rfl) ?_
                              refine lv_i2l hx hb dL_law_899 rfl ?_
                              refine z_lcmp hx hb dL_law_900 ?_
                              refine lv_if_eq (tgt := 906) hx hb dL_law_901 (by decide) (fun c225 => ?_) (fun c225 => ?_)
                              · replace h := h.1 c225
                                exact ww_L_law_906 X hS (fun hB hK1 hK2 hl h => ih hB hK1 hK2 hl h) hB hK1 hK2 (lv_sub hl [2, 3, 4, 5, 6, 7] rfl) h
                              · replace h := h.2 c225
                                refine lv_iconst (v := 0) hx hb dL_law_904 (by decide) ?_
                                exact z_zret X hB (Or.inl rfl) ⟨_, rfl, (Or.inl rfl), h⟩ (z_k3 hK1) (z_k3 hK2) dL_law_905
                          · replace h := h.2 c222
                            refine lv_iconst (v := 0) hx hb dL_law_887 (by decide) ?_
                            exact z_zret X hB (Or.inl rfl) ⟨_, rfl, (Or.inl rfl), h⟩ (z_k3 hK1) (z_k3 hK2) dL_law_888
                        · by_cases c35_10 : ((xs x5.toNatClampNeg) &&& 31) = 10
                          · replace h := h.2.2.2.2.2.2.2.2.2.2.1 c35_10
                            refine lv_tableIn (off := 864) (tgt := 909) hx hb dL_law_45 (by rw [c35_10]; decide) (by rw [c35_10]; decide) (by rw [c35_10]; rfl) (by decide) ?_
                            refine z_aload_n (x := x1) hx hb dL_law_909 rfl (lv_at hl 1 rfl) ?_
                            refine lv_aload_n (x := o) hx hb dL_law_910 rfl (lv_at hl 0 rfl) ?_
                            refine lv_iload hx hb dL_law_911 (lv_at hl 5 rfl) ?_
                            refine lv_iconst (v := 1) hx hb dL_law_913 (by decide) ?_
                            refine lv_iadd hx hb dL_law_914 ?_
                            obtain ⟨h1, h⟩ := h
                            refine z_sld hS X hB h1 dL_law_915 ?_
                            refine lv_aload_n (x := o) hx hb dL_law_916 rfl (lv_at hl 0 rfl) ?_
                            refine lv_iload hx hb dL_law_917 (lv_at hl 5 rfl) ?_
                            refine lv_iconst (v := 2) hx hb dL_law_919 (by decide) ?_
                            refine lv_iadd hx hb dL_law_920 ?_
                            obtain ⟨h1, h⟩ := h
                            refine z_sld hS X hB h1 dL_law_921 ?_
                            refine z_aload_n (x := x3) hx hb dL_law_922 rfl (lv_at hl 3 rfl) ?_
                            obtain ⟨kc227, ks228, g1, g2, h⟩ := h
                            refine z_calli (z_runSW (rest := []) [va_rf x1, .int (xs (x5 + 1).toNatClampNeg), .int (xs (x5 + 2).toNatClampNeg), va_rf x3] pk_X0_arm (met_X0_arm x1 (xs (x5 + 1).toNatClampNeg) (xs (x5 + 2).toNatClampNeg) x3 kc227 ks228 _ h) X hB hB.2.2.2.2.2.2 q2749 rfl hl.1 (Nat.le_of_ble_eq_true rfl) dL_law_923 (z_k1 hK1 g1) (z_k1 hK2 g2) (by decide) (by decide)) hB (fun _ h => h) (fun r226 T229 I230 Q231 H locs h9 hF hB => ?_)
                            replace h := h9
                            clear h9
                            replace h := h hF
                            replace hK1 := z_k2 hK1 g1
                            replace hK2 := z_k2 hK2 g2
                            refine lv_istore (lv' := [(6, .int r226), (0, .ref o), (1, va_rf x1), (2, va_rf x2), (3, va_rf x3), (4, va_rf x4), (5, .int x5)]) hx hb dL_law_926 hl (by decide) rfl (fun ls hl9 => ?_)
                            replace hl := hl9
                            clear hl9
                            refine z_aload_n (x := x2) hx hb dL_law_928 rfl (lv_at hl 3 rfl) ?_
                            refine lv_aload_n (x := o) hx hb dL_law_929 rfl (lv_at hl 1 rfl) ?_
                            refine lv_iload hx hb dL_law_930 (lv_at hl 6 rfl) ?_
                            refine lv_iconst (v := 1) hx hb dL_law_932 (by decide) ?_
                            refine lv_iadd hx hb dL_law_933 ?_
                            obtain ⟨h1, h⟩ := h
                            refine z_sld hS X hB h1 dL_law_934 ?_
                            refine lv_aload_n (x := o) hx hb dL_law_935 rfl (lv_at hl 1 rfl) ?_
                            refine lv_iload hx hb dL_law_936 (lv_at hl 6 rfl) ?_
                            refine lv_iconst (v := 2) hx hb dL_law_938 (by decide) ?_
                            refine lv_iadd hx hb dL_law_939 ?_
                            obtain ⟨h1, h⟩ := h
                            refine z_sld hS X hB h1 dL_law_940 ?_
                            obtain ⟨a232, rfl, h⟩ := h
                            obtain ⟨b233, m234, hL, hM, h⟩ := h
                            refine z_lawi (z_runV (rest := []) [.int (xs (x5 + 1).toNatClampNeg), .int (xs (x5 + 2).toNatClampNeg)] pk_X5_arm (met_X5_arm hL hM (xs (x5 + 1).toNatClampNeg) (xs (x5 + 2).toNatClampNeg) _ h) X hB (by decide) q3537 kc_X5 (by decide) (by rw [hL.1]) rfl hl.1 (Nat.le_of_ble_eq_true rfl) dL_law_941 (z_k4 hK1) (z_k4 hK2) (by decide) (by decide)) hB z_1L (fun r235 I237 H locs h9 hF hB => ?_)
                            replace h := h9
                            clear h9
                            replace h := h I237 rfl hF
                            refine lv_istore (lv' := [(7, .int r235), (6, .int r226), (0, .ref o), (1, va_rf x1), (2, .ref a232), (3, va_rf x3), (4, va_rf x4), (5, .int x5)]) hx hb dL_law_944 hl (by decide) rfl (fun ls hl9 => ?_)
                            replace hl := hl9
                            clear hl9
                            refine lv_aload_n (x := a232) hx hb dL_law_946 rfl (lv_at hl 4 rfl) ?_
                            obtain ⟨b238, m239, hL, hM, h⟩ := h
                            refine z_lawi (z_runV (rest := []) [] pk_X5_thrown (met_X5_thrown hL hM  _ h) X hB (by decide) q3400 kc_X5 (by decide) (by rw [hL.1]) rfl hl.1 (Nat.le_of_ble_eq_true rfl) dL_law_947 (z_k4 hK1) (z_k4 hK2) (by decide) (by decide)) hB z_1L (fun r240 I242 H locs h9 hF hB => ?_)
                            replace h := h9
                            clear h9
                            obtain ⟨h, e9⟩ := h
                            replace h := h I242 e9 hF
                            refine lv_iload hx hb dL_law_950 (lv_at hl 1 rfl) ?_
                            refine lv_icmp_eq (tgt := 957) hx hb dL_law_952 (by decide) (fun c243 => ?_) (fun c243 => ?_)
                            · replace h := h.1 c243
                              refine lv_iload hx hb dL_law_957 (lv_at hl 1 rfl) ?_
                              refine lv_if_ne (tgt := 974) hx hb dL_law_959 (by decide) (fun c244 => ?_) (fun c244 => ?_)
                              · replace h := h.1 c244
                                exact ww_L_law_974 X hS (fun hB hK1 hK2 hl h => ih hB hK1 hK2 hl h) hB hK1 hK2 (lv_sub hl [2, 3, 4, 5, 6, 7] rfl) h
                              · replace h := h.2 c244
                                refine z_aload_n (x := x3) hx hb dL_law_962 rfl (lv_at hl 5 rfl) ?_
                                refine lv_iconst (v := 0) hx hb dL_law_963 (by decide) ?_
                                obtain ⟨a245, rfl, h⟩ := h
                                obtain ⟨hk_a245, h⟩ := h
                                obtain ⟨h1, h⟩ := h
                                refine z_lald X hB.1 hk_a245 h1 dL_law_964 ?_
                                refine lv_iload hx hb dL_law_965 (lv_at hl 0 rfl) ?_
                                refine lv_i2l hx hb dL_law_967 rfl ?_
                                refine z_lcmp hx hb dL_law_968 ?_
                                refine lv_if_eq (tgt := 974) hx hb dL_law_969 (by decide) (fun c246 => ?_) (fun c246 => ?_)
                                · replace h := h.1 c246
                                  exact ww_L_law_974 X hS (fun hB hK1 hK2 hl h => ih hB hK1 hK2 hl h) hB hK1 hK2 (lv_sub hl [2, 3, 4, 5, 6, 7] rfl) h
                                · replace h := h.2 c246
                                  refine lv_iconst (v := 0) hx hb dL_law_972 (by decide) ?_
                                  exact z_zret X hB (Or.inl rfl) ⟨_, rfl, (Or.inl rfl), h⟩ (z_k3 hK1) (z_k3 hK2) dL_law_973
                            · replace h := h.2 c243
                              refine lv_iconst (v := 0) hx hb dL_law_955 (by decide) ?_
                              exact z_zret X hB (Or.inl rfl) ⟨_, rfl, (Or.inl rfl), h⟩ (z_k3 hK1) (z_k3 hK2) dL_law_956
                          · by_cases c35_11 : ((xs x5.toNatClampNeg) &&& 31) = 11
                            · replace h := h.2.2.2.2.2.2.2.2.2.2.2.1 c35_11
                              refine lv_tableIn (off := 932) (tgt := 977) hx hb dL_law_45 (by rw [c35_11]; decide) (by rw [c35_11]; decide) (by rw [c35_11]; rfl) (by decide) ?_
                              refine z_aload_n (x := x1) hx hb dL_law_977 rfl (lv_at hl 1 rfl) ?_
                              refine lv_aload_n (x := o) hx hb dL_law_978 rfl (lv_at hl 0 rfl) ?_
                              refine lv_iload hx hb dL_law_979 (lv_at hl 5 rfl) ?_
                              refine lv_iconst (v := 1) hx hb dL_law_981 (by decide) ?_
                              refine lv_iadd hx hb dL_law_982 ?_
                              obtain ⟨h1, h⟩ := h
                              refine z_sld hS X hB h1 dL_law_983 ?_
                              refine lv_aload_n (x := o) hx hb dL_law_984 rfl (lv_at hl 0 rfl) ?_
                              refine lv_iload hx hb dL_law_985 (lv_at hl 5 rfl) ?_
                              refine lv_iconst (v := 2) hx hb dL_law_987 (by decide) ?_
                              refine lv_iadd hx hb dL_law_988 ?_
                              obtain ⟨h1, h⟩ := h
                              refine z_sld hS X hB h1 dL_law_989 ?_
                              refine z_aload_n (x := x3) hx hb dL_law_990 rfl (lv_at hl 3 rfl) ?_
                              obtain ⟨kc248, ks249, g1, g2, h⟩ := h
                              refine z_calli (z_runSW (rest := []) [va_rf x1, .int (xs (x5 + 1).toNatClampNeg), .int (xs (x5 + 2).toNatClampNeg), va_rf x3] pk_X0_waiting (met_X0_waiting x1 (xs (x5 + 1).toNatClampNeg) (xs (x5 + 2).toNatClampNeg) x3 kc248 ks249 _ h) X hB hB.2.2.2.2.2.2 q2766 rfl hl.1 (Nat.le_of_ble_eq_true rfl) dL_law_991 (z_k1 hK1 g1) (z_k1 hK2 g2) (by decide) (by decide)) hB (fun _ h => h) (fun r247 T250 I251 Q252 H locs h9 hF hB => ?_)
                              replace h := h9
                              clear h9
                              replace h := h hF
                              replace hK1 := z_k2 hK1 g1
                              replace hK2 := z_k2 hK2 g2
                              refine lv_istore (lv' := [(6, .int r247), (0, .ref o), (1, va_rf x1), (2, va_rf x2), (3, va_rf x3), (4, va_rf x4), (5, .int x5)]) hx hb dL_law_994 hl (by decide) rfl (fun ls hl9 => ?_)
                              replace hl := hl9
                              clear hl9
                              refine z_aload_n (x := x2) hx hb dL_law_996 rfl (lv_at hl 3 rfl) ?_
                              refine lv_aload_n (x := o) hx hb dL_law_997 rfl (lv_at hl 1 rfl) ?_
                              refine lv_iload hx hb dL_law_998 (lv_at hl 6 rfl) ?_
                              refine lv_iconst (v := 1) hx hb dL_law_1000 (by decide) ?_
                              refine lv_iadd hx hb dL_law_1001 ?_
                              obtain ⟨h1, h⟩ := h
                              refine z_sld hS X hB h1 dL_law_1002 ?_
                              refine lv_aload_n (x := o) hx hb dL_law_1003 rfl (lv_at hl 1 rfl) ?_
                              refine lv_iload hx hb dL_law_1004 (lv_at hl 6 rfl) ?_
                              refine lv_iconst (v := 2) hx hb dL_law_1006 (by decide) ?_
                              refine lv_iadd hx hb dL_law_1007 ?_
                              obtain ⟨h1, h⟩ := h
                              refine z_sld hS X hB h1 dL_law_1008 ?_
                              obtain ⟨a253, rfl, h⟩ := h
                              obtain ⟨b254, m255, hL, hM, h⟩ := h
                              refine z_lawi (z_runV (rest := []) [.int (xs (x5 + 1).toNatClampNeg), .int (xs (x5 + 2).toNatClampNeg)] pk_X5_waiting (met_X5_waiting hL hM (xs (x5 + 1).toNatClampNeg) (xs (x5 + 2).toNatClampNeg) _ h) X hB (by decide) q3541 kc_X5 (by decide) (by rw [hL.1]) rfl hl.1 (Nat.le_of_ble_eq_true rfl) dL_law_1009 (z_k4 hK1) (z_k4 hK2) (by decide) (by decide)) hB z_1L (fun r256 I258 H locs h9 hF hB => ?_)
                              replace h := h9
                              clear h9
                              replace h := h I258 rfl hF
                              refine lv_istore (lv' := [(7, .int r256), (6, .int r247), (0, .ref o), (1, va_rf x1), (2, .ref a253), (3, va_rf x3), (4, va_rf x4), (5, .int x5)]) hx hb dL_law_1012 hl (by decide) rfl (fun ls hl9 => ?_)
                              replace hl := hl9
                              clear hl9
                              refine lv_aload_n (x := a253) hx hb dL_law_1014 rfl (lv_at hl 4 rfl) ?_
                              obtain ⟨b259, m260, hL, hM, h⟩ := h
                              refine z_lawi (z_runV (rest := []) [] pk_X5_thrown (met_X5_thrown hL hM  _ h) X hB (by decide) q3400 kc_X5 (by decide) (by rw [hL.1]) rfl hl.1 (Nat.le_of_ble_eq_true rfl) dL_law_1015 (z_k4 hK1) (z_k4 hK2) (by decide) (by decide)) hB z_1L (fun r261 I263 H locs h9 hF hB => ?_)
                              replace h := h9
                              clear h9
                              obtain ⟨h, e9⟩ := h
                              replace h := h I263 e9 hF
                              refine lv_iload hx hb dL_law_1018 (lv_at hl 1 rfl) ?_
                              refine lv_icmp_eq (tgt := 1025) hx hb dL_law_1020 (by decide) (fun c264 => ?_) (fun c264 => ?_)
                              · replace h := h.1 c264
                                refine lv_iload hx hb dL_law_1025 (lv_at hl 1 rfl) ?_
                                refine lv_if_ne (tgt := 1042) hx hb dL_law_1027 (by decide) (fun c265 => ?_) (fun c265 => ?_)
                                · replace h := h.1 c265
                                  exact ww_L_law_1042 X hS (fun hB hK1 hK2 hl h => ih hB hK1 hK2 hl h) hB hK1 hK2 (lv_sub hl [2, 3, 4, 5, 6, 7] rfl) h
                                · replace h := h.2 c265
                                  refine z_aload_n (x := x3) hx hb dL_law_1030 rfl (lv_at hl 5 rfl) ?_
                                  refine lv_iconst (v := 0) hx hb dL_law_1031 (by decide) ?_
                                  obtain ⟨a266, rfl, h⟩ := h
                                  obtain ⟨hk_a266, h⟩ := h
                                  obtain ⟨h1, h⟩ := h
                                  refine z_lald X hB.1 hk_a266 h1 dL_law_1032 ?_
                                  refine lv_iload hx hb dL_law_1033 (lv_at hl 0 rfl) ?_
                                  refine lv_i2l hx hb dL_law_1035 rfl ?_
                                  refine z_lcmp hx hb dL_law_1036 ?_
                                  refine lv_if_eq (tgt := 1042) hx hb dL_law_1037 (by decide) (fun c267 => ?_) (fun c267 => ?_)
                                  · replace h := h.1 c267
                                    exact ww_L_law_1042 X hS (fun hB hK1 hK2 hl h => ih hB hK1 hK2 hl h) hB hK1 hK2 (lv_sub hl [2, 3, 4, 5, 6, 7] rfl) h
                                  · replace h := h.2 c267
                                    refine lv_iconst (v := 0) hx hb dL_law_1040 (by decide) ?_
                                    exact z_zret X hB (Or.inl rfl) ⟨_, rfl, (Or.inl rfl), h⟩ (z_k3 hK1) (z_k3 hK2) dL_law_1041
                              · replace h := h.2 c264
                                refine lv_iconst (v := 0) hx hb dL_law_1023 (by decide) ?_
                                exact z_zret X hB (Or.inl rfl) ⟨_, rfl, (Or.inl rfl), h⟩ (z_k3 hK1) (z_k3 hK2) dL_law_1024
                            · by_cases c35_12 : ((xs x5.toNatClampNeg) &&& 31) = 12
                              · replace h := h.2.2.2.2.2.2.2.2.2.2.2.2.1 c35_12
                                refine lv_tableIn (off := 1000) (tgt := 1045) hx hb dL_law_45 (by rw [c35_12]; decide) (by rw [c35_12]; decide) (by rw [c35_12]; rfl) (by decide) ?_
                                refine z_aload_n (x := x1) hx hb dL_law_1045 rfl (lv_at hl 1 rfl) ?_
                                refine lv_aload_n (x := o) hx hb dL_law_1046 rfl (lv_at hl 0 rfl) ?_
                                refine lv_iload hx hb dL_law_1047 (lv_at hl 5 rfl) ?_
                                refine lv_iconst (v := 1) hx hb dL_law_1049 (by decide) ?_
                                refine lv_iadd hx hb dL_law_1050 ?_
                                obtain ⟨h1, h⟩ := h
                                refine z_sld hS X hB h1 dL_law_1051 ?_
                                refine z_aload_n (x := x3) hx hb dL_law_1052 rfl (lv_at hl 3 rfl) ?_
                                obtain ⟨kc269, ks270, g1, g2, h⟩ := h
                                refine z_calli (z_runSW (rest := []) [va_rf x1, .int (xs (x5 + 1).toNatClampNeg), va_rf x3] pk_X0_tick (met_X0_tick x1 (xs (x5 + 1).toNatClampNeg) x3 kc269 ks270 _ h) X hB hB.2.2.2.2.2.2 q2773 rfl hl.1 (Nat.le_of_ble_eq_true rfl) dL_law_1053 (z_k1 hK1 g1) (z_k1 hK2 g2) (by decide) (by decide)) hB (fun _ h => h) (fun r268 T271 I272 Q273 H locs h9 hF hB => ?_)
                                replace h := h9
                                clear h9
                                replace h := h hF
                                replace hK1 := z_k2 hK1 g1
                                replace hK2 := z_k2 hK2 g2
                                refine lv_istore (lv' := [(6, .int r268), (0, .ref o), (1, va_rf x1), (2, va_rf x2), (3, va_rf x3), (4, va_rf x4), (5, .int x5)]) hx hb dL_law_1056 hl (by decide) rfl (fun ls hl9 => ?_)
                                replace hl := hl9
                                clear hl9
                                refine z_aload_n (x := x2) hx hb dL_law_1058 rfl (lv_at hl 3 rfl) ?_
                                refine lv_aload_n (x := o) hx hb dL_law_1059 rfl (lv_at hl 1 rfl) ?_
                                refine lv_iload hx hb dL_law_1060 (lv_at hl 6 rfl) ?_
                                refine lv_iconst (v := 1) hx hb dL_law_1062 (by decide) ?_
                                refine lv_iadd hx hb dL_law_1063 ?_
                                obtain ⟨h1, h⟩ := h
                                refine z_sld hS X hB h1 dL_law_1064 ?_
                                obtain ⟨a274, rfl, h⟩ := h
                                obtain ⟨b275, m276, hL, hM, h⟩ := h
                                refine z_lawi (z_runV (rest := []) [.int (xs (x5 + 1).toNatClampNeg)] pk_X5_tick (met_X5_tick hL hM (xs (x5 + 1).toNatClampNeg) _ h) X hB (by decide) q3545 kc_X5 (by decide) (by rw [hL.1]) rfl hl.1 (Nat.le_of_ble_eq_true rfl) dL_law_1065 (z_k4 hK1) (z_k4 hK2) (by decide) (by decide)) hB z_1L (fun r277 I279 H locs h9 hF hB => ?_)
                                replace h := h9
                                clear h9
                                replace h := h I279 rfl hF
                                refine lv_istore (lv' := [(7, .int r277), (6, .int r268), (0, .ref o), (1, va_rf x1), (2, .ref a274), (3, va_rf x3), (4, va_rf x4), (5, .int x5)]) hx hb dL_law_1068 hl (by decide) rfl (fun ls hl9 => ?_)
                                replace hl := hl9
                                clear hl9
                                refine lv_aload_n (x := a274) hx hb dL_law_1070 rfl (lv_at hl 4 rfl) ?_
                                obtain ⟨b280, m281, hL, hM, h⟩ := h
                                refine z_lawi (z_runV (rest := []) [] pk_X5_thrown (met_X5_thrown hL hM  _ h) X hB (by decide) q3400 kc_X5 (by decide) (by rw [hL.1]) rfl hl.1 (Nat.le_of_ble_eq_true rfl) dL_law_1071 (z_k4 hK1) (z_k4 hK2) (by decide) (by decide)) hB z_1L (fun r282 I284 H locs h9 hF hB => ?_)
                                replace h := h9
                                clear h9
                                obtain ⟨h, e9⟩ := h
                                replace h := h I284 e9 hF
                                refine lv_iload hx hb dL_law_1074 (lv_at hl 1 rfl) ?_
                                refine lv_icmp_eq (tgt := 1081) hx hb dL_law_1076 (by decide) (fun c285 => ?_) (fun c285 => ?_)
                                · replace h := h.1 c285
                                  refine lv_iload hx hb dL_law_1081 (lv_at hl 1 rfl) ?_
                                  refine lv_if_ne (tgt := 1098) hx hb dL_law_1083 (by decide) (fun c286 => ?_) (fun c286 => ?_)
                                  · replace h := h.1 c286
                                    exact ww_L_law_1098 X hS (fun hB hK1 hK2 hl h => ih hB hK1 hK2 hl h) hB hK1 hK2 (lv_sub hl [2, 3, 4, 5, 6, 7] rfl) h
                                  · replace h := h.2 c286
                                    refine z_aload_n (x := x3) hx hb dL_law_1086 rfl (lv_at hl 5 rfl) ?_
                                    refine lv_iconst (v := 0) hx hb dL_law_1087 (by decide) ?_
                                    obtain ⟨a287, rfl, h⟩ := h
                                    obtain ⟨hk_a287, h⟩ := h
                                    obtain ⟨h1, h⟩ := h
                                    refine z_lald X hB.1 hk_a287 h1 dL_law_1088 ?_
                                    refine lv_iload hx hb dL_law_1089 (lv_at hl 0 rfl) ?_
                                    refine lv_i2l hx hb dL_law_1091 rfl ?_
                                    refine z_lcmp hx hb dL_law_1092 ?_
                                    refine lv_if_eq (tgt := 1098) hx hb dL_law_1093 (by decide) (fun c288 => ?_) (fun c288 => ?_)
                                    · replace h := h.1 c288
                                      exact ww_L_law_1098 X hS (fun hB hK1 hK2 hl h => ih hB hK1 hK2 hl h) hB hK1 hK2 (lv_sub hl [2, 3, 4, 5, 6, 7] rfl) h
                                    · replace h := h.2 c288
                                      refine lv_iconst (v := 0) hx hb dL_law_1096 (by decide) ?_
                                      exact z_zret X hB (Or.inl rfl) ⟨_, rfl, (Or.inl rfl), h⟩ (z_k3 hK1) (z_k3 hK2) dL_law_1097
                                · replace h := h.2 c285
                                  refine lv_iconst (v := 0) hx hb dL_law_1079 (by decide) ?_
                                  exact z_zret X hB (Or.inl rfl) ⟨_, rfl, (Or.inl rfl), h⟩ (z_k3 hK1) (z_k3 hK2) dL_law_1080
                              · by_cases c35_13 : ((xs x5.toNatClampNeg) &&& 31) = 13
                                · replace h := h.2.2.2.2.2.2.2.2.2.2.2.2.2.1 c35_13
                                  refine lv_tableIn (off := 1056) (tgt := 1101) hx hb dL_law_45 (by rw [c35_13]; decide) (by rw [c35_13]; decide) (by rw [c35_13]; rfl) (by decide) ?_
                                  refine z_aload_n (x := x1) hx hb dL_law_1101 rfl (lv_at hl 1 rfl) ?_
                                  refine lv_aload_n (x := o) hx hb dL_law_1102 rfl (lv_at hl 0 rfl) ?_
                                  refine lv_iload hx hb dL_law_1103 (lv_at hl 5 rfl) ?_
                                  refine lv_iconst (v := 1) hx hb dL_law_1105 (by decide) ?_
                                  refine lv_iadd hx hb dL_law_1106 ?_
                                  obtain ⟨h1, h⟩ := h
                                  refine z_sld hS X hB h1 dL_law_1107 ?_
                                  refine lv_aload_n (x := o) hx hb dL_law_1108 rfl (lv_at hl 0 rfl) ?_
                                  refine lv_iload hx hb dL_law_1109 (lv_at hl 5 rfl) ?_
                                  refine lv_iconst (v := 2) hx hb dL_law_1111 (by decide) ?_
                                  refine lv_iadd hx hb dL_law_1112 ?_
                                  obtain ⟨h1, h⟩ := h
                                  refine z_sld hS X hB h1 dL_law_1113 ?_
                                  refine lv_if_eq (tgt := 1121) hx hb dL_law_1114 (by decide) (fun c289 => ?_) (fun c289 => ?_)
                                  · replace h := h.1 c289
                                    refine lv_iconst (v := 0) hx hb dL_law_1121 (by decide) ?_
                                    exact ww_L_law_1122 X hS (fun hB hK1 hK2 hl h => ih hB hK1 hK2 hl h) hB hK1 hK2 (lv_sub hl [0, 1, 2, 3, 4, 5] rfl) h
                                  · replace h := h.2 c289
                                    refine lv_iconst (v := 1) hx hb dL_law_1117 (by decide) ?_
                                    refine lv_goto (tgt := 1122) hx hb dL_law_1118 (by decide) ?_
                                    exact ww_L_law_1122 X hS (fun hB hK1 hK2 hl h => ih hB hK1 hK2 hl h) hB hK1 hK2 (lv_sub hl [0, 1, 2, 3, 4, 5] rfl) h
                                · by_cases c35_14 : ((xs x5.toNatClampNeg) &&& 31) = 14
                                  · replace h := h.2.2.2.2.2.2.2.2.2.2.2.2.2.2.1 c35_14
                                    refine lv_tableIn (off := 1140) (tgt := 1185) hx hb dL_law_45 (by rw [c35_14]; decide) (by rw [c35_14]; decide) (by rw [c35_14]; rfl) (by decide) ?_
                                    refine z_aload_n (x := x1) hx hb dL_law_1185 rfl (lv_at hl 1 rfl) ?_
                                    refine lv_aload_n (x := o) hx hb dL_law_1186 rfl (lv_at hl 0 rfl) ?_
                                    refine lv_iload hx hb dL_law_1187 (lv_at hl 5 rfl) ?_
                                    refine lv_iconst (v := 1) hx hb dL_law_1189 (by decide) ?_
                                    refine lv_iadd hx hb dL_law_1190 ?_
                                    obtain ⟨h1, h⟩ := h
                                    refine z_sld hS X hB h1 dL_law_1191 ?_
                                    refine z_aload_n (x := x3) hx hb dL_law_1192 rfl (lv_at hl 3 rfl) ?_
                                    obtain ⟨kc291, ks292, g1, g2, h⟩ := h
                                    refine z_calli (z_runSW (rest := []) [va_rf x1, .int (xs (x5 + 1).toNatClampNeg), va_rf x3] pk_X0_wouldBe (met_X0_wouldBe x1 (xs (x5 + 1).toNatClampNeg) x3 kc291 ks292 _ h) X hB hB.2.2.2.2.2.2 q2912 rfl hl.1 (Nat.le_of_ble_eq_true rfl) dL_law_1193 (z_k1 hK1 g1) (z_k1 hK2 g2) (by decide) (by decide)) hB (fun _ h => h) (fun r290 T293 I294 Q295 H locs h9 hF hB => ?_)
                                    replace h := h9
                                    clear h9
                                    replace h := h hF
                                    replace hK1 := z_k2 hK1 g1
                                    replace hK2 := z_k2 hK2 g2
                                    refine lv_istore (lv' := [(6, .int r290), (0, .ref o), (1, va_rf x1), (2, va_rf x2), (3, va_rf x3), (4, va_rf x4), (5, .int x5)]) hx hb dL_law_1196 hl (by decide) rfl (fun ls hl9 => ?_)
                                    replace hl := hl9
                                    clear hl9
                                    refine z_aload_n (x := x2) hx hb dL_law_1198 rfl (lv_at hl 3 rfl) ?_
                                    refine lv_aload_n (x := o) hx hb dL_law_1199 rfl (lv_at hl 1 rfl) ?_
                                    refine lv_iload hx hb dL_law_1200 (lv_at hl 6 rfl) ?_
                                    refine lv_iconst (v := 1) hx hb dL_law_1202 (by decide) ?_
                                    refine lv_iadd hx hb dL_law_1203 ?_
                                    obtain ⟨h1, h⟩ := h
                                    refine z_sld hS X hB h1 dL_law_1204 ?_
                                    obtain ⟨a296, rfl, h⟩ := h
                                    obtain ⟨b297, m298, hL, hM, h⟩ := h
                                    refine z_lawi (z_runV (rest := []) [.int (xs (x5 + 1).toNatClampNeg)] pk_X5_wouldBe (met_X5_wouldBe hL hM (xs (x5 + 1).toNatClampNeg) _ h) X hB (by decide) q3617 kc_X5 (by decide) (by rw [hL.1]) rfl hl.1 (Nat.le_of_ble_eq_true rfl) dL_law_1205 (z_k4 hK1) (z_k4 hK2) (by decide) (by decide)) hB z_1L (fun r299 I301 H locs h9 hF hB => ?_)
                                    replace h := h9
                                    clear h9
                                    replace h := h I301 rfl hF
                                    refine lv_istore (lv' := [(7, .int r299), (6, .int r290), (0, .ref o), (1, va_rf x1), (2, .ref a296), (3, va_rf x3), (4, va_rf x4), (5, .int x5)]) hx hb dL_law_1208 hl (by decide) rfl (fun ls hl9 => ?_)
                                    replace hl := hl9
                                    clear hl9
                                    refine lv_aload_n (x := a296) hx hb dL_law_1210 rfl (lv_at hl 4 rfl) ?_
                                    obtain ⟨b302, m303, hL, hM, h⟩ := h
                                    refine z_lawi (z_runV (rest := []) [] pk_X5_thrown (met_X5_thrown hL hM  _ h) X hB (by decide) q3400 kc_X5 (by decide) (by rw [hL.1]) rfl hl.1 (Nat.le_of_ble_eq_true rfl) dL_law_1211 (z_k4 hK1) (z_k4 hK2) (by decide) (by decide)) hB z_1L (fun r304 I306 H locs h9 hF hB => ?_)
                                    replace h := h9
                                    clear h9
                                    obtain ⟨h, e9⟩ := h
                                    replace h := h I306 e9 hF
                                    refine lv_iload hx hb dL_law_1214 (lv_at hl 1 rfl) ?_
                                    refine lv_icmp_eq (tgt := 1221) hx hb dL_law_1216 (by decide) (fun c307 => ?_) (fun c307 => ?_)
                                    · replace h := h.1 c307
                                      refine lv_iload hx hb dL_law_1221 (lv_at hl 1 rfl) ?_
                                      refine lv_if_ne (tgt := 1238) hx hb dL_law_1223 (by decide) (fun c308 => ?_) (fun c308 => ?_)
                                      · replace h := h.1 c308
                                        exact ww_L_law_1238 X hS (fun hB hK1 hK2 hl h => ih hB hK1 hK2 hl h) hB hK1 hK2 (lv_sub hl [2, 3, 4, 5, 6, 7] rfl) h
                                      · replace h := h.2 c308
                                        refine z_aload_n (x := x3) hx hb dL_law_1226 rfl (lv_at hl 5 rfl) ?_
                                        refine lv_iconst (v := 0) hx hb dL_law_1227 (by decide) ?_
                                        obtain ⟨a309, rfl, h⟩ := h
                                        obtain ⟨hk_a309, h⟩ := h
                                        obtain ⟨h1, h⟩ := h
                                        refine z_lald X hB.1 hk_a309 h1 dL_law_1228 ?_
                                        refine lv_iload hx hb dL_law_1229 (lv_at hl 0 rfl) ?_
                                        refine lv_i2l hx hb dL_law_1231 rfl ?_
                                        refine z_lcmp hx hb dL_law_1232 ?_
                                        refine lv_if_eq (tgt := 1238) hx hb dL_law_1233 (by decide) (fun c310 => ?_) (fun c310 => ?_)
                                        · replace h := h.1 c310
                                          exact ww_L_law_1238 X hS (fun hB hK1 hK2 hl h => ih hB hK1 hK2 hl h) hB hK1 hK2 (lv_sub hl [2, 3, 4, 5, 6, 7] rfl) h
                                        · replace h := h.2 c310
                                          refine lv_iconst (v := 0) hx hb dL_law_1236 (by decide) ?_
                                          exact z_zret X hB (Or.inl rfl) ⟨_, rfl, (Or.inl rfl), h⟩ (z_k3 hK1) (z_k3 hK2) dL_law_1237
                                    · replace h := h.2 c307
                                      refine lv_iconst (v := 0) hx hb dL_law_1219 (by decide) ?_
                                      exact z_zret X hB (Or.inl rfl) ⟨_, rfl, (Or.inl rfl), h⟩ (z_k3 hK1) (z_k3 hK2) dL_law_1220
                                  · by_cases c35_15 : ((xs x5.toNatClampNeg) &&& 31) = 15
                                    · replace h := h.2.2.2.2.2.2.2.2.2.2.2.2.2.2.2.1 c35_15
                                      refine lv_tableIn (off := 1196) (tgt := 1241) hx hb dL_law_45 (by rw [c35_15]; decide) (by rw [c35_15]; decide) (by rw [c35_15]; rfl) (by decide) ?_
                                      refine z_aload_n (x := x1) hx hb dL_law_1241 rfl (lv_at hl 1 rfl) ?_
                                      refine lv_aload_n (x := o) hx hb dL_law_1242 rfl (lv_at hl 0 rfl) ?_
                                      refine lv_iload hx hb dL_law_1243 (lv_at hl 5 rfl) ?_
                                      refine lv_iconst (v := 1) hx hb dL_law_1245 (by decide) ?_
                                      refine lv_iadd hx hb dL_law_1246 ?_
                                      obtain ⟨h1, h⟩ := h
                                      refine z_sld hS X hB h1 dL_law_1247 ?_
                                      refine z_aload_n (x := x3) hx hb dL_law_1248 rfl (lv_at hl 3 rfl) ?_
                                      obtain ⟨kc312, ks313, g1, g2, h⟩ := h
                                      refine z_calli (z_runSW (rest := []) [va_rf x1, .int (xs (x5 + 1).toNatClampNeg), va_rf x3] pk_X0_endsAfter (met_X0_endsAfter x1 (xs (x5 + 1).toNatClampNeg) x3 kc312 ks313 _ h) X hB hB.2.2.2.2.2.2 q2921 rfl hl.1 (Nat.le_of_ble_eq_true rfl) dL_law_1249 (z_k1 hK1 g1) (z_k1 hK2 g2) (by decide) (by decide)) hB (fun _ h => h) (fun r311 T314 I315 Q316 H locs h9 hF hB => ?_)
                                      replace h := h9
                                      clear h9
                                      replace h := h hF
                                      replace hK1 := z_k2 hK1 g1
                                      replace hK2 := z_k2 hK2 g2
                                      refine lv_istore (lv' := [(6, .int r311), (0, .ref o), (1, va_rf x1), (2, va_rf x2), (3, va_rf x3), (4, va_rf x4), (5, .int x5)]) hx hb dL_law_1252 hl (by decide) rfl (fun ls hl9 => ?_)
                                      replace hl := hl9
                                      clear hl9
                                      refine z_aload_n (x := x2) hx hb dL_law_1254 rfl (lv_at hl 3 rfl) ?_
                                      refine lv_aload_n (x := o) hx hb dL_law_1255 rfl (lv_at hl 1 rfl) ?_
                                      refine lv_iload hx hb dL_law_1256 (lv_at hl 6 rfl) ?_
                                      refine lv_iconst (v := 1) hx hb dL_law_1258 (by decide) ?_
                                      refine lv_iadd hx hb dL_law_1259 ?_
                                      obtain ⟨h1, h⟩ := h
                                      refine z_sld hS X hB h1 dL_law_1260 ?_
                                      obtain ⟨a317, rfl, h⟩ := h
                                      obtain ⟨b318, m319, hL, hM, h⟩ := h
                                      refine z_lawi (z_runV (rest := []) [.int (xs (x5 + 1).toNatClampNeg)] pk_X5_endsAfter (met_X5_endsAfter hL hM (xs (x5 + 1).toNatClampNeg) _ h) X hB (by decide) q3621 kc_X5 (by decide) (by rw [hL.1]) rfl hl.1 (Nat.le_of_ble_eq_true rfl) dL_law_1261 (z_k4 hK1) (z_k4 hK2) (by decide) (by decide)) hB z_1L (fun r320 I322 H locs h9 hF hB => ?_)
                                      replace h := h9
                                      clear h9
                                      replace h := h I322 rfl hF
                                      refine lv_istore (lv' := [(7, .int r320), (6, .int r311), (0, .ref o), (1, va_rf x1), (2, .ref a317), (3, va_rf x3), (4, va_rf x4), (5, .int x5)]) hx hb dL_law_1264 hl (by decide) rfl (fun ls hl9 => ?_)
                                      replace hl := hl9
                                      clear hl9
                                      refine lv_aload_n (x := a317) hx hb dL_law_1266 rfl (lv_at hl 4 rfl) ?_
                                      obtain ⟨b323, m324, hL, hM, h⟩ := h
                                      refine z_lawi (z_runV (rest := []) [] pk_X5_thrown (met_X5_thrown hL hM  _ h) X hB (by decide) q3400 kc_X5 (by decide) (by rw [hL.1]) rfl hl.1 (Nat.le_of_ble_eq_true rfl) dL_law_1267 (z_k4 hK1) (z_k4 hK2) (by decide) (by decide)) hB z_1L (fun r325 I327 H locs h9 hF hB => ?_)
                                      replace h := h9
                                      clear h9
                                      obtain ⟨h, e9⟩ := h
                                      replace h := h I327 e9 hF
                                      refine lv_iload hx hb dL_law_1270 (lv_at hl 1 rfl) ?_
                                      refine lv_icmp_eq (tgt := 1277) hx hb dL_law_1272 (by decide) (fun c328 => ?_) (fun c328 => ?_)
                                      · replace h := h.1 c328
                                        refine lv_iload hx hb dL_law_1277 (lv_at hl 1 rfl) ?_
                                        refine lv_if_ne (tgt := 1294) hx hb dL_law_1279 (by decide) (fun c329 => ?_) (fun c329 => ?_)
                                        · replace h := h.1 c329
                                          exact ww_L_law_1294 X hS (fun hB hK1 hK2 hl h => ih hB hK1 hK2 hl h) hB hK1 hK2 (lv_sub hl [2, 3, 4, 5, 6, 7] rfl) h
                                        · replace h := h.2 c329
                                          refine z_aload_n (x := x3) hx hb dL_law_1282 rfl (lv_at hl 5 rfl) ?_
                                          refine lv_iconst (v := 0) hx hb dL_law_1283 (by decide) ?_
                                          obtain ⟨a330, rfl, h⟩ := h
                                          obtain ⟨hk_a330, h⟩ := h
                                          obtain ⟨h1, h⟩ := h
                                          refine z_lald X hB.1 hk_a330 h1 dL_law_1284 ?_
                                          refine lv_iload hx hb dL_law_1285 (lv_at hl 0 rfl) ?_
                                          refine lv_i2l hx hb dL_law_1287 rfl ?_
                                          refine z_lcmp hx hb dL_law_1288 ?_
                                          refine lv_if_eq (tgt := 1294) hx hb dL_law_1289 (by decide) (fun c331 => ?_) (fun c331 => ?_)
                                          · replace h := h.1 c331
                                            exact ww_L_law_1294 X hS (fun hB hK1 hK2 hl h => ih hB hK1 hK2 hl h) hB hK1 hK2 (lv_sub hl [2, 3, 4, 5, 6, 7] rfl) h
                                          · replace h := h.2 c331
                                            refine lv_iconst (v := 0) hx hb dL_law_1292 (by decide) ?_
                                            exact z_zret X hB (Or.inl rfl) ⟨_, rfl, (Or.inl rfl), h⟩ (z_k3 hK1) (z_k3 hK2) dL_law_1293
                                      · replace h := h.2 c328
                                        refine lv_iconst (v := 0) hx hb dL_law_1275 (by decide) ?_
                                        exact z_zret X hB (Or.inl rfl) ⟨_, rfl, (Or.inl rfl), h⟩ (z_k3 hK1) (z_k3 hK2) dL_law_1276
                                    · by_cases c35_16 : ((xs x5.toNatClampNeg) &&& 31) = 16
                                      · replace h := h.2.2.2.2.2.2.2.2.2.2.2.2.2.2.2.2.1 c35_16
                                        refine lv_tableIn (off := 1252) (tgt := 1297) hx hb dL_law_45 (by rw [c35_16]; decide) (by rw [c35_16]; decide) (by rw [c35_16]; rfl) (by decide) ?_
                                        refine z_aload_n (x := x1) hx hb dL_law_1297 rfl (lv_at hl 1 rfl) ?_
                                        refine z_aload_n (x := x3) hx hb dL_law_1298 rfl (lv_at hl 3 rfl) ?_
                                        obtain ⟨kc333, ks334, g1, g2, h⟩ := h
                                        refine z_calli (z_runSW (rest := []) [va_rf x1, va_rf x3] pk_X0_idleAfter (met_X0_idleAfter x1 x3 kc333 ks334 _ h) X hB hB.2.2.2.2.2.2 q2928 rfl hl.1 (Nat.le_of_ble_eq_true rfl) dL_law_1299 (z_k1 hK1 g1) (z_k1 hK2 g2) (by decide) (by decide)) hB (fun _ h => h) (fun r332 T335 I336 Q337 H locs h9 hF hB => ?_)
                                        replace h := h9
                                        clear h9
                                        replace h := h hF
                                        replace hK1 := z_k2 hK1 g1
                                        replace hK2 := z_k2 hK2 g2
                                        refine lv_istore (lv' := [(6, .int r332), (0, .ref o), (1, va_rf x1), (2, va_rf x2), (3, va_rf x3), (4, va_rf x4), (5, .int x5)]) hx hb dL_law_1302 hl (by decide) rfl (fun ls hl9 => ?_)
                                        replace hl := hl9
                                        clear hl9
                                        refine z_aload_n (x := x2) hx hb dL_law_1304 rfl (lv_at hl 3 rfl) ?_
                                        obtain ⟨a338, rfl, h⟩ := h
                                        obtain ⟨b339, m340, hL, hM, h⟩ := h
                                        refine z_lawi (z_runV (rest := []) [] pk_X5_idleAfter (met_X5_idleAfter hL hM  _ h) X hB (by decide) q3633 kc_X5 (by decide) (by rw [hL.1]) rfl hl.1 (Nat.le_of_ble_eq_true rfl) dL_law_1305 (z_k4 hK1) (z_k4 hK2) (by decide) (by decide)) hB z_1L (fun r341 I343 H locs h9 hF hB => ?_)
                                        replace h := h9
                                        clear h9
                                        replace h := h I343 rfl hF
                                        refine lv_istore (lv' := [(7, .int r341), (6, .int r332), (0, .ref o), (1, va_rf x1), (2, .ref a338), (3, va_rf x3), (4, va_rf x4), (5, .int x5)]) hx hb dL_law_1308 hl (by decide) rfl (fun ls hl9 => ?_)
                                        replace hl := hl9
                                        clear hl9
                                        refine lv_aload_n (x := a338) hx hb dL_law_1310 rfl (lv_at hl 4 rfl) ?_
                                        obtain ⟨b344, m345, hL, hM, h⟩ := h
                                        refine z_lawi (z_runV (rest := []) [] pk_X5_thrown (met_X5_thrown hL hM  _ h) X hB (by decide) q3400 kc_X5 (by decide) (by rw [hL.1]) rfl hl.1 (Nat.le_of_ble_eq_true rfl) dL_law_1311 (z_k4 hK1) (z_k4 hK2) (by decide) (by decide)) hB z_1L (fun r346 I348 H locs h9 hF hB => ?_)
                                        replace h := h9
                                        clear h9
                                        obtain ⟨h, e9⟩ := h
                                        replace h := h I348 e9 hF
                                        refine lv_iload hx hb dL_law_1314 (lv_at hl 1 rfl) ?_
                                        refine lv_icmp_eq (tgt := 1321) hx hb dL_law_1316 (by decide) (fun c349 => ?_) (fun c349 => ?_)
                                        · replace h := h.1 c349
                                          refine lv_iload hx hb dL_law_1321 (lv_at hl 1 rfl) ?_
                                          refine lv_if_ne (tgt := 1338) hx hb dL_law_1323 (by decide) (fun c350 => ?_) (fun c350 => ?_)
                                          · replace h := h.1 c350
                                            exact ww_L_law_1338 X hS (fun hB hK1 hK2 hl h => ih hB hK1 hK2 hl h) hB hK1 hK2 (lv_sub hl [2, 3, 4, 5, 6, 7] rfl) h
                                          · replace h := h.2 c350
                                            refine z_aload_n (x := x3) hx hb dL_law_1326 rfl (lv_at hl 5 rfl) ?_
                                            refine lv_iconst (v := 0) hx hb dL_law_1327 (by decide) ?_
                                            obtain ⟨a351, rfl, h⟩ := h
                                            obtain ⟨hk_a351, h⟩ := h
                                            obtain ⟨h1, h⟩ := h
                                            refine z_lald X hB.1 hk_a351 h1 dL_law_1328 ?_
                                            refine lv_iload hx hb dL_law_1329 (lv_at hl 0 rfl) ?_
                                            refine lv_i2l hx hb dL_law_1331 rfl ?_
                                            refine z_lcmp hx hb dL_law_1332 ?_
                                            refine lv_if_eq (tgt := 1338) hx hb dL_law_1333 (by decide) (fun c352 => ?_) (fun c352 => ?_)
                                            · replace h := h.1 c352
                                              exact ww_L_law_1338 X hS (fun hB hK1 hK2 hl h => ih hB hK1 hK2 hl h) hB hK1 hK2 (lv_sub hl [2, 3, 4, 5, 6, 7] rfl) h
                                            · replace h := h.2 c352
                                              refine lv_iconst (v := 0) hx hb dL_law_1336 (by decide) ?_
                                              exact z_zret X hB (Or.inl rfl) ⟨_, rfl, (Or.inl rfl), h⟩ (z_k3 hK1) (z_k3 hK2) dL_law_1337
                                        · replace h := h.2 c349
                                          refine lv_iconst (v := 0) hx hb dL_law_1319 (by decide) ?_
                                          exact z_zret X hB (Or.inl rfl) ⟨_, rfl, (Or.inl rfl), h⟩ (z_k3 hK1) (z_k3 hK2) dL_law_1320
                                      · by_cases c35_17 : ((xs x5.toNatClampNeg) &&& 31) = 17
                                        · replace h := h.2.2.2.2.2.2.2.2.2.2.2.2.2.2.2.2.2.1 c35_17
                                          refine lv_tableIn (off := 1296) (tgt := 1341) hx hb dL_law_45 (by rw [c35_17]; decide) (by rw [c35_17]; decide) (by rw [c35_17]; rfl) (by decide) ?_
                                          refine z_aload_n (x := x1) hx hb dL_law_1341 rfl (lv_at hl 1 rfl) ?_
                                          obtain ⟨a353, rfl, h⟩ := h
                                          obtain ⟨hk_a353, h⟩ := h
                                          obtain ⟨kc355, ks356, g1, g2, h⟩ := h
                                          refine z_callz (z_runV (rest := []) [] pk_X1_isSafe (met_X1_isSafe a353 kc355 ks356 _ h) X hB z_R0 q1314 kc_X1 (by decide) hk_a353 rfl hl.1 (Nat.le_of_ble_eq_true rfl) dL_law_1342 (z_k1 hK1 g1) (z_k1 hK2 g2) (by decide) (by decide)) hB (fun _ h => z_RL h) (fun r354 T357 I358 Q359 H locs hz h9 hF hB => ?_)
                                          replace h := h9
                                          clear h9
                                          replace h := h hz hF
                                          have hk_a353 := z_tk hF hk_a353 (by decide)
                                          replace hK1 := z_k2 hK1 g1
                                          replace hK2 := z_k2 hK2 g2
                                          refine z_aload_n (x := x2) hx hb dL_law_1345 rfl (lv_at hl 2 rfl) ?_
                                          obtain ⟨a360, rfl, h⟩ := h
                                          obtain ⟨b361, m362, hL, hM, h⟩ := h
                                          refine z_lawz (z_runV (rest := [.int r354]) [] pk_X5_isSafe (met_X5_isSafe hL hM  _ h) X hB (by decide) q3637 kc_X5 (by decide) (by rw [hL.1]) rfl hl.1 (Nat.le_of_ble_eq_true rfl) dL_law_1346 (z_k4 hK1) (z_k4 hK2) (by decide) (by decide)) hB z_1L (fun r363 I365 H locs hz h9 hF hB => ?_)
                                          replace h := h9
                                          clear h9
                                          replace h := h hz I365 rfl hF
                                          refine lv_icmp_eq (tgt := 1824) hx hb dL_law_1349 (by decide) (fun c366 => ?_) (fun c366 => ?_)
                                          · replace h := h.1 c366
                                            exact ww_L_law_1824 X hS (fun hB hK1 hK2 hl h => ih hB hK1 hK2 hl h) hB hK1 hK2 (lv_sub hl [0, 1, 2, 3, 4, 5] rfl) h
                                          · replace h := h.2 c366
                                            refine lv_iconst (v := 0) hx hb dL_law_1352 (by decide) ?_
                                            exact z_zret X hB (Or.inl rfl) ⟨_, rfl, (Or.inl rfl), h⟩ (z_k3 hK1) (z_k3 hK2) dL_law_1353
                                        · by_cases c35_18 : ((xs x5.toNatClampNeg) &&& 31) = 18
                                          · replace h := h.2.2.2.2.2.2.2.2.2.2.2.2.2.2.2.2.2.2.1 c35_18
                                            refine lv_tableIn (off := 1309) (tgt := 1354) hx hb dL_law_45 (by rw [c35_18]; decide) (by rw [c35_18]; decide) (by rw [c35_18]; rfl) (by decide) ?_
                                            refine z_aload_n (x := x1) hx hb dL_law_1354 rfl (lv_at hl 1 rfl) ?_
                                            refine lv_aload_n (x := o) hx hb dL_law_1355 rfl (lv_at hl 0 rfl) ?_
                                            refine lv_iload hx hb dL_law_1356 (lv_at hl 5 rfl) ?_
                                            refine lv_iconst (v := 1) hx hb dL_law_1358 (by decide) ?_
                                            refine lv_iadd hx hb dL_law_1359 ?_
                                            obtain ⟨h1, h⟩ := h
                                            refine z_sld hS X hB h1 dL_law_1360 ?_
                                            refine lv_aload_n (x := o) hx hb dL_law_1361 rfl (lv_at hl 0 rfl) ?_
                                            refine lv_iload hx hb dL_law_1362 (lv_at hl 5 rfl) ?_
                                            refine lv_iconst (v := 2) hx hb dL_law_1364 (by decide) ?_
                                            refine lv_iadd hx hb dL_law_1365 ?_
                                            obtain ⟨h1, h⟩ := h
                                            refine z_sld hS X hB h1 dL_law_1366 ?_
                                            refine z_aload_n (x := x3) hx hb dL_law_1367 rfl (lv_at hl 3 rfl) ?_
                                            obtain ⟨kc368, ks369, g1, g2, h⟩ := h
                                            refine z_calli (z_runSW (rest := []) [va_rf x1, .int (xs (x5 + 1).toNatClampNeg), .int (xs (x5 + 2).toNatClampNeg), va_rf x3] pk_X0_entry (met_X0_entry x1 (xs (x5 + 1).toNatClampNeg) (xs (x5 + 2).toNatClampNeg) x3 kc368 ks369 _ h) X hB hB.2.2.2.2.2.2 q2940 rfl hl.1 (Nat.le_of_ble_eq_true rfl) dL_law_1368 (z_k1 hK1 g1) (z_k1 hK2 g2) (by decide) (by decide)) hB (fun _ h => h) (fun r367 T370 I371 Q372 H locs h9 hF hB => ?_)
                                            replace h := h9
                                            clear h9
                                            replace h := h hF
                                            replace hK1 := z_k2 hK1 g1
                                            replace hK2 := z_k2 hK2 g2
                                            refine lv_istore (lv' := [(6, .int r367), (0, .ref o), (1, va_rf x1), (2, va_rf x2), (3, va_rf x3), (4, va_rf x4), (5, .int x5)]) hx hb dL_law_1371 hl (by decide) rfl (fun ls hl9 => ?_)
                                            replace hl := hl9
                                            clear hl9
                                            refine z_aload_n (x := x2) hx hb dL_law_1373 rfl (lv_at hl 3 rfl) ?_
                                            refine lv_aload_n (x := o) hx hb dL_law_1374 rfl (lv_at hl 1 rfl) ?_
                                            refine lv_iload hx hb dL_law_1375 (lv_at hl 6 rfl) ?_
                                            refine lv_iconst (v := 1) hx hb dL_law_1377 (by decide) ?_
                                            refine lv_iadd hx hb dL_law_1378 ?_
                                            obtain ⟨h1, h⟩ := h
                                            refine z_sld hS X hB h1 dL_law_1379 ?_
                                            refine lv_aload_n (x := o) hx hb dL_law_1380 rfl (lv_at hl 1 rfl) ?_
                                            refine lv_iload hx hb dL_law_1381 (lv_at hl 6 rfl) ?_
                                            refine lv_iconst (v := 2) hx hb dL_law_1383 (by decide) ?_
                                            refine lv_iadd hx hb dL_law_1384 ?_
                                            obtain ⟨h1, h⟩ := h
                                            refine z_sld hS X hB h1 dL_law_1385 ?_
                                            obtain ⟨a373, rfl, h⟩ := h
                                            obtain ⟨b374, m375, hL, hM, h⟩ := h
                                            refine z_lawi (z_runV (rest := []) [.int (xs (x5 + 1).toNatClampNeg), .int (xs (x5 + 2).toNatClampNeg)] pk_X5_entry (met_X5_entry hL hM (xs (x5 + 1).toNatClampNeg) (xs (x5 + 2).toNatClampNeg) _ h) X hB (by decide) q3641 kc_X5 (by decide) (by rw [hL.1]) rfl hl.1 (Nat.le_of_ble_eq_true rfl) dL_law_1386 (z_k4 hK1) (z_k4 hK2) (by decide) (by decide)) hB z_1L (fun r376 I378 H locs h9 hF hB => ?_)
                                            replace h := h9
                                            clear h9
                                            replace h := h I378 rfl hF
                                            refine lv_istore (lv' := [(7, .int r376), (6, .int r367), (0, .ref o), (1, va_rf x1), (2, .ref a373), (3, va_rf x3), (4, va_rf x4), (5, .int x5)]) hx hb dL_law_1389 hl (by decide) rfl (fun ls hl9 => ?_)
                                            replace hl := hl9
                                            clear hl9
                                            refine lv_aload_n (x := a373) hx hb dL_law_1391 rfl (lv_at hl 4 rfl) ?_
                                            obtain ⟨b379, m380, hL, hM, h⟩ := h
                                            refine z_lawi (z_runV (rest := []) [] pk_X5_thrown (met_X5_thrown hL hM  _ h) X hB (by decide) q3400 kc_X5 (by decide) (by rw [hL.1]) rfl hl.1 (Nat.le_of_ble_eq_true rfl) dL_law_1392 (z_k4 hK1) (z_k4 hK2) (by decide) (by decide)) hB z_1L (fun r381 I383 H locs h9 hF hB => ?_)
                                            replace h := h9
                                            clear h9
                                            obtain ⟨h, e9⟩ := h
                                            replace h := h I383 e9 hF
                                            refine lv_iload hx hb dL_law_1395 (lv_at hl 1 rfl) ?_
                                            refine lv_icmp_eq (tgt := 1402) hx hb dL_law_1397 (by decide) (fun c384 => ?_) (fun c384 => ?_)
                                            · replace h := h.1 c384
                                              refine lv_iload hx hb dL_law_1402 (lv_at hl 1 rfl) ?_
                                              refine lv_if_ne (tgt := 1419) hx hb dL_law_1404 (by decide) (fun c385 => ?_) (fun c385 => ?_)
                                              · replace h := h.1 c385
                                                exact ww_L_law_1419 X hS (fun hB hK1 hK2 hl h => ih hB hK1 hK2 hl h) hB hK1 hK2 (lv_sub hl [2, 3, 4, 5, 6, 7] rfl) h
                                              · replace h := h.2 c385
                                                refine z_aload_n (x := x3) hx hb dL_law_1407 rfl (lv_at hl 5 rfl) ?_
                                                refine lv_iconst (v := 0) hx hb dL_law_1408 (by decide) ?_
                                                obtain ⟨a386, rfl, h⟩ := h
                                                obtain ⟨hk_a386, h⟩ := h
                                                obtain ⟨h1, h⟩ := h
                                                refine z_lald X hB.1 hk_a386 h1 dL_law_1409 ?_
                                                refine lv_iload hx hb dL_law_1410 (lv_at hl 0 rfl) ?_
                                                refine lv_i2l hx hb dL_law_1412 rfl ?_
                                                refine z_lcmp hx hb dL_law_1413 ?_
                                                refine lv_if_eq (tgt := 1419) hx hb dL_law_1414 (by decide) (fun c387 => ?_) (fun c387 => ?_)
                                                · replace h := h.1 c387
                                                  exact ww_L_law_1419 X hS (fun hB hK1 hK2 hl h => ih hB hK1 hK2 hl h) hB hK1 hK2 (lv_sub hl [2, 3, 4, 5, 6, 7] rfl) h
                                                · replace h := h.2 c387
                                                  refine lv_iconst (v := 0) hx hb dL_law_1417 (by decide) ?_
                                                  exact z_zret X hB (Or.inl rfl) ⟨_, rfl, (Or.inl rfl), h⟩ (z_k3 hK1) (z_k3 hK2) dL_law_1418
                                            · replace h := h.2 c384
                                              refine lv_iconst (v := 0) hx hb dL_law_1400 (by decide) ?_
                                              exact z_zret X hB (Or.inl rfl) ⟨_, rfl, (Or.inl rfl), h⟩ (z_k3 hK1) (z_k3 hK2) dL_law_1401
                                          · by_cases c35_19 : ((xs x5.toNatClampNeg) &&& 31) = 19
                                            · replace h := h.2.2.2.2.2.2.2.2.2.2.2.2.2.2.2.2.2.2.2.1 c35_19
                                              refine lv_tableIn (off := 1377) (tgt := 1422) hx hb dL_law_45 (by rw [c35_19]; decide) (by rw [c35_19]; decide) (by rw [c35_19]; rfl) (by decide) ?_
                                              refine z_aload_n (x := x1) hx hb dL_law_1422 rfl (lv_at hl 1 rfl) ?_
                                              refine lv_aload_n (x := o) hx hb dL_law_1423 rfl (lv_at hl 0 rfl) ?_
                                              refine lv_iload hx hb dL_law_1424 (lv_at hl 5 rfl) ?_
                                              refine lv_iconst (v := 1) hx hb dL_law_1426 (by decide) ?_
                                              refine lv_iadd hx hb dL_law_1427 ?_
                                              obtain ⟨h1, h⟩ := h
                                              refine z_sld hS X hB h1 dL_law_1428 ?_
                                              refine z_aload_n (x := x3) hx hb dL_law_1429 rfl (lv_at hl 3 rfl) ?_
                                              obtain ⟨kc389, ks390, g1, g2, h⟩ := h
                                              refine z_calli (z_runSW (rest := []) [va_rf x1, .int (xs (x5 + 1).toNatClampNeg), va_rf x3] pk_X0_account (met_X0_account x1 (xs (x5 + 1).toNatClampNeg) x3 kc389 ks390 _ h) X hB hB.2.2.2.2.2.2 q2952 rfl hl.1 (Nat.le_of_ble_eq_true rfl) dL_law_1430 (z_k1 hK1 g1) (z_k1 hK2 g2) (by decide) (by decide)) hB (fun _ h => h) (fun r388 T391 I392 Q393 H locs h9 hF hB => ?_)
                                              replace h := h9
                                              clear h9
                                              replace h := h hF
                                              replace hK1 := z_k2 hK1 g1
                                              replace hK2 := z_k2 hK2 g2
                                              refine lv_istore (lv' := [(6, .int r388), (0, .ref o), (1, va_rf x1), (2, va_rf x2), (3, va_rf x3), (4, va_rf x4), (5, .int x5)]) hx hb dL_law_1433 hl (by decide) rfl (fun ls hl9 => ?_)
                                              replace hl := hl9
                                              clear hl9
                                              refine z_aload_n (x := x2) hx hb dL_law_1435 rfl (lv_at hl 3 rfl) ?_
                                              refine lv_aload_n (x := o) hx hb dL_law_1436 rfl (lv_at hl 1 rfl) ?_
                                              refine lv_iload hx hb dL_law_1437 (lv_at hl 6 rfl) ?_
                                              refine lv_iconst (v := 1) hx hb dL_law_1439 (by decide) ?_
                                              refine lv_iadd hx hb dL_law_1440 ?_
                                              obtain ⟨h1, h⟩ := h
                                              refine z_sld hS X hB h1 dL_law_1441 ?_
                                              obtain ⟨a394, rfl, h⟩ := h
                                              obtain ⟨b395, m396, hL, hM, h⟩ := h
                                              refine z_lawi (z_runV (rest := []) [.int (xs (x5 + 1).toNatClampNeg)] pk_X5_account (met_X5_account hL hM (xs (x5 + 1).toNatClampNeg) _ h) X hB (by decide) q3645 kc_X5 (by decide) (by rw [hL.1]) rfl hl.1 (Nat.le_of_ble_eq_true rfl) dL_law_1442 (z_k4 hK1) (z_k4 hK2) (by decide) (by decide)) hB z_1L (fun r397 I399 H locs h9 hF hB => ?_)
                                              replace h := h9
                                              clear h9
                                              replace h := h I399 rfl hF
                                              refine lv_istore (lv' := [(7, .int r397), (6, .int r388), (0, .ref o), (1, va_rf x1), (2, .ref a394), (3, va_rf x3), (4, va_rf x4), (5, .int x5)]) hx hb dL_law_1445 hl (by decide) rfl (fun ls hl9 => ?_)
                                              replace hl := hl9
                                              clear hl9
                                              refine lv_aload_n (x := a394) hx hb dL_law_1447 rfl (lv_at hl 4 rfl) ?_
                                              obtain ⟨b400, m401, hL, hM, h⟩ := h
                                              refine z_lawi (z_runV (rest := []) [] pk_X5_thrown (met_X5_thrown hL hM  _ h) X hB (by decide) q3400 kc_X5 (by decide) (by rw [hL.1]) rfl hl.1 (Nat.le_of_ble_eq_true rfl) dL_law_1448 (z_k4 hK1) (z_k4 hK2) (by decide) (by decide)) hB z_1L (fun r402 I404 H locs h9 hF hB => ?_)
                                              replace h := h9
                                              clear h9
                                              obtain ⟨h, e9⟩ := h
                                              replace h := h I404 e9 hF
                                              refine lv_iload hx hb dL_law_1451 (lv_at hl 1 rfl) ?_
                                              refine lv_icmp_eq (tgt := 1458) hx hb dL_law_1453 (by decide) (fun c405 => ?_) (fun c405 => ?_)
                                              · replace h := h.1 c405
                                                refine lv_iload hx hb dL_law_1458 (lv_at hl 1 rfl) ?_
                                                refine lv_if_ne (tgt := 1475) hx hb dL_law_1460 (by decide) (fun c406 => ?_) (fun c406 => ?_)
                                                · replace h := h.1 c406
                                                  exact ww_L_law_1475 X hS (fun hB hK1 hK2 hl h => ih hB hK1 hK2 hl h) hB hK1 hK2 (lv_sub hl [2, 3, 4, 5, 6, 7] rfl) h
                                                · replace h := h.2 c406
                                                  refine z_aload_n (x := x3) hx hb dL_law_1463 rfl (lv_at hl 5 rfl) ?_
                                                  refine lv_iconst (v := 0) hx hb dL_law_1464 (by decide) ?_
                                                  obtain ⟨a407, rfl, h⟩ := h
                                                  obtain ⟨hk_a407, h⟩ := h
                                                  obtain ⟨h1, h⟩ := h
                                                  refine z_lald X hB.1 hk_a407 h1 dL_law_1465 ?_
                                                  refine lv_iload hx hb dL_law_1466 (lv_at hl 0 rfl) ?_
                                                  refine lv_i2l hx hb dL_law_1468 rfl ?_
                                                  refine z_lcmp hx hb dL_law_1469 ?_
                                                  refine lv_if_eq (tgt := 1475) hx hb dL_law_1470 (by decide) (fun c408 => ?_) (fun c408 => ?_)
                                                  · replace h := h.1 c408
                                                    exact ww_L_law_1475 X hS (fun hB hK1 hK2 hl h => ih hB hK1 hK2 hl h) hB hK1 hK2 (lv_sub hl [2, 3, 4, 5, 6, 7] rfl) h
                                                  · replace h := h.2 c408
                                                    refine lv_iconst (v := 0) hx hb dL_law_1473 (by decide) ?_
                                                    exact z_zret X hB (Or.inl rfl) ⟨_, rfl, (Or.inl rfl), h⟩ (z_k3 hK1) (z_k3 hK2) dL_law_1474
                                              · replace h := h.2 c405
                                                refine lv_iconst (v := 0) hx hb dL_law_1456 (by decide) ?_
                                                exact z_zret X hB (Or.inl rfl) ⟨_, rfl, (Or.inl rfl), h⟩ (z_k3 hK1) (z_k3 hK2) dL_law_1457
                                            · by_cases c35_20 : ((xs x5.toNatClampNeg) &&& 31) = 20
                                              · replace h := h.2.2.2.2.2.2.2.2.2.2.2.2.2.2.2.2.2.2.2.2.1 c35_20
                                                refine lv_tableIn (off := 1433) (tgt := 1478) hx hb dL_law_45 (by rw [c35_20]; decide) (by rw [c35_20]; decide) (by rw [c35_20]; rfl) (by decide) ?_
                                                refine z_aload_n (x := x1) hx hb dL_law_1478 rfl (lv_at hl 1 rfl) ?_
                                                refine lv_aload_n (x := o) hx hb dL_law_1479 rfl (lv_at hl 0 rfl) ?_
                                                refine lv_iload hx hb dL_law_1480 (lv_at hl 5 rfl) ?_
                                                refine lv_iconst (v := 1) hx hb dL_law_1482 (by decide) ?_
                                                refine lv_iadd hx hb dL_law_1483 ?_
                                                obtain ⟨h1, h⟩ := h
                                                refine z_sld hS X hB h1 dL_law_1484 ?_
                                                refine z_aload (x := x4) hx hb dL_law_1485 (lv_at hl 4 rfl) ?_
                                                obtain ⟨kc410, ks411, g1, g2, h⟩ := h
                                                refine z_calli (z_runSW (rest := []) [va_rf x1, .int (xs (x5 + 1).toNatClampNeg), va_rf x4] pk_X0_use (met_X0_use x1 (xs (x5 + 1).toNatClampNeg) x4 kc410 ks411 _ h) X hB hB.2.2.2.2.2.2 q2978 rfl hl.1 (Nat.le_of_ble_eq_true rfl) dL_law_1487 (z_k1 hK1 g1) (z_k1 hK2 g2) (by decide) (by decide)) hB (fun _ h => h) (fun r409 T412 I413 Q414 H locs h9 hF hB => ?_)
                                                replace h := h9
                                                clear h9
                                                replace h := h hF
                                                replace hK1 := z_k2 hK1 g1
                                                replace hK2 := z_k2 hK2 g2
                                                refine lv_istore (lv' := [(6, .int r409), (0, .ref o), (1, va_rf x1), (2, va_rf x2), (3, va_rf x3), (4, va_rf x4), (5, .int x5)]) hx hb dL_law_1490 hl (by decide) rfl (fun ls hl9 => ?_)
                                                replace hl := hl9
                                                clear hl9
                                                refine z_aload_n (x := x2) hx hb dL_law_1492 rfl (lv_at hl 3 rfl) ?_
                                                refine lv_aload_n (x := o) hx hb dL_law_1493 rfl (lv_at hl 1 rfl) ?_
                                                refine lv_iload hx hb dL_law_1494 (lv_at hl 6 rfl) ?_
                                                refine lv_iconst (v := 1) hx hb dL_law_1496 (by decide) ?_
                                                refine lv_iadd hx hb dL_law_1497 ?_
                                                obtain ⟨h1, h⟩ := h
                                                refine z_sld hS X hB h1 dL_law_1498 ?_
                                                obtain ⟨a415, rfl, h⟩ := h
                                                obtain ⟨b416, m417, hL, hM, h⟩ := h
                                                refine z_lawf (z_runV (rest := []) [.int (xs (x5 + 1).toNatClampNeg)] pk_X5_use (met_X5_use hL hM (xs (x5 + 1).toNatClampNeg) _ h) X hB (by decide) q3656 kc_X5 (by decide) (by rw [hL.1]) rfl hl.1 (Nat.le_of_ble_eq_true rfl) dL_law_1499 (z_k4 hK1) (z_k4 hK2) (by decide) (by decide)) hB z_1L (fun r418 I420 H locs h9 hF hB => ?_)
                                                replace h := h9
                                                clear h9
                                                replace h := h I420 rfl hF
                                                refine lv_fstore (lv' := [(7, .float r418), (6, .int r409), (0, .ref o), (1, va_rf x1), (2, .ref a415), (3, va_rf x3), (4, va_rf x4), (5, .int x5)]) hx hb dL_law_1502 hl (by decide) rfl (fun ls hl9 => ?_)
                                                replace hl := hl9
                                                clear hl9
                                                refine lv_aload_n (x := a415) hx hb dL_law_1504 rfl (lv_at hl 4 rfl) ?_
                                                obtain ⟨b421, m422, hL, hM, h⟩ := h
                                                refine z_lawi (z_runV (rest := []) [] pk_X5_thrown (met_X5_thrown hL hM  _ h) X hB (by decide) q3400 kc_X5 (by decide) (by rw [hL.1]) rfl hl.1 (Nat.le_of_ble_eq_true rfl) dL_law_1505 (z_k4 hK1) (z_k4 hK2) (by decide) (by decide)) hB z_1L (fun r423 I425 H locs h9 hF hB => ?_)
                                                replace h := h9
                                                clear h9
                                                obtain ⟨h, e9⟩ := h
                                                replace h := h I425 e9 hF
                                                refine lv_iload hx hb dL_law_1508 (lv_at hl 1 rfl) ?_
                                                refine lv_icmp_eq (tgt := 1515) hx hb dL_law_1510 (by decide) (fun c426 => ?_) (fun c426 => ?_)
                                                · replace h := h.1 c426
                                                  refine lv_iload hx hb dL_law_1515 (lv_at hl 1 rfl) ?_
                                                  refine lv_if_ne (tgt := 1553) hx hb dL_law_1517 (by decide) (fun c427 => ?_) (fun c427 => ?_)
                                                  · replace h := h.1 c427
                                                    exact ww_L_law_1553 X hS (fun hB hK1 hK2 hl h => ih hB hK1 hK2 hl h) hB hK1 hK2 (lv_sub hl [2, 3, 4, 5, 6, 7] rfl) h
                                                  · replace h := h.2 c427
                                                    refine z_aload (x := x4) hx hb dL_law_1520 (lv_at hl 6 rfl) ?_
                                                    refine lv_iconst (v := 0) hx hb dL_law_1522 (by decide) ?_
                                                    obtain ⟨a428, rfl, h⟩ := h
                                                    obtain ⟨hk_a428, h⟩ := h
                                                    obtain ⟨h1, h⟩ := h
                                                    refine z_dald X hB.1 hk_a428 h1 dL_law_1523 ?_
                                                    refine lv_fload hx hb dL_law_1524 (lv_at hl 0 rfl) ?_
                                                    obtain ⟨hn, h⟩ := h
                                                    refine lv_f2d hx hb dL_law_1526 hn ?_
                                                    refine lv_dcmp hx hb dL_law_1527 ?_
                                                    refine lv_if_eq (tgt := 1553) hx hb dL_law_1528 (by decide) (fun c429 => ?_) (fun c429 => ?_)
                                                    · replace h := h.1 c429
                                                      exact ww_L_law_1553 X hS (fun hB hK1 hK2 hl h => ih hB hK1 hK2 hl h) hB hK1 hK2 (lv_sub hl [2, 3, 4, 5, 6, 7] rfl) h
                                                    · replace h := h.2 c429
                                                      refine lv_aload (x := a428) hx hb dL_law_1531 (lv_at hl 6 rfl) ?_
                                                      refine lv_iconst (v := 0) hx hb dL_law_1533 (by decide) ?_
                                                      obtain ⟨h1, h⟩ := h
                                                      refine z_dald X hB.1 hk_a428 h1 dL_law_1534 ?_
                                                      refine lv_aload (x := a428) hx hb dL_law_1535 (lv_at hl 6 rfl) ?_
                                                      refine lv_iconst (v := 0) hx hb dL_law_1537 (by decide) ?_
                                                      obtain ⟨h1, h⟩ := h
                                                      refine z_dald X hB.1 hk_a428 h1 dL_law_1538 ?_
                                                      refine lv_dcmp hx hb dL_law_1539 ?_
                                                      refine lv_if_eq (tgt := 1551) hx hb dL_law_1540 (by decide) (fun c430 => ?_) (fun c430 => ?_)
                                                      · replace h := h.1 c430
                                                        exact ww_L_law_1551 X hS  hB hK1 hK2 (lv_sub hl [] rfl) h
                                                      · replace h := h.2 c430
                                                        refine lv_fload hx hb dL_law_1543 (lv_at hl 0 rfl) ?_
                                                        refine lv_fload hx hb dL_law_1545 (lv_at hl 0 rfl) ?_
                                                        refine lv_fcmp hx hb dL_law_1547 ?_
                                                        refine lv_if_ne (tgt := 1553) hx hb dL_law_1548 (by decide) (fun c431 => ?_) (fun c431 => ?_)
                                                        · replace h := h.1 c431
                                                          exact ww_L_law_1553 X hS (fun hB hK1 hK2 hl h => ih hB hK1 hK2 hl h) hB hK1 hK2 (lv_sub hl [2, 3, 4, 5, 6, 7] rfl) h
                                                        · replace h := h.2 c431
                                                          exact ww_L_law_1551 X hS  hB hK1 hK2 (lv_sub hl [] rfl) h
                                                · replace h := h.2 c426
                                                  refine lv_iconst (v := 0) hx hb dL_law_1513 (by decide) ?_
                                                  exact z_zret X hB (Or.inl rfl) ⟨_, rfl, (Or.inl rfl), h⟩ (z_k3 hK1) (z_k3 hK2) dL_law_1514
                                              · by_cases c35_21 : ((xs x5.toNatClampNeg) &&& 31) = 21
                                                · replace h := h.2.2.2.2.2.2.2.2.2.2.2.2.2.2.2.2.2.2.2.2.2.1 c35_21
                                                  refine lv_tableIn (off := 1511) (tgt := 1556) hx hb dL_law_45 (by rw [c35_21]; decide) (by rw [c35_21]; decide) (by rw [c35_21]; rfl) (by decide) ?_
                                                  refine z_aload_n (x := x1) hx hb dL_law_1556 rfl (lv_at hl 1 rfl) ?_
                                                  refine z_aload (x := x4) hx hb dL_law_1557 (lv_at hl 4 rfl) ?_
                                                  obtain ⟨kc433, ks434, g1, g2, h⟩ := h
                                                  refine z_calli (z_runSW (rest := []) [va_rf x1, va_rf x4] pk_X0_meanDuration (met_X0_meanDuration x1 x4 kc433 ks434 _ h) X hB hB.2.2.2.2.2.2 q3004 rfl hl.1 (Nat.le_of_ble_eq_true rfl) dL_law_1559 (z_k1 hK1 g1) (z_k1 hK2 g2) (by decide) (by decide)) hB (fun _ h => h) (fun r432 T435 I436 Q437 H locs h9 hF hB => ?_)
                                                  replace h := h9
                                                  clear h9
                                                  replace h := h hF
                                                  replace hK1 := z_k2 hK1 g1
                                                  replace hK2 := z_k2 hK2 g2
                                                  refine lv_istore (lv' := [(6, .int r432), (0, .ref o), (1, va_rf x1), (2, va_rf x2), (3, va_rf x3), (4, va_rf x4), (5, .int x5)]) hx hb dL_law_1562 hl (by decide) rfl (fun ls hl9 => ?_)
                                                  replace hl := hl9
                                                  clear hl9
                                                  refine z_aload_n (x := x2) hx hb dL_law_1564 rfl (lv_at hl 3 rfl) ?_
                                                  obtain ⟨a438, rfl, h⟩ := h
                                                  obtain ⟨b439, m440, hL, hM, h⟩ := h
                                                  refine z_lawd (z_runV (rest := []) [] pk_X5_meanDuration (met_X5_meanDuration hL hM  _ h) X hB (by decide) q3660 kc_X5 (by decide) (by rw [hL.1]) rfl hl.1 (Nat.le_of_ble_eq_true rfl) dL_law_1565 (z_k4 hK1) (z_k4 hK2) (by decide) (by decide)) hB z_1L (fun r441 I443 H locs h9 hF hB => ?_)
                                                  replace h := h9
                                                  clear h9
                                                  replace h := h I443 rfl hF
                                                  refine lv_dstore (lv' := [(7, .double r441), (6, .int r432), (0, .ref o), (1, va_rf x1), (2, .ref a438), (3, va_rf x3), (4, va_rf x4), (5, .int x5)]) hx hb dL_law_1568 hl (by decide) rfl (fun ls hl9 => ?_)
                                                  replace hl := hl9
                                                  clear hl9
                                                  refine lv_aload_n (x := a438) hx hb dL_law_1570 rfl (lv_at hl 4 rfl) ?_
                                                  obtain ⟨b444, m445, hL, hM, h⟩ := h
                                                  refine z_lawi (z_runV (rest := []) [] pk_X5_thrown (met_X5_thrown hL hM  _ h) X hB (by decide) q3400 kc_X5 (by decide) (by rw [hL.1]) rfl hl.1 (Nat.le_of_ble_eq_true rfl) dL_law_1571 (z_k4 hK1) (z_k4 hK2) (by decide) (by decide)) hB z_1L (fun r446 I448 H locs h9 hF hB => ?_)
                                                  replace h := h9
                                                  clear h9
                                                  obtain ⟨h, e9⟩ := h
                                                  replace h := h I448 e9 hF
                                                  refine lv_iload hx hb dL_law_1574 (lv_at hl 1 rfl) ?_
                                                  refine lv_icmp_eq (tgt := 1581) hx hb dL_law_1576 (by decide) (fun c449 => ?_) (fun c449 => ?_)
                                                  · replace h := h.1 c449
                                                    refine lv_iload hx hb dL_law_1581 (lv_at hl 1 rfl) ?_
                                                    refine lv_if_ne (tgt := 1618) hx hb dL_law_1583 (by decide) (fun c450 => ?_) (fun c450 => ?_)
                                                    · replace h := h.1 c450
                                                      exact ww_L_law_1618 X hS (fun hB hK1 hK2 hl h => ih hB hK1 hK2 hl h) hB hK1 hK2 (lv_sub hl [2, 3, 4, 5, 6, 7] rfl) h
                                                    · replace h := h.2 c450
                                                      refine z_aload (x := x4) hx hb dL_law_1586 (lv_at hl 6 rfl) ?_
                                                      refine lv_iconst (v := 0) hx hb dL_law_1588 (by decide) ?_
                                                      obtain ⟨a451, rfl, h⟩ := h
                                                      obtain ⟨hk_a451, h⟩ := h
                                                      obtain ⟨h1, h⟩ := h
                                                      refine z_dald X hB.1 hk_a451 h1 dL_law_1589 ?_
                                                      refine lv_dload hx hb dL_law_1590 (lv_at hl 0 rfl) ?_
                                                      refine lv_dcmp hx hb dL_law_1592 ?_
                                                      refine lv_if_eq (tgt := 1618) hx hb dL_law_1593 (by decide) (fun c452 => ?_) (fun c452 => ?_)
                                                      · replace h := h.1 c452
                                                        exact ww_L_law_1618 X hS (fun hB hK1 hK2 hl h => ih hB hK1 hK2 hl h) hB hK1 hK2 (lv_sub hl [2, 3, 4, 5, 6, 7] rfl) h
                                                      · replace h := h.2 c452
                                                        refine lv_aload (x := a451) hx hb dL_law_1596 (lv_at hl 6 rfl) ?_
                                                        refine lv_iconst (v := 0) hx hb dL_law_1598 (by decide) ?_
                                                        obtain ⟨h1, h⟩ := h
                                                        refine z_dald X hB.1 hk_a451 h1 dL_law_1599 ?_
                                                        refine lv_aload (x := a451) hx hb dL_law_1600 (lv_at hl 6 rfl) ?_
                                                        refine lv_iconst (v := 0) hx hb dL_law_1602 (by decide) ?_
                                                        obtain ⟨h1, h⟩ := h
                                                        refine z_dald X hB.1 hk_a451 h1 dL_law_1603 ?_
                                                        refine lv_dcmp hx hb dL_law_1604 ?_
                                                        refine lv_if_eq (tgt := 1616) hx hb dL_law_1605 (by decide) (fun c453 => ?_) (fun c453 => ?_)
                                                        · replace h := h.1 c453
                                                          exact ww_L_law_1616 X hS  hB hK1 hK2 (lv_sub hl [] rfl) h
                                                        · replace h := h.2 c453
                                                          refine lv_dload hx hb dL_law_1608 (lv_at hl 0 rfl) ?_
                                                          refine lv_dload hx hb dL_law_1610 (lv_at hl 0 rfl) ?_
                                                          refine lv_dcmp hx hb dL_law_1612 ?_
                                                          refine lv_if_ne (tgt := 1618) hx hb dL_law_1613 (by decide) (fun c454 => ?_) (fun c454 => ?_)
                                                          · replace h := h.1 c454
                                                            exact ww_L_law_1618 X hS (fun hB hK1 hK2 hl h => ih hB hK1 hK2 hl h) hB hK1 hK2 (lv_sub hl [2, 3, 4, 5, 6, 7] rfl) h
                                                          · replace h := h.2 c454
                                                            exact ww_L_law_1616 X hS  hB hK1 hK2 (lv_sub hl [] rfl) h
                                                  · replace h := h.2 c449
                                                    refine lv_iconst (v := 0) hx hb dL_law_1579 (by decide) ?_
                                                    exact z_zret X hB (Or.inl rfl) ⟨_, rfl, (Or.inl rfl), h⟩ (z_k3 hK1) (z_k3 hK2) dL_law_1580
                                                · by_cases c35_22 : ((xs x5.toNatClampNeg) &&& 31) = 22
                                                  · replace h := h.2.2.2.2.2.2.2.2.2.2.2.2.2.2.2.2.2.2.2.2.2.2.1 c35_22
                                                    refine lv_tableIn (off := 1576) (tgt := 1621) hx hb dL_law_45 (by rw [c35_22]; decide) (by rw [c35_22]; decide) (by rw [c35_22]; rfl) (by decide) ?_
                                                    refine z_aload_n (x := x1) hx hb dL_law_1621 rfl (lv_at hl 1 rfl) ?_
                                                    refine lv_aload_n (x := o) hx hb dL_law_1622 rfl (lv_at hl 0 rfl) ?_
                                                    refine lv_iload hx hb dL_law_1623 (lv_at hl 5 rfl) ?_
                                                    refine lv_iconst (v := 1) hx hb dL_law_1625 (by decide) ?_
                                                    refine lv_iadd hx hb dL_law_1626 ?_
                                                    obtain ⟨h1, h⟩ := h
                                                    refine z_sld hS X hB h1 dL_law_1627 ?_
                                                    refine lv_i2c hx hb dL_law_1628 rfl ?_
                                                    refine z_aload_n (x := x3) hx hb dL_law_1629 rfl (lv_at hl 3 rfl) ?_
                                                    obtain ⟨kc456, ks457, g1, g2, h⟩ := h
                                                    refine z_calli (z_runSW (rest := []) [va_rf x1, .int (((xs (x5 + 1).toNatClampNeg).toUInt32 % 65536).toInt32), va_rf x3] pk_X0_feed (met_X0_feed x1 (((xs (x5 + 1).toNatClampNeg).toUInt32 % 65536).toInt32) x3 kc456 ks457 _ h) X hB hB.2.2.2.2.2.2 q3011 rfl hl.1 (Nat.le_of_ble_eq_true rfl) dL_law_1630 (z_k1 hK1 g1) (z_k1 hK2 g2) (by decide) (by decide)) hB (fun _ h => h) (fun r455 T458 I459 Q460 H locs h9 hF hB => ?_)
                                                    replace h := h9
                                                    clear h9
                                                    replace h := h hF
                                                    replace hK1 := z_k2 hK1 g1
                                                    replace hK2 := z_k2 hK2 g2
                                                    refine lv_istore (lv' := [(6, .int r455), (0, .ref o), (1, va_rf x1), (2, va_rf x2), (3, va_rf x3), (4, va_rf x4), (5, .int x5)]) hx hb dL_law_1633 hl (by decide) rfl (fun ls hl9 => ?_)
                                                    replace hl := hl9
                                                    clear hl9
                                                    refine z_aload_n (x := x2) hx hb dL_law_1635 rfl (lv_at hl 3 rfl) ?_
                                                    refine lv_aload_n (x := o) hx hb dL_law_1636 rfl (lv_at hl 1 rfl) ?_
                                                    refine lv_iload hx hb dL_law_1637 (lv_at hl 6 rfl) ?_
                                                    refine lv_iconst (v := 1) hx hb dL_law_1639 (by decide) ?_
                                                    refine lv_iadd hx hb dL_law_1640 ?_
                                                    obtain ⟨h1, h⟩ := h
                                                    refine z_sld hS X hB h1 dL_law_1641 ?_
                                                    refine lv_i2c hx hb dL_law_1642 rfl ?_
                                                    obtain ⟨a461, rfl, h⟩ := h
                                                    obtain ⟨b462, m463, hL, hM, h⟩ := h
                                                    refine z_lawi (z_runV (rest := []) [.int (((xs (x5 + 1).toNatClampNeg).toUInt32 % 65536).toInt32)] pk_X5_feed (met_X5_feed hL hM (((xs (x5 + 1).toNatClampNeg).toUInt32 % 65536).toInt32) _ h) X hB (by decide) q3664 kc_X5 (by decide) (by rw [hL.1]) rfl hl.1 (Nat.le_of_ble_eq_true rfl) dL_law_1643 (z_k4 hK1) (z_k4 hK2) (by decide) (by decide)) hB z_1L (fun r464 I466 H locs h9 hF hB => ?_)
                                                    replace h := h9
                                                    clear h9
                                                    replace h := h I466 rfl hF
                                                    refine lv_istore (lv' := [(7, .int r464), (6, .int r455), (0, .ref o), (1, va_rf x1), (2, .ref a461), (3, va_rf x3), (4, va_rf x4), (5, .int x5)]) hx hb dL_law_1646 hl (by decide) rfl (fun ls hl9 => ?_)
                                                    replace hl := hl9
                                                    clear hl9
                                                    refine lv_aload_n (x := a461) hx hb dL_law_1648 rfl (lv_at hl 4 rfl) ?_
                                                    obtain ⟨b467, m468, hL, hM, h⟩ := h
                                                    refine z_lawi (z_runV (rest := []) [] pk_X5_thrown (met_X5_thrown hL hM  _ h) X hB (by decide) q3400 kc_X5 (by decide) (by rw [hL.1]) rfl hl.1 (Nat.le_of_ble_eq_true rfl) dL_law_1649 (z_k4 hK1) (z_k4 hK2) (by decide) (by decide)) hB z_1L (fun r469 I471 H locs h9 hF hB => ?_)
                                                    replace h := h9
                                                    clear h9
                                                    obtain ⟨h, e9⟩ := h
                                                    replace h := h I471 e9 hF
                                                    refine lv_iload hx hb dL_law_1652 (lv_at hl 1 rfl) ?_
                                                    refine lv_icmp_eq (tgt := 1659) hx hb dL_law_1654 (by decide) (fun c472 => ?_) (fun c472 => ?_)
                                                    · replace h := h.1 c472
                                                      refine lv_iload hx hb dL_law_1659 (lv_at hl 1 rfl) ?_
                                                      refine lv_if_ne (tgt := 1676) hx hb dL_law_1661 (by decide) (fun c473 => ?_) (fun c473 => ?_)
                                                      · replace h := h.1 c473
                                                        exact ww_L_law_1676 X hS (fun hB hK1 hK2 hl h => ih hB hK1 hK2 hl h) hB hK1 hK2 (lv_sub hl [2, 3, 4, 5, 6, 7] rfl) h
                                                      · replace h := h.2 c473
                                                        refine z_aload_n (x := x3) hx hb dL_law_1664 rfl (lv_at hl 5 rfl) ?_
                                                        refine lv_iconst (v := 0) hx hb dL_law_1665 (by decide) ?_
                                                        obtain ⟨a474, rfl, h⟩ := h
                                                        obtain ⟨hk_a474, h⟩ := h
                                                        obtain ⟨h1, h⟩ := h
                                                        refine z_lald X hB.1 hk_a474 h1 dL_law_1666 ?_
                                                        refine lv_iload hx hb dL_law_1667 (lv_at hl 0 rfl) ?_
                                                        refine lv_i2l hx hb dL_law_1669 rfl ?_
                                                        refine z_lcmp hx hb dL_law_1670 ?_
                                                        refine lv_if_eq (tgt := 1676) hx hb dL_law_1671 (by decide) (fun c475 => ?_) (fun c475 => ?_)
                                                        · replace h := h.1 c475
                                                          exact ww_L_law_1676 X hS (fun hB hK1 hK2 hl h => ih hB hK1 hK2 hl h) hB hK1 hK2 (lv_sub hl [2, 3, 4, 5, 6, 7] rfl) h
                                                        · replace h := h.2 c475
                                                          refine lv_iconst (v := 0) hx hb dL_law_1674 (by decide) ?_
                                                          exact z_zret X hB (Or.inl rfl) ⟨_, rfl, (Or.inl rfl), h⟩ (z_k3 hK1) (z_k3 hK2) dL_law_1675
                                                    · replace h := h.2 c472
                                                      refine lv_iconst (v := 0) hx hb dL_law_1657 (by decide) ?_
                                                      exact z_zret X hB (Or.inl rfl) ⟨_, rfl, (Or.inl rfl), h⟩ (z_k3 hK1) (z_k3 hK2) dL_law_1658
                                                  · by_cases c35_23 : ((xs x5.toNatClampNeg) &&& 31) = 23
                                                    · replace h := h.2.2.2.2.2.2.2.2.2.2.2.2.2.2.2.2.2.2.2.2.2.2.2.1 c35_23
                                                      refine lv_tableIn (off := 1634) (tgt := 1679) hx hb dL_law_45 (by rw [c35_23]; decide) (by rw [c35_23]; decide) (by rw [c35_23]; rfl) (by decide) ?_
                                                      refine z_aload_n (x := x1) hx hb dL_law_1679 rfl (lv_at hl 1 rfl) ?_
                                                      refine z_aload_n (x := x3) hx hb dL_law_1680 rfl (lv_at hl 3 rfl) ?_
                                                      obtain ⟨kc477, ks478, g1, g2, h⟩ := h
                                                      refine z_calli (z_runSW (rest := []) [va_rf x1, va_rf x3] pk_X0_perform (met_X0_perform x1 x3 kc477 ks478 _ h) X hB hB.2.2.2.2.2.2 q3018 rfl hl.1 (Nat.le_of_ble_eq_true rfl) dL_law_1681 (z_k1 hK1 g1) (z_k1 hK2 g2) (by decide) (by decide)) hB (fun _ h => h) (fun r476 T479 I480 Q481 H locs h9 hF hB => ?_)
                                                      replace h := h9
                                                      clear h9
                                                      replace h := h hF
                                                      replace hK1 := z_k2 hK1 g1
                                                      replace hK2 := z_k2 hK2 g2
                                                      refine lv_istore (lv' := [(6, .int r476), (0, .ref o), (1, va_rf x1), (2, va_rf x2), (3, va_rf x3), (4, va_rf x4), (5, .int x5)]) hx hb dL_law_1684 hl (by decide) rfl (fun ls hl9 => ?_)
                                                      replace hl := hl9
                                                      clear hl9
                                                      refine z_aload_n (x := x2) hx hb dL_law_1686 rfl (lv_at hl 3 rfl) ?_
                                                      obtain ⟨a482, rfl, h⟩ := h
                                                      obtain ⟨b483, m484, hL, hM, h⟩ := h
                                                      refine z_lawi (z_runV (rest := []) [] pk_X5_perform (met_X5_perform hL hM  _ h) X hB (by decide) q3668 kc_X5 (by decide) (by rw [hL.1]) rfl hl.1 (Nat.le_of_ble_eq_true rfl) dL_law_1687 (z_k4 hK1) (z_k4 hK2) (by decide) (by decide)) hB z_1L (fun r485 I487 H locs h9 hF hB => ?_)
                                                      replace h := h9
                                                      clear h9
                                                      replace h := h I487 rfl hF
                                                      refine lv_istore (lv' := [(7, .int r485), (6, .int r476), (0, .ref o), (1, va_rf x1), (2, .ref a482), (3, va_rf x3), (4, va_rf x4), (5, .int x5)]) hx hb dL_law_1690 hl (by decide) rfl (fun ls hl9 => ?_)
                                                      replace hl := hl9
                                                      clear hl9
                                                      refine lv_aload_n (x := a482) hx hb dL_law_1692 rfl (lv_at hl 4 rfl) ?_
                                                      obtain ⟨b488, m489, hL, hM, h⟩ := h
                                                      refine z_lawi (z_runV (rest := []) [] pk_X5_thrown (met_X5_thrown hL hM  _ h) X hB (by decide) q3400 kc_X5 (by decide) (by rw [hL.1]) rfl hl.1 (Nat.le_of_ble_eq_true rfl) dL_law_1693 (z_k4 hK1) (z_k4 hK2) (by decide) (by decide)) hB z_1L (fun r490 I492 H locs h9 hF hB => ?_)
                                                      replace h := h9
                                                      clear h9
                                                      obtain ⟨h, e9⟩ := h
                                                      replace h := h I492 e9 hF
                                                      refine lv_iload hx hb dL_law_1696 (lv_at hl 1 rfl) ?_
                                                      refine lv_icmp_eq (tgt := 1703) hx hb dL_law_1698 (by decide) (fun c493 => ?_) (fun c493 => ?_)
                                                      · replace h := h.1 c493
                                                        refine lv_iload hx hb dL_law_1703 (lv_at hl 1 rfl) ?_
                                                        refine lv_if_ne (tgt := 1720) hx hb dL_law_1705 (by decide) (fun c494 => ?_) (fun c494 => ?_)
                                                        · replace h := h.1 c494
                                                          exact ww_L_law_1720 X hS (fun hB hK1 hK2 hl h => ih hB hK1 hK2 hl h) hB hK1 hK2 (lv_sub hl [2, 3, 4, 5, 6, 7] rfl) h
                                                        · replace h := h.2 c494
                                                          refine z_aload_n (x := x3) hx hb dL_law_1708 rfl (lv_at hl 5 rfl) ?_
                                                          refine lv_iconst (v := 0) hx hb dL_law_1709 (by decide) ?_
                                                          obtain ⟨a495, rfl, h⟩ := h
                                                          obtain ⟨hk_a495, h⟩ := h
                                                          obtain ⟨h1, h⟩ := h
                                                          refine z_lald X hB.1 hk_a495 h1 dL_law_1710 ?_
                                                          refine lv_iload hx hb dL_law_1711 (lv_at hl 0 rfl) ?_
                                                          refine lv_i2l hx hb dL_law_1713 rfl ?_
                                                          refine z_lcmp hx hb dL_law_1714 ?_
                                                          refine lv_if_eq (tgt := 1720) hx hb dL_law_1715 (by decide) (fun c496 => ?_) (fun c496 => ?_)
                                                          · replace h := h.1 c496
                                                            exact ww_L_law_1720 X hS (fun hB hK1 hK2 hl h => ih hB hK1 hK2 hl h) hB hK1 hK2 (lv_sub hl [2, 3, 4, 5, 6, 7] rfl) h
                                                          · replace h := h.2 c496
                                                            refine lv_iconst (v := 0) hx hb dL_law_1718 (by decide) ?_
                                                            exact z_zret X hB (Or.inl rfl) ⟨_, rfl, (Or.inl rfl), h⟩ (z_k3 hK1) (z_k3 hK2) dL_law_1719
                                                      · replace h := h.2 c493
                                                        refine lv_iconst (v := 0) hx hb dL_law_1701 (by decide) ?_
                                                        exact z_zret X hB (Or.inl rfl) ⟨_, rfl, (Or.inl rfl), h⟩ (z_k3 hK1) (z_k3 hK2) dL_law_1702
                                                    · by_cases c35_24 : ((xs x5.toNatClampNeg) &&& 31) = 24
                                                      · replace h := h.2.2.2.2.2.2.2.2.2.2.2.2.2.2.2.2.2.2.2.2.2.2.2.2.1 c35_24
                                                        refine lv_tableIn (off := 1678) (tgt := 1723) hx hb dL_law_45 (by rw [c35_24]; decide) (by rw [c35_24]; decide) (by rw [c35_24]; rfl) (by decide) ?_
                                                        refine z_aload_n (x := x1) hx hb dL_law_1723 rfl (lv_at hl 1 rfl) ?_
                                                        refine z_aload_n (x := x3) hx hb dL_law_1724 rfl (lv_at hl 3 rfl) ?_
                                                        obtain ⟨kc498, ks499, g1, g2, h⟩ := h
                                                        refine z_calli (z_runSW (rest := []) [va_rf x1, va_rf x3] pk_X0_undo (met_X0_undo x1 x3 kc498 ks499 _ h) X hB hB.2.2.2.2.2.2 q3183 rfl hl.1 (Nat.le_of_ble_eq_true rfl) dL_law_1725 (z_k1 hK1 g1) (z_k1 hK2 g2) (by decide) (by decide)) hB (fun _ h => h) (fun r497 T500 I501 Q502 H locs h9 hF hB => ?_)
                                                        replace h := h9
                                                        clear h9
                                                        replace h := h hF
                                                        replace hK1 := z_k2 hK1 g1
                                                        replace hK2 := z_k2 hK2 g2
                                                        refine lv_istore (lv' := [(6, .int r497), (0, .ref o), (1, va_rf x1), (2, va_rf x2), (3, va_rf x3), (4, va_rf x4), (5, .int x5)]) hx hb dL_law_1728 hl (by decide) rfl (fun ls hl9 => ?_)
                                                        replace hl := hl9
                                                        clear hl9
                                                        refine z_aload_n (x := x2) hx hb dL_law_1730 rfl (lv_at hl 3 rfl) ?_
                                                        obtain ⟨a503, rfl, h⟩ := h
                                                        obtain ⟨b504, m505, hL, hM, h⟩ := h
                                                        refine z_lawi (z_runV (rest := []) [] pk_X5_undo (met_X5_undo hL hM  _ h) X hB (by decide) q3708 kc_X5 (by decide) (by rw [hL.1]) rfl hl.1 (Nat.le_of_ble_eq_true rfl) dL_law_1731 (z_k4 hK1) (z_k4 hK2) (by decide) (by decide)) hB z_1L (fun r506 I508 H locs h9 hF hB => ?_)
                                                        replace h := h9
                                                        clear h9
                                                        replace h := h I508 rfl hF
                                                        refine lv_istore (lv' := [(7, .int r506), (6, .int r497), (0, .ref o), (1, va_rf x1), (2, .ref a503), (3, va_rf x3), (4, va_rf x4), (5, .int x5)]) hx hb dL_law_1734 hl (by decide) rfl (fun ls hl9 => ?_)
                                                        replace hl := hl9
                                                        clear hl9
                                                        refine lv_aload_n (x := a503) hx hb dL_law_1736 rfl (lv_at hl 4 rfl) ?_
                                                        obtain ⟨b509, m510, hL, hM, h⟩ := h
                                                        refine z_lawi (z_runV (rest := []) [] pk_X5_thrown (met_X5_thrown hL hM  _ h) X hB (by decide) q3400 kc_X5 (by decide) (by rw [hL.1]) rfl hl.1 (Nat.le_of_ble_eq_true rfl) dL_law_1737 (z_k4 hK1) (z_k4 hK2) (by decide) (by decide)) hB z_1L (fun r511 I513 H locs h9 hF hB => ?_)
                                                        replace h := h9
                                                        clear h9
                                                        obtain ⟨h, e9⟩ := h
                                                        replace h := h I513 e9 hF
                                                        refine lv_iload hx hb dL_law_1740 (lv_at hl 1 rfl) ?_
                                                        refine lv_icmp_eq (tgt := 1747) hx hb dL_law_1742 (by decide) (fun c514 => ?_) (fun c514 => ?_)
                                                        · replace h := h.1 c514
                                                          refine lv_iload hx hb dL_law_1747 (lv_at hl 1 rfl) ?_
                                                          refine lv_if_ne (tgt := 1764) hx hb dL_law_1749 (by decide) (fun c515 => ?_) (fun c515 => ?_)
                                                          · replace h := h.1 c515
                                                            exact ww_L_law_1764 X hS (fun hB hK1 hK2 hl h => ih hB hK1 hK2 hl h) hB hK1 hK2 (lv_sub hl [2, 3, 4, 5, 6, 7] rfl) h
                                                          · replace h := h.2 c515
                                                            refine z_aload_n (x := x3) hx hb dL_law_1752 rfl (lv_at hl 5 rfl) ?_
                                                            refine lv_iconst (v := 0) hx hb dL_law_1753 (by decide) ?_
                                                            obtain ⟨a516, rfl, h⟩ := h
                                                            obtain ⟨hk_a516, h⟩ := h
                                                            obtain ⟨h1, h⟩ := h
                                                            refine z_lald X hB.1 hk_a516 h1 dL_law_1754 ?_
                                                            refine lv_iload hx hb dL_law_1755 (lv_at hl 0 rfl) ?_
                                                            refine lv_i2l hx hb dL_law_1757 rfl ?_
                                                            refine z_lcmp hx hb dL_law_1758 ?_
                                                            refine lv_if_eq (tgt := 1764) hx hb dL_law_1759 (by decide) (fun c517 => ?_) (fun c517 => ?_)
                                                            · replace h := h.1 c517
                                                              exact ww_L_law_1764 X hS (fun hB hK1 hK2 hl h => ih hB hK1 hK2 hl h) hB hK1 hK2 (lv_sub hl [2, 3, 4, 5, 6, 7] rfl) h
                                                            · replace h := h.2 c517
                                                              refine lv_iconst (v := 0) hx hb dL_law_1762 (by decide) ?_
                                                              exact z_zret X hB (Or.inl rfl) ⟨_, rfl, (Or.inl rfl), h⟩ (z_k3 hK1) (z_k3 hK2) dL_law_1763
                                                        · replace h := h.2 c514
                                                          refine lv_iconst (v := 0) hx hb dL_law_1745 (by decide) ?_
                                                          exact z_zret X hB (Or.inl rfl) ⟨_, rfl, (Or.inl rfl), h⟩ (z_k3 hK1) (z_k3 hK2) dL_law_1746
                                                      · by_cases c35_25 : ((xs x5.toNatClampNeg) &&& 31) = 25
                                                        · replace h := h.2.2.2.2.2.2.2.2.2.2.2.2.2.2.2.2.2.2.2.2.2.2.2.2.2.1 c35_25
                                                          refine lv_tableIn (off := 1722) (tgt := 1767) hx hb dL_law_45 (by rw [c35_25]; decide) (by rw [c35_25]; decide) (by rw [c35_25]; rfl) (by decide) ?_
                                                          refine z_aload_n (x := x1) hx hb dL_law_1767 rfl (lv_at hl 1 rfl) ?_
                                                          obtain ⟨a518, rfl, h⟩ := h
                                                          obtain ⟨hk_a518, h⟩ := h
                                                          obtain ⟨kc520, ks521, g1, g2, h⟩ := h
                                                          refine z_calli (z_runV (rest := []) [] pk_X1_save (met_X1_save a518 kc520 ks521 _ h) X hB z_R0 q1623 kc_X1 (by decide) hk_a518 rfl hl.1 (Nat.le_of_ble_eq_true rfl) dL_law_1768 (z_k1 hK1 g1) (z_k1 hK2 g2) (by decide) (by decide)) hB (fun _ h => z_RL h) (fun r519 T522 I523 Q524 H locs h9 hF hB => ?_)
                                                          replace h := h9
                                                          clear h9
                                                          replace h := h hF
                                                          have hk_a518 := z_tk hF hk_a518 (by decide)
                                                          replace hK1 := z_k2 hK1 g1
                                                          replace hK2 := z_k2 hK2 g2
                                                          refine z_aload_n (x := x2) hx hb dL_law_1771 rfl (lv_at hl 2 rfl) ?_
                                                          obtain ⟨a525, rfl, h⟩ := h
                                                          obtain ⟨b526, m527, hL, hM, h⟩ := h
                                                          refine z_lawi (z_runV (rest := [.int r519]) [] pk_X5_save (met_X5_save hL hM  _ h) X hB (by decide) q3712 kc_X5 (by decide) (by rw [hL.1]) rfl hl.1 (Nat.le_of_ble_eq_true rfl) dL_law_1772 (z_k4 hK1) (z_k4 hK2) (by decide) (by decide)) hB z_1L (fun r528 I530 H locs h9 hF hB => ?_)
                                                          replace h := h9
                                                          clear h9
                                                          replace h := h I530 rfl hF
                                                          refine lv_icmp_eq (tgt := 1824) hx hb dL_law_1775 (by decide) (fun c531 => ?_) (fun c531 => ?_)
                                                          · replace h := h.1 c531
                                                            exact ww_L_law_1824 X hS (fun hB hK1 hK2 hl h => ih hB hK1 hK2 hl h) hB hK1 hK2 (lv_sub hl [0, 1, 2, 3, 4, 5] rfl) h
                                                          · replace h := h.2 c531
                                                            refine lv_iconst (v := 0) hx hb dL_law_1778 (by decide) ?_
                                                            exact z_zret X hB (Or.inl rfl) ⟨_, rfl, (Or.inl rfl), h⟩ (z_k3 hK1) (z_k3 hK2) dL_law_1779
                                                        · by_cases c35_26 : ((xs x5.toNatClampNeg) &&& 31) = 26
                                                          · replace h := h.2.2.2.2.2.2.2.2.2.2.2.2.2.2.2.2.2.2.2.2.2.2.2.2.2.2.1 c35_26
                                                            refine lv_tableIn (off := 1735) (tgt := 1780) hx hb dL_law_45 (by rw [c35_26]; decide) (by rw [c35_26]; decide) (by rw [c35_26]; rfl) (by decide) ?_
                                                            refine z_aload_n (x := x1) hx hb dL_law_1780 rfl (lv_at hl 1 rfl) ?_
                                                            refine z_aload_n (x := x3) hx hb dL_law_1781 rfl (lv_at hl 3 rfl) ?_
                                                            obtain ⟨kc533, ks534, g1, g2, h⟩ := h
                                                            refine z_calli (z_runSW (rest := []) [va_rf x1, va_rf x3] pk_X0_restore (met_X0_restore x1 x3 kc533 ks534 _ h) X hB hB.2.2.2.2.2.2 q3190 rfl hl.1 (Nat.le_of_ble_eq_true rfl) dL_law_1782 (z_k1 hK1 g1) (z_k1 hK2 g2) (by decide) (by decide)) hB (fun _ h => h) (fun r532 T535 I536 Q537 H locs h9 hF hB => ?_)
                                                            replace h := h9
                                                            clear h9
                                                            replace h := h hF
                                                            replace hK1 := z_k2 hK1 g1
                                                            replace hK2 := z_k2 hK2 g2
                                                            refine lv_istore (lv' := [(6, .int r532), (0, .ref o), (1, va_rf x1), (2, va_rf x2), (3, va_rf x3), (4, va_rf x4), (5, .int x5)]) hx hb dL_law_1785 hl (by decide) rfl (fun ls hl9 => ?_)
                                                            replace hl := hl9
                                                            clear hl9
                                                            refine z_aload_n (x := x2) hx hb dL_law_1787 rfl (lv_at hl 3 rfl) ?_
                                                            obtain ⟨a538, rfl, h⟩ := h
                                                            obtain ⟨b539, m540, hL, hM, h⟩ := h
                                                            refine z_lawi (z_runV (rest := []) [] pk_X5_restore (met_X5_restore hL hM  _ h) X hB (by decide) q3716 kc_X5 (by decide) (by rw [hL.1]) rfl hl.1 (Nat.le_of_ble_eq_true rfl) dL_law_1788 (z_k4 hK1) (z_k4 hK2) (by decide) (by decide)) hB z_1L (fun r541 I543 H locs h9 hF hB => ?_)
                                                            replace h := h9
                                                            clear h9
                                                            replace h := h I543 rfl hF
                                                            refine lv_istore (lv' := [(7, .int r541), (6, .int r532), (0, .ref o), (1, va_rf x1), (2, .ref a538), (3, va_rf x3), (4, va_rf x4), (5, .int x5)]) hx hb dL_law_1791 hl (by decide) rfl (fun ls hl9 => ?_)
                                                            replace hl := hl9
                                                            clear hl9
                                                            refine lv_aload_n (x := a538) hx hb dL_law_1793 rfl (lv_at hl 4 rfl) ?_
                                                            obtain ⟨b544, m545, hL, hM, h⟩ := h
                                                            refine z_lawi (z_runV (rest := []) [] pk_X5_thrown (met_X5_thrown hL hM  _ h) X hB (by decide) q3400 kc_X5 (by decide) (by rw [hL.1]) rfl hl.1 (Nat.le_of_ble_eq_true rfl) dL_law_1794 (z_k4 hK1) (z_k4 hK2) (by decide) (by decide)) hB z_1L (fun r546 I548 H locs h9 hF hB => ?_)
                                                            replace h := h9
                                                            clear h9
                                                            obtain ⟨h, e9⟩ := h
                                                            replace h := h I548 e9 hF
                                                            refine lv_iload hx hb dL_law_1797 (lv_at hl 1 rfl) ?_
                                                            refine lv_icmp_eq (tgt := 1804) hx hb dL_law_1799 (by decide) (fun c549 => ?_) (fun c549 => ?_)
                                                            · replace h := h.1 c549
                                                              refine lv_iload hx hb dL_law_1804 (lv_at hl 1 rfl) ?_
                                                              refine lv_if_ne (tgt := 1821) hx hb dL_law_1806 (by decide) (fun c550 => ?_) (fun c550 => ?_)
                                                              · replace h := h.1 c550
                                                                exact ww_L_law_1821 X hS (fun hB hK1 hK2 hl h => ih hB hK1 hK2 hl h) hB hK1 hK2 (lv_sub hl [2, 3, 4, 5, 6, 7] rfl) h
                                                              · replace h := h.2 c550
                                                                refine z_aload_n (x := x3) hx hb dL_law_1809 rfl (lv_at hl 5 rfl) ?_
                                                                refine lv_iconst (v := 0) hx hb dL_law_1810 (by decide) ?_
                                                                obtain ⟨a551, rfl, h⟩ := h
                                                                obtain ⟨hk_a551, h⟩ := h
                                                                obtain ⟨h1, h⟩ := h
                                                                refine z_lald X hB.1 hk_a551 h1 dL_law_1811 ?_
                                                                refine lv_iload hx hb dL_law_1812 (lv_at hl 0 rfl) ?_
                                                                refine lv_i2l hx hb dL_law_1814 rfl ?_
                                                                refine z_lcmp hx hb dL_law_1815 ?_
                                                                refine lv_if_eq (tgt := 1821) hx hb dL_law_1816 (by decide) (fun c552 => ?_) (fun c552 => ?_)
                                                                · replace h := h.1 c552
                                                                  exact ww_L_law_1821 X hS (fun hB hK1 hK2 hl h => ih hB hK1 hK2 hl h) hB hK1 hK2 (lv_sub hl [2, 3, 4, 5, 6, 7] rfl) h
                                                                · replace h := h.2 c552
                                                                  refine lv_iconst (v := 0) hx hb dL_law_1819 (by decide) ?_
                                                                  exact z_zret X hB (Or.inl rfl) ⟨_, rfl, (Or.inl rfl), h⟩ (z_k3 hK1) (z_k3 hK2) dL_law_1820
                                                            · replace h := h.2 c549
                                                              refine lv_iconst (v := 0) hx hb dL_law_1802 (by decide) ?_
                                                              exact z_zret X hB (Or.inl rfl) ⟨_, rfl, (Or.inl rfl), h⟩ (z_k3 hK1) (z_k3 hK2) dL_law_1803
                                                          · replace h := h.2.2.2.2.2.2.2.2.2.2.2.2.2.2.2.2.2.2.2.2.2.2.2.2.2.2.2 c35_0 c35_1 c35_2 c35_3 c35_4 c35_5 c35_6 c35_7 c35_8 c35_9 c35_10 c35_11 c35_12 c35_13 c35_14 c35_15 c35_16 c35_17 c35_18 c35_19 c35_20 c35_21 c35_22 c35_23 c35_24 c35_25 c35_26
                                                            refine lv_tableOut (tgt := 1824) hx hb dL_law_45 ?_ (by decide) ?_
                                                            · have q0 := lv_neT c35_0 (a := 0) (by decide)
                                                              have q1 := lv_neT c35_1 (a := 1) (by decide)
                                                              have q2 := lv_neT c35_2 (a := 2) (by decide)
                                                              have q3 := lv_neT c35_3 (a := 3) (by decide)
                                                              have q4 := lv_neT c35_4 (a := 4) (by decide)
                                                              have q5 := lv_neT c35_5 (a := 5) (by decide)
                                                              have q6 := lv_neT c35_6 (a := 6) (by decide)
                                                              have q7 := lv_neT c35_7 (a := 7) (by decide)
                                                              have q8 := lv_neT c35_8 (a := 8) (by decide)
                                                              have q9 := lv_neT c35_9 (a := 9) (by decide)
                                                              have q10 := lv_neT c35_10 (a := 10) (by decide)
                                                              have q11 := lv_neT c35_11 (a := 11) (by decide)
                                                              have q12 := lv_neT c35_12 (a := 12) (by decide)
                                                              have q13 := lv_neT c35_13 (a := 13) (by decide)
                                                              have q14 := lv_neT c35_14 (a := 14) (by decide)
                                                              have q15 := lv_neT c35_15 (a := 15) (by decide)
                                                              have q16 := lv_neT c35_16 (a := 16) (by decide)
                                                              have q17 := lv_neT c35_17 (a := 17) (by decide)
                                                              have q18 := lv_neT c35_18 (a := 18) (by decide)
                                                              have q19 := lv_neT c35_19 (a := 19) (by decide)
                                                              have q20 := lv_neT c35_20 (a := 20) (by decide)
                                                              have q21 := lv_neT c35_21 (a := 21) (by decide)
                                                              have q22 := lv_neT c35_22 (a := 22) (by decide)
                                                              have q23 := lv_neT c35_23 (a := 23) (by decide)
                                                              have q24 := lv_neT c35_24 (a := 24) (by decide)
                                                              have q25 := lv_neT c35_25 (a := 25) (by decide)
                                                              have q26 := lv_neT c35_26 (a := 26) (by decide)
                                                              omega
                                                            · exact ww_L_law_1824 X hS (fun hB hK1 hK2 hl h => ih hB hK1 hK2 hl h) hB hK1 hK2 (lv_sub hl [0, 1, 2, 3, 4, 5] rfl) h
theorem ww_L_law_0 {o : Nat} {L : Nat} {xs : Nat → Int32} {Qk : Int32 → z_T → z_I → z_Q → Prop} (X : z_X l G A p R s m args meth c cL_law 9 RX0 "law" (some .boolean) mc ms 30 605) (hS : z_scr A s o L xs) {cells slots : Nat} {T : z_T} {I : z_I} {Q : z_Q} {kc : Nat} {ks : Nat} {H : Heap} {locs : List Loc} {ls : Array Slot} (hB : z_HB G z_PL A s.heap T0 I0 Q0 T I Q H locs) (hK1 : cells + kc ≤ mc) (hK2 : slots + ks ≤ ms) (hl : lv_has ls 9 [(0, .ref o)]) (h : wb_L_law_0 G.2.2 o L xs Qk T I Q kc ks) : W p l e R s m args below meth c H locs cells slots (z_MQ below G z_PL A T0 I0 Q0 (z_qz Qk) z_no args s mc ms) (F0 m 0 ls []) := by
  obtain ⟨hx, hb, -⟩ := id X
  unfold wb_L_law_0 at h
  obtain ⟨co1, hco1, h⟩ := h
  obtain ⟨g1, g2, h⟩ := h
  refine z_new (col := co1) tyX1 X hB kc_X1 in_X1 tyX1_ok q164 q165 q94 (by decide) (z_dvX1) hco1 (z_k1 hK1 g1) (z_k1 hK2 g2) dL_law_0 (fun a2 H hq hB => ?_)
  obtain ⟨T3, eT3⟩ : ∃ z, z = z_t T a2 (1, 0, co1) := ⟨_, rfl⟩
  obtain ⟨I4, eI4⟩ : ∃ z, z = z_row I a2 (fun _ => 0) := ⟨_, rfl⟩
  obtain ⟨Q5, eQ5⟩ : ∃ z, z = z_row Q a2 (fun _ => none) := ⟨_, rfl⟩
  rw [← eT3, ← eI4, ← eQ5] at hB
  replace h := h a2 T3 I4 Q5 hq eT3 eI4 eQ5
  have hk_a2 := z_tq eT3
  have hc_a2 : 1 ≤ (T3 a2).2.2 := by rw [z_tqc eT3]; exact hco1
  replace hK1 := z_k2 hK1 g1
  replace hK2 := z_k2 hK2 g2
  refine lv_dup hx hb dL_law_3 rfl ?_
  obtain ⟨kc7, ks8, g1, g2, h⟩ := h
  refine z_callv (z_runI (rest := [.ref a2]) [] pk_X1_init (met_X1_init a2 kc7 ks8 _ h) X hB z_R0 q166 rfl hl.1 (Nat.le_of_ble_eq_true rfl) dL_law_4 (z_k1 hK1 g1) (z_k1 hK2 g2) (by decide) (by decide)) hB (fun _ h => z_RL h) (fun T9 I10 Q11 H locs h9 hF hB => ?_)
  replace h := h9
  clear h9
  replace h := h hF
  have hc_a2 : 1 ≤ (T9 a2).2.2 := by rw [z_te hF hk_a2 (by decide)]; exact hc_a2
  have hk_a2 := z_tk hF hk_a2 (by decide)
  replace hK1 := z_k2 hK1 g1
  replace hK2 := z_k2 hK2 g2
  refine lv_astore_n (x := a2) (lv' := [(1, .ref a2), (0, .ref o)]) hx hb dL_law_7 rfl hl (by decide) rfl (fun ls hl9 => ?_)
  replace hl := hl9
  clear hl9
  obtain ⟨co12, hco12, h⟩ := h
  obtain ⟨g1, g2, h⟩ := h
  refine z_new (col := co12) tyX5 X hB kc_X5 in_X5 tyX5_ok q3204 q3205 q131 (by decide) (z_dvX5) hco12 (z_k1 hK1 g1) (z_k1 hK2 g2) dL_law_8 (fun a13 H hq hB => ?_)
  obtain ⟨T14, eT14⟩ : ∃ z, z = z_t T9 a13 (2, 0, co12) := ⟨_, rfl⟩
  obtain ⟨I15, eI15⟩ : ∃ z, z = z_row I10 a13 (fun _ => 0) := ⟨_, rfl⟩
  obtain ⟨Q16, eQ16⟩ : ∃ z, z = z_row Q11 a13 (fun _ => none) := ⟨_, rfl⟩
  rw [← eT14, ← eI15, ← eQ16] at hB
  replace h := h a13 T14 I15 Q16 hq eT14 eI15 eQ16
  have hc_a2 : 1 ≤ (T14 a2).2.2 := by rw [z_tne eT14 hq hk_a2 (by decide)]; exact hc_a2
  have hk_a2 := z_tn eT14 hq hk_a2 (by decide)
  have hk_a13 := z_tq eT14
  have hc_a13 : 1 ≤ (T14 a13).2.2 := by rw [z_tqc eT14]; exact hco12
  replace hK1 := z_k2 hK1 g1
  replace hK2 := z_k2 hK2 g2
  refine lv_dup hx hb dL_law_11 rfl ?_
  obtain ⟨co18, hco18, h⟩ := h
  obtain ⟨kc19, ks20, g1, g2, h⟩ := h
  refine z_callv (z_runI (rest := [.ref a13]) [] pk_X5_init (met_X5_init co18 a13 kc19 ks20 _ h) X hB (z_coL0 hco18) q3206 rfl hl.1 (Nat.le_of_ble_eq_true rfl) dL_law_12 (z_k1 hK1 g1) (z_k1 hK2 g2) (by decide) (by decide)) hB (z_coL hco18) (fun T21 I22 Q23 H locs h9 hF hB => ?_)
  replace h := h9
  clear h9
  replace h := h hF
  have hc_a2 : 1 ≤ (T21 a2).2.2 := by rw [z_te hF hk_a2 (by decide)]; exact hc_a2
  have hc_a13 : 1 ≤ (T21 a13).2.2 := by rw [z_te hF hk_a13 (by decide)]; exact hc_a13
  have hk_a2 := z_tk hF hk_a2 (by decide)
  have hk_a13 := z_tk hF hk_a13 (by decide)
  replace hK1 := z_k2 hK1 g1
  replace hK2 := z_k2 hK2 g2
  refine lv_astore_n (x := a13) (lv' := [(2, .ref a13), (1, .ref a2), (0, .ref o)]) hx hb dL_law_15 rfl hl (by decide) rfl (fun ls hl9 => ?_)
  replace hl := hl9
  clear hl9
  refine lv_iconst (v := 1) hx hb dL_law_16 (by decide) ?_
  obtain ⟨co24, hco24, h⟩ := h
  obtain ⟨g1, g2, h⟩ := h
  refine z_newa (k := 6) (n := 1) (col := co24) (.long) rfl (by decide) X hB q3720 (by decide) rfl (Nat.le_of_ble_eq_true rfl) hco24 (z_k1 hK1 g1) (z_k1 hK2 g2) dL_law_17 (fun a25 H hq hB => ?_)
  obtain ⟨T26, eT26⟩ : ∃ z, z = z_t T21 a25 (106, 1, co24) := ⟨_, rfl⟩
  obtain ⟨I27, eI27⟩ : ∃ z, z = z_row I22 a25 (fun _ => 0) := ⟨_, rfl⟩
  obtain ⟨Q28, eQ28⟩ : ∃ z, z = z_row Q23 a25 (fun _ => none) := ⟨_, rfl⟩
  rw [← eT26, ← eI27, ← eQ28] at hB
  replace h := h a25 T26 I27 Q28 hq eT26 eI27 eQ28
  have hc_a2 : 1 ≤ (T26 a2).2.2 := by rw [z_tne eT26 hq hk_a2 (by decide)]; exact hc_a2
  have hc_a13 : 1 ≤ (T26 a13).2.2 := by rw [z_tne eT26 hq hk_a13 (by decide)]; exact hc_a13
  have hk_a2 := z_tn eT26 hq hk_a2 (by decide)
  have hk_a13 := z_tn eT26 hq hk_a13 (by decide)
  have hk_a25 := z_tq eT26
  have hc_a25 : 1 ≤ (T26 a25).2.2 := by rw [z_tqc eT26]; exact hco24
  replace hK1 := z_k2 hK1 g1
  replace hK2 := z_k2 hK2 g2
  refine lv_astore_n (x := a25) (lv' := [(3, .ref a25), (2, .ref a13), (1, .ref a2), (0, .ref o)]) hx hb dL_law_19 rfl hl (by decide) rfl (fun ls hl9 => ?_)
  replace hl := hl9
  clear hl9
  refine lv_iconst (v := 1) hx hb dL_law_20 (by decide) ?_
  obtain ⟨co29, hco29, h⟩ := h
  obtain ⟨g1, g2, h⟩ := h
  refine z_newa (k := 7) (n := 1) (col := co29) (.double) rfl (by decide) X hB q3721 (by decide) rfl (Nat.le_of_ble_eq_true rfl) hco29 (z_k1 hK1 g1) (z_k1 hK2 g2) dL_law_21 (fun a30 H hq hB => ?_)
  obtain ⟨T31, eT31⟩ : ∃ z, z = z_t T26 a30 (107, 1, co29) := ⟨_, rfl⟩
  obtain ⟨I32, eI32⟩ : ∃ z, z = z_row I27 a30 (fun _ => 0) := ⟨_, rfl⟩
  obtain ⟨Q33, eQ33⟩ : ∃ z, z = z_row Q28 a30 (fun _ => none) := ⟨_, rfl⟩
  rw [← eT31, ← eI32, ← eQ33] at hB
  replace h := h a30 T31 I32 Q33 hq eT31 eI32 eQ33
  have hc_a2 : 1 ≤ (T31 a2).2.2 := by rw [z_tne eT31 hq hk_a2 (by decide)]; exact hc_a2
  have hc_a13 : 1 ≤ (T31 a13).2.2 := by rw [z_tne eT31 hq hk_a13 (by decide)]; exact hc_a13
  have hc_a25 : 1 ≤ (T31 a25).2.2 := by rw [z_tne eT31 hq hk_a25 (by decide)]; exact hc_a25
  have hk_a2 := z_tn eT31 hq hk_a2 (by decide)
  have hk_a13 := z_tn eT31 hq hk_a13 (by decide)
  have hk_a25 := z_tn eT31 hq hk_a25 (by decide)
  have hk_a30 := z_tq eT31
  have hc_a30 : 1 ≤ (T31 a30).2.2 := by rw [z_tqc eT31]; exact hco29
  replace hK1 := z_k2 hK1 g1
  replace hK2 := z_k2 hK2 g2
  refine lv_astore (x := a30) (lv' := [(4, .ref a30), (3, .ref a25), (2, .ref a13), (1, .ref a2), (0, .ref o)]) hx hb dL_law_23 hl (by decide) rfl (fun ls hl9 => ?_)
  replace hl := hl9
  clear hl9
  refine lv_iconst (v := 0) hx hb dL_law_25 (by decide) ?_
  refine lv_istore (lv' := [(5, .int 0), (4, .ref a30), (3, .ref a25), (2, .ref a13), (1, .ref a2), (0, .ref o)]) hx hb dL_law_26 hl (by decide) rfl (fun ls hl9 => ?_)
  replace hl := hl9
  clear hl9
  obtain ⟨w, h⟩ := h
  exact wv_L_law_28 X hS  w hB hK1 hK2 (lv_sub hl [5, 4, 3, 2, 1, 0] rfl) h
end
