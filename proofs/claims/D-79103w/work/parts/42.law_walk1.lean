/-! THE LAW: walks 1 -/
set_option maxRecDepth 100000
section
variable {p : Program} {l : Launch} {e : Env} {R : Room} {s : State} {m : MethodId} {args : Array Value} {below : List Frame} {meth : Method} {c : Code}
variable {G : z_E} {A : Nat → Prop} {T T0 : z_T} {I I0 : z_I} {Q Q0 : z_Q} {mc ms : Nat}
/-! X0_account -/
abbrev hh_X0_account : List (Nat × Nat × Nat × Nat) := [(0, 9, 12, 15)]
theorem hw_X0_account {Qk : Int32 → z_T → z_I → z_Q → Prop} {cells slots mc' ms' : Nat} (X : z_X l G A p R s m args meth c cX0_account 4 RX0 "account" (some .int) mc ms 12 208) (hT : c.exceptionTable.toList = tableOf hh_X0_account) (h1 : cells + mc' ≤ mc) (h2 : slots + ms' ≤ ms) {ls : Array Slot} (hl : lv_has ls 4 []) {rest : List Value} {P' : Nat → Prop} : z_kx p l e R s m args below meth c cells slots mc' ms' 4 ls rest G z_PL A P' T0 I0 Q0 T I Q (fun E q T1 I1 Q1 => z_Fr P' T I Q T1 I1 Q1 → hx_X0_account Qk E q T1 I1 Q1) (z_MQ below G z_PL A T0 I0 Q0 (z_qi Qk) z_no args s mc ms) := by
  obtain ⟨hx, hb, -⟩ := id X
  intro q E ce T1 I1 Q1 H1 locs1 hq hF hB h3 h4 h5
  replace hq := hq hF
  obtain ⟨hE, hq⟩ := hq
  rcases hE with rfl
  · refine z_catch [] ⟨0, 9, 12, 15⟩ [] X hT rfl (by simp) (by decide) (by decide) q2378 q208 h3 h4 h5 ?_
    refine lv_astore_n hx hb dX0_account_12 rfl hl (by decide) rfl (fun ls hl9 => ?_)
    replace hl := hl9
    clear hl9
    refine lv_iconst (v := 1) hx hb dX0_account_13 (by decide) ?_
    exact z_iret X hB ⟨_, rfl, hq rfl⟩ h1 h2 dX0_account_14
theorem ww_X0_account_0 {Qk : Int32 → z_T → z_I → z_Q → Prop} (X : z_X l G A p R s m args meth c cX0_account 4 RX0 "account" (some .int) mc ms 12 208) (hT : c.exceptionTable.toList = tableOf hh_X0_account) {cells slots : Nat} {T : z_T} {I : z_I} {Q : z_Q} {kc : Nat} {ks : Nat} {x0 : Option Nat} {x1 : Int32} {x2 : Option Nat} {H : Heap} {locs : List Loc} {ls : Array Slot} (hB : z_HB G z_PL A s.heap T0 I0 Q0 T I Q H locs) (hK1 : cells + kc ≤ mc) (hK2 : slots + ks ≤ ms) (hl : lv_has ls 4 [(0, va_rf x0), (1, .int x1), (2, va_rf x2)]) (h : wb_X0_account_0 Qk T I Q kc ks x0 x1 x2) : W p l e R s m args below meth c H locs cells slots (z_MQ below G z_PL A T0 I0 Q0 (z_qi Qk) z_no args s mc ms) (F0 m 0 ls []) := by
  obtain ⟨hx, hb, -⟩ := id X
  unfold wb_X0_account_0 at h
  refine z_aload_n (x := x2) hx hb dX0_account_0 rfl (lv_at hl 2 rfl) ?_
  refine lv_iconst (v := 0) hx hb dX0_account_1 (by decide) ?_
  refine z_aload_n (x := x0) hx hb dX0_account_2 rfl (lv_at hl 0 rfl) ?_
  refine lv_iload_n hx hb dX0_account_3 rfl (lv_at hl 1 rfl) ?_
  obtain ⟨a1, rfl, h⟩ := h
  obtain ⟨hk_a1, h⟩ := h
  obtain ⟨kc3, ks4, g1, g2, h⟩ := h
  refine z_callXi (z_runV (rest := [.int 0, va_rf x2]) [.int x1] pk_X1_account (met_X1_account a1 x1 kc3 ks4 _ _ h) X hB z_R0 q2955 kc_X1 (by decide) hk_a1 rfl hl.1 (by simp [z_cat, z_cati, z_catl, z_catf, z_catd, z_catq]) dX0_account_4 (z_k1 hK1 g1) (z_k1 hK2 g2) (by decide) (by decide)) hB (fun _ h => z_RL h) (hw_X0_account X hT (z_k1 hK1 g1) (z_k1 hK2 g2) (lv_sub hl [] rfl)) (fun r2 T5 I6 Q7 H locs h9 hF hB => ?_)
  replace h := h9
  clear h9
  replace h := h hF
  have hk_a1 := z_tk hF hk_a1 (by decide)
  replace hK1 := z_k2 hK1 g1
  replace hK2 := z_k2 hK2 g2
  refine lv_i2l hx hb dX0_account_7 rfl ?_
  obtain ⟨a9, rfl, h⟩ := h
  obtain ⟨hk_a9, h⟩ := h
  obtain ⟨hc_a9, h⟩ := h
  obtain ⟨h1, h⟩ := h
  obtain ⟨I10, eI10⟩ : ∃ z, z = z_up I6 a9 (0 : Int32).toNatClampNeg r2 := ⟨_, rfl⟩
  replace h := h I10 eI10
  refine z_last (x := r2) X hB hk_a9 hc_a9 h1 dX0_account_8 (fun H locs hB => ?_)
  rw [← eI10] at hB
  refine lv_goto (tgt := 15) hx hb dX0_account_9 (by decide) ?_
  refine lv_iconst (v := 0) hx hb dX0_account_15 (by decide) ?_
  exact z_iret X hB ⟨_, rfl, h⟩ (z_k3 hK1) (z_k3 hK2) dX0_account_16
theorem pk_X0_account : z_PSW yX0_account cX0_account 4 (some .int) hh_X0_account 3 := ⟨q2953, q93, q2954, by decide +kernel⟩
theorem met_X0_account {l : Launch} {G : z_E} {T : z_T} {I : z_I} {Q : z_Q} (x0 : Option Nat) (x1 : Int32) (x2 : Option Nat) (kc : Nat) (ks : Nat) (Qk : Int32 → z_T → z_I → z_Q → Prop) (h : wp_X0_account T I Q x0 x1 x2 kc ks Qk) : z_GM l G yX0_account (wsW_ yX0_account cX0_account 4 (some .int) hh_X0_account) 12 208 kc ks [va_rf x0, .int x1, va_rf x2] z_PL T I Q (z_qi Qk) z_no := by
  refine z_bodyW (own := RX0) (nm := "account") (by decide +kernel) rfl rfl (by decide +kernel) (by cases x0 <;> cases x2 <;> exact Nat.le_of_ble_eq_true rfl) (fun p e R s m below meth c A ls X hT hB hl => ?_)
  replace hl : lv_has ls 4 [(0, va_rf x0), (1, .int x1), (2, va_rf x2)] := by cases x0 <;> cases x2 <;> exact hl
  exact ww_X0_account_0 X hT hB z_k0 z_k0 hl h
/-! X0_arm -/
abbrev hh_X0_arm : List (Nat × Nat × Nat × Nat) := [(0, 10, 13, 13), (0, 10, 17, 15)]
theorem hw_X0_arm {Qk : Int32 → z_T → z_I → z_Q → Prop} {cells slots mc' ms' : Nat} (X : z_X l G A p R s m args meth c cX0_arm 5 RX0 "arm" (some .int) mc ms 12 205) (hT : c.exceptionTable.toList = tableOf hh_X0_arm) (h1 : cells + mc' ≤ mc) (h2 : slots + ms' ≤ ms) {ls : Array Slot} (hl : lv_has ls 5 []) {rest : List Value} {P' : Nat → Prop} : z_kx p l e R s m args below meth c cells slots mc' ms' 5 ls rest G z_PL A P' T0 I0 Q0 T I Q (fun E q T1 I1 Q1 => z_Fr P' T I Q T1 I1 Q1 → hx_X0_arm Qk E q T1 I1 Q1) (z_MQ below G z_PL A T0 I0 Q0 (z_qi Qk) z_no args s mc ms) := by
  obtain ⟨hx, hb, -⟩ := id X
  intro q E ce T1 I1 Q1 H1 locs1 hq hF hB h3 h4 h5
  replace hq := hq hF
  obtain ⟨hE, hq⟩ := hq
  rcases hE with rfl | rfl
  · refine z_catch [] ⟨0, 10, 13, 13⟩ [⟨0, 10, 17, 15⟩] X hT rfl (by simp) (by decide) (by decide) q2359 q2395 h3 h4 h5 ?_
    refine lv_astore hx hb dX0_arm_13 hl (by decide) rfl (fun ls hl9 => ?_)
    replace hl := hl9
    clear hl9
    refine lv_iconst (v := 1) hx hb dX0_arm_15 (by decide) ?_
    exact z_iret X hB ⟨_, rfl, hq.1 rfl⟩ h1 h2 dX0_arm_16
  · refine z_catch [⟨0, 10, 13, 13⟩] ⟨0, 10, 17, 15⟩ [] X hT rfl (by
      intro z hz
      simp only [List.mem_cons, List.not_mem_nil, or_false] at hz
      rcases hz with rfl
      · exact Or.inr ⟨by decide, _, q2359, by simp [z_nc]⟩) (by decide) (by decide) q2378 q208 h3 h4 h5 ?_
    refine lv_astore hx hb dX0_arm_17 hl (by decide) rfl (fun ls hl9 => ?_)
    replace hl := hl9
    clear hl9
    refine lv_iconst (v := 2) hx hb dX0_arm_19 (by decide) ?_
    exact z_iret X hB ⟨_, rfl, hq.2 rfl⟩ h1 h2 dX0_arm_20
theorem ww_X0_arm_0 {Qk : Int32 → z_T → z_I → z_Q → Prop} (X : z_X l G A p R s m args meth c cX0_arm 5 RX0 "arm" (some .int) mc ms 12 205) (hT : c.exceptionTable.toList = tableOf hh_X0_arm) {cells slots : Nat} {T : z_T} {I : z_I} {Q : z_Q} {kc : Nat} {ks : Nat} {x0 : Option Nat} {x1 : Int32} {x2 : Int32} {x3 : Option Nat} {H : Heap} {locs : List Loc} {ls : Array Slot} (hB : z_HB G z_PL A s.heap T0 I0 Q0 T I Q H locs) (hK1 : cells + kc ≤ mc) (hK2 : slots + ks ≤ ms) (hl : lv_has ls 5 [(0, va_rf x0), (1, .int x1), (2, .int x2), (3, va_rf x3)]) (h : wb_X0_arm_0 Qk T I Q kc ks x0 x1 x2 x3) : W p l e R s m args below meth c H locs cells slots (z_MQ below G z_PL A T0 I0 Q0 (z_qi Qk) z_no args s mc ms) (F0 m 0 ls []) := by
  obtain ⟨hx, hb, -⟩ := id X
  unfold wb_X0_arm_0 at h
  refine z_aload_n (x := x3) hx hb dX0_arm_0 rfl (lv_at hl 3 rfl) ?_
  refine lv_iconst (v := 0) hx hb dX0_arm_1 (by decide) ?_
  refine z_aload_n (x := x0) hx hb dX0_arm_2 rfl (lv_at hl 0 rfl) ?_
  refine lv_iload_n hx hb dX0_arm_3 rfl (lv_at hl 1 rfl) ?_
  refine lv_iload_n hx hb dX0_arm_4 rfl (lv_at hl 2 rfl) ?_
  obtain ⟨a1, rfl, h⟩ := h
  obtain ⟨hk_a1, h⟩ := h
  obtain ⟨kc3, ks4, g1, g2, h⟩ := h
  refine z_callXi (z_runV (rest := [.int 0, va_rf x3]) [.int x1, .int x2] pk_X1_arm (met_X1_arm a1 x1 x2 kc3 ks4 _ _ h) X hB z_R0 q2752 kc_X1 (by decide) hk_a1 rfl hl.1 (by simp [z_cat, z_cati, z_catl, z_catf, z_catd, z_catq]) dX0_arm_5 (z_k1 hK1 g1) (z_k1 hK2 g2) (by decide) (by decide)) hB (fun _ h => z_RL h) (hw_X0_arm X hT (z_k1 hK1 g1) (z_k1 hK2 g2) (lv_sub hl [] rfl)) (fun r2 T5 I6 Q7 H locs h9 hF hB => ?_)
  replace h := h9
  clear h9
  replace h := h hF
  have hk_a1 := z_tk hF hk_a1 (by decide)
  replace hK1 := z_k2 hK1 g1
  replace hK2 := z_k2 hK2 g2
  refine lv_i2l hx hb dX0_arm_8 rfl ?_
  obtain ⟨a9, rfl, h⟩ := h
  obtain ⟨hk_a9, h⟩ := h
  obtain ⟨hc_a9, h⟩ := h
  obtain ⟨h1, h⟩ := h
  obtain ⟨I10, eI10⟩ : ∃ z, z = z_up I6 a9 (0 : Int32).toNatClampNeg r2 := ⟨_, rfl⟩
  replace h := h I10 eI10
  refine z_last (x := r2) X hB hk_a9 hc_a9 h1 dX0_arm_9 (fun H locs hB => ?_)
  rw [← eI10] at hB
  refine lv_goto (tgt := 21) hx hb dX0_arm_10 (by decide) ?_
  refine lv_iconst (v := 0) hx hb dX0_arm_21 (by decide) ?_
  exact z_iret X hB ⟨_, rfl, h⟩ (z_k3 hK1) (z_k3 hK2) dX0_arm_22
theorem pk_X0_arm : z_PSW yX0_arm cX0_arm 5 (some .int) hh_X0_arm 4 := ⟨q2750, q93, q2751, by decide +kernel⟩
theorem met_X0_arm {l : Launch} {G : z_E} {T : z_T} {I : z_I} {Q : z_Q} (x0 : Option Nat) (x1 : Int32) (x2 : Int32) (x3 : Option Nat) (kc : Nat) (ks : Nat) (Qk : Int32 → z_T → z_I → z_Q → Prop) (h : wp_X0_arm T I Q x0 x1 x2 x3 kc ks Qk) : z_GM l G yX0_arm (wsW_ yX0_arm cX0_arm 5 (some .int) hh_X0_arm) 12 205 kc ks [va_rf x0, .int x1, .int x2, va_rf x3] z_PL T I Q (z_qi Qk) z_no := by
  refine z_bodyW (own := RX0) (nm := "arm") (by decide +kernel) rfl rfl (by decide +kernel) (by cases x0 <;> cases x3 <;> exact Nat.le_of_ble_eq_true rfl) (fun p e R s m below meth c A ls X hT hB hl => ?_)
  replace hl : lv_has ls 5 [(0, va_rf x0), (1, .int x1), (2, .int x2), (3, va_rf x3)] := by cases x0 <;> cases x3 <;> exact hl
  exact ww_X0_arm_0 X hT hB z_k0 z_k0 hl h
/-! X0_buffer -/
abbrev hh_X0_buffer : List (Nat × Nat × Nat × Nat) := [(0, 10, 13, 13), (0, 10, 17, 15)]
theorem hw_X0_buffer {Qk : Int32 → z_T → z_I → z_Q → Prop} {cells slots mc' ms' : Nat} (X : z_X l G A p R s m args meth c cX0_buffer 5 RX0 "buffer" (some .int) mc ms 12 205) (hT : c.exceptionTable.toList = tableOf hh_X0_buffer) (h1 : cells + mc' ≤ mc) (h2 : slots + ms' ≤ ms) {ls : Array Slot} (hl : lv_has ls 5 []) {rest : List Value} {P' : Nat → Prop} : z_kx p l e R s m args below meth c cells slots mc' ms' 5 ls rest G z_PL A P' T0 I0 Q0 T I Q (fun E q T1 I1 Q1 => z_Fr P' T I Q T1 I1 Q1 → hx_X0_buffer Qk E q T1 I1 Q1) (z_MQ below G z_PL A T0 I0 Q0 (z_qi Qk) z_no args s mc ms) := by
  obtain ⟨hx, hb, -⟩ := id X
  intro q E ce T1 I1 Q1 H1 locs1 hq hF hB h3 h4 h5
  replace hq := hq hF
  obtain ⟨hE, hq⟩ := hq
  rcases hE with rfl | rfl
  · refine z_catch [] ⟨0, 10, 13, 13⟩ [⟨0, 10, 17, 15⟩] X hT rfl (by simp) (by decide) (by decide) q2359 q2395 h3 h4 h5 ?_
    refine lv_astore hx hb dX0_buffer_13 hl (by decide) rfl (fun ls hl9 => ?_)
    replace hl := hl9
    clear hl9
    refine lv_iconst (v := 1) hx hb dX0_buffer_15 (by decide) ?_
    exact z_iret X hB ⟨_, rfl, hq.1 rfl⟩ h1 h2 dX0_buffer_16
  · refine z_catch [⟨0, 10, 13, 13⟩] ⟨0, 10, 17, 15⟩ [] X hT rfl (by
      intro z hz
      simp only [List.mem_cons, List.not_mem_nil, or_false] at hz
      rcases hz with rfl
      · exact Or.inr ⟨by decide, _, q2359, by simp [z_nc]⟩) (by decide) (by decide) q2378 q208 h3 h4 h5 ?_
    refine lv_astore hx hb dX0_buffer_17 hl (by decide) rfl (fun ls hl9 => ?_)
    replace hl := hl9
    clear hl9
    refine lv_iconst (v := 2) hx hb dX0_buffer_19 (by decide) ?_
    exact z_iret X hB ⟨_, rfl, hq.2 rfl⟩ h1 h2 dX0_buffer_20
theorem ww_X0_buffer_0 {Qk : Int32 → z_T → z_I → z_Q → Prop} (X : z_X l G A p R s m args meth c cX0_buffer 5 RX0 "buffer" (some .int) mc ms 12 205) (hT : c.exceptionTable.toList = tableOf hh_X0_buffer) {cells slots : Nat} {T : z_T} {I : z_I} {Q : z_Q} {kc : Nat} {ks : Nat} {x0 : Option Nat} {x1 : Int32} {x2 : Int32} {x3 : Option Nat} {H : Heap} {locs : List Loc} {ls : Array Slot} (hB : z_HB G z_PL A s.heap T0 I0 Q0 T I Q H locs) (hK1 : cells + kc ≤ mc) (hK2 : slots + ks ≤ ms) (hl : lv_has ls 5 [(0, va_rf x0), (1, .int x1), (2, .int x2), (3, va_rf x3)]) (h : wb_X0_buffer_0 Qk T I Q kc ks x0 x1 x2 x3) : W p l e R s m args below meth c H locs cells slots (z_MQ below G z_PL A T0 I0 Q0 (z_qi Qk) z_no args s mc ms) (F0 m 0 ls []) := by
  obtain ⟨hx, hb, -⟩ := id X
  unfold wb_X0_buffer_0 at h
  refine z_aload_n (x := x3) hx hb dX0_buffer_0 rfl (lv_at hl 3 rfl) ?_
  refine lv_iconst (v := 0) hx hb dX0_buffer_1 (by decide) ?_
  refine z_aload_n (x := x0) hx hb dX0_buffer_2 rfl (lv_at hl 0 rfl) ?_
  refine lv_iload_n hx hb dX0_buffer_3 rfl (lv_at hl 1 rfl) ?_
  refine lv_iload_n hx hb dX0_buffer_4 rfl (lv_at hl 2 rfl) ?_
  obtain ⟨a1, rfl, h⟩ := h
  obtain ⟨hk_a1, h⟩ := h
  obtain ⟨kc3, ks4, g1, g2, h⟩ := h
  refine z_callXi (z_runV (rest := [.int 0, va_rf x3]) [.int x1, .int x2] pk_X1_buffer (met_X1_buffer a1 x1 x2 kc3 ks4 _ _ h) X hB z_R0 q2578 kc_X1 (by decide) hk_a1 rfl hl.1 (by simp [z_cat, z_cati, z_catl, z_catf, z_catd, z_catq]) dX0_buffer_5 (z_k1 hK1 g1) (z_k1 hK2 g2) (by decide) (by decide)) hB (fun _ h => z_RL h) (hw_X0_buffer X hT (z_k1 hK1 g1) (z_k1 hK2 g2) (lv_sub hl [] rfl)) (fun r2 T5 I6 Q7 H locs h9 hF hB => ?_)
  replace h := h9
  clear h9
  replace h := h hF
  have hk_a1 := z_tk hF hk_a1 (by decide)
  replace hK1 := z_k2 hK1 g1
  replace hK2 := z_k2 hK2 g2
  refine lv_i2l hx hb dX0_buffer_8 rfl ?_
  obtain ⟨a9, rfl, h⟩ := h
  obtain ⟨hk_a9, h⟩ := h
  obtain ⟨hc_a9, h⟩ := h
  obtain ⟨h1, h⟩ := h
  obtain ⟨I10, eI10⟩ : ∃ z, z = z_up I6 a9 (0 : Int32).toNatClampNeg r2 := ⟨_, rfl⟩
  replace h := h I10 eI10
  refine z_last (x := r2) X hB hk_a9 hc_a9 h1 dX0_buffer_9 (fun H locs hB => ?_)
  rw [← eI10] at hB
  refine lv_goto (tgt := 21) hx hb dX0_buffer_10 (by decide) ?_
  refine lv_iconst (v := 0) hx hb dX0_buffer_21 (by decide) ?_
  exact z_iret X hB ⟨_, rfl, h⟩ (z_k3 hK1) (z_k3 hK2) dX0_buffer_22
theorem pk_X0_buffer : z_PSW yX0_buffer cX0_buffer 5 (some .int) hh_X0_buffer 4 := ⟨q2576, q93, q2577, by decide +kernel⟩
theorem met_X0_buffer {l : Launch} {G : z_E} {T : z_T} {I : z_I} {Q : z_Q} (x0 : Option Nat) (x1 : Int32) (x2 : Int32) (x3 : Option Nat) (kc : Nat) (ks : Nat) (Qk : Int32 → z_T → z_I → z_Q → Prop) (h : wp_X0_buffer T I Q x0 x1 x2 x3 kc ks Qk) : z_GM l G yX0_buffer (wsW_ yX0_buffer cX0_buffer 5 (some .int) hh_X0_buffer) 12 205 kc ks [va_rf x0, .int x1, .int x2, va_rf x3] z_PL T I Q (z_qi Qk) z_no := by
  refine z_bodyW (own := RX0) (nm := "buffer") (by decide +kernel) rfl rfl (by decide +kernel) (by cases x0 <;> cases x3 <;> exact Nat.le_of_ble_eq_true rfl) (fun p e R s m below meth c A ls X hT hB hl => ?_)
  replace hl : lv_has ls 5 [(0, va_rf x0), (1, .int x1), (2, .int x2), (3, va_rf x3)] := by cases x0 <;> cases x3 <;> exact hl
  exact ww_X0_buffer_0 X hT hB z_k0 z_k0 hl h
/-! X0_endsAfter -/
abbrev hh_X0_endsAfter : List (Nat × Nat × Nat × Nat) := [(0, 9, 12, 13), (0, 9, 15, 39)]
theorem hw_X0_endsAfter {Qk : Int32 → z_T → z_I → z_Q → Prop} {cells slots mc' ms' : Nat} (X : z_X l G A p R s m args meth c cX0_endsAfter 4 RX0 "endsAfter" (some .int) mc ms 27 536) (hT : c.exceptionTable.toList = tableOf hh_X0_endsAfter) (h1 : cells + mc' ≤ mc) (h2 : slots + ms' ≤ ms) {ls : Array Slot} (hl : lv_has ls 4 []) {rest : List Value} {P' : Nat → Prop} : z_kx p l e R s m args below meth c cells slots mc' ms' 4 ls rest G z_PL A P' T0 I0 Q0 T I Q (fun E q T1 I1 Q1 => z_Fr P' T I Q T1 I1 Q1 → hx_X0_endsAfter Qk E q T1 I1 Q1) (z_MQ below G z_PL A T0 I0 Q0 (z_qi Qk) z_no args s mc ms) := by
  obtain ⟨hx, hb, -⟩ := id X
  intro q E ce T1 I1 Q1 H1 locs1 hq hF hB h3 h4 h5
  replace hq := hq hF
  obtain ⟨hE, hq⟩ := hq
  rcases hE with rfl | rfl
  · refine z_catch [] ⟨0, 9, 12, 13⟩ [⟨0, 9, 15, 39⟩] X hT rfl (by simp) (by decide) (by decide) q2359 q2395 h3 h4 h5 ?_
    refine lv_astore_n hx hb dX0_endsAfter_12 rfl hl (by decide) rfl (fun ls hl9 => ?_)
    replace hl := hl9
    clear hl9
    refine lv_iconst (v := 1) hx hb dX0_endsAfter_13 (by decide) ?_
    exact z_iret X hB ⟨_, rfl, hq.1 rfl⟩ h1 h2 dX0_endsAfter_14
  · refine z_catch [⟨0, 9, 12, 13⟩] ⟨0, 9, 15, 39⟩ [] X hT rfl (by
      intro z hz
      simp only [List.mem_cons, List.not_mem_nil, or_false] at hz
      rcases hz with rfl
      · exact Or.inr ⟨by decide, _, q2359, by simp [z_nc]⟩) (by decide) (by decide) q2589 q1539 h3 h4 h5 ?_
    refine lv_astore_n hx hb dX0_endsAfter_15 rfl hl (by decide) rfl (fun ls hl9 => ?_)
    replace hl := hl9
    clear hl9
    refine lv_iconst (v := 2) hx hb dX0_endsAfter_16 (by decide) ?_
    exact z_iret X hB ⟨_, rfl, hq.2 rfl⟩ h1 h2 dX0_endsAfter_17
theorem ww_X0_endsAfter_0 {Qk : Int32 → z_T → z_I → z_Q → Prop} (X : z_X l G A p R s m args meth c cX0_endsAfter 4 RX0 "endsAfter" (some .int) mc ms 27 536) (hT : c.exceptionTable.toList = tableOf hh_X0_endsAfter) {cells slots : Nat} {T : z_T} {I : z_I} {Q : z_Q} {kc : Nat} {ks : Nat} {x0 : Option Nat} {x1 : Int32} {x2 : Option Nat} {H : Heap} {locs : List Loc} {ls : Array Slot} (hB : z_HB G z_PL A s.heap T0 I0 Q0 T I Q H locs) (hK1 : cells + kc ≤ mc) (hK2 : slots + ks ≤ ms) (hl : lv_has ls 4 [(0, va_rf x0), (1, .int x1), (2, va_rf x2)]) (h : wb_X0_endsAfter_0 G.2.2 Qk T I Q kc ks x0 x1 x2) : W p l e R s m args below meth c H locs cells slots (z_MQ below G z_PL A T0 I0 Q0 (z_qi Qk) z_no args s mc ms) (F0 m 0 ls []) := by
  obtain ⟨hx, hb, -⟩ := id X
  unfold wb_X0_endsAfter_0 at h
  refine z_aload_n (x := x2) hx hb dX0_endsAfter_0 rfl (lv_at hl 2 rfl) ?_
  refine lv_iconst (v := 0) hx hb dX0_endsAfter_1 (by decide) ?_
  refine z_aload_n (x := x0) hx hb dX0_endsAfter_2 rfl (lv_at hl 0 rfl) ?_
  refine lv_iload_n hx hb dX0_endsAfter_3 rfl (lv_at hl 1 rfl) ?_
  obtain ⟨a1, rfl, h⟩ := h
  obtain ⟨hk_a1, h⟩ := h
  obtain ⟨kc3, ks4, g1, g2, h⟩ := h
  refine z_callXi (z_runV (rest := [.int 0, va_rf x2]) [.int x1] pk_X1_endsAfter (met_X1_endsAfter a1 x1 kc3 ks4 _ _ h) X hB z_R0 q2924 kc_X1 (by decide) hk_a1 rfl hl.1 (by simp [z_cat, z_cati, z_catl, z_catf, z_catd, z_catq]) dX0_endsAfter_4 (z_k1 hK1 g1) (z_k1 hK2 g2) (by decide) (by decide)) hB (fun _ h => z_RL h) (hw_X0_endsAfter X hT (z_k1 hK1 g1) (z_k1 hK2 g2) (lv_sub hl [] rfl)) (fun r2 T5 I6 Q7 H locs h9 hF hB => ?_)
  replace h := h9
  clear h9
  replace h := h hF
  have hk_a1 := z_tk hF hk_a1 (by decide)
  replace hK1 := z_k2 hK1 g1
  replace hK2 := z_k2 hK2 g2
  refine lv_i2l hx hb dX0_endsAfter_7 rfl ?_
  obtain ⟨a9, rfl, h⟩ := h
  obtain ⟨hk_a9, h⟩ := h
  obtain ⟨hc_a9, h⟩ := h
  obtain ⟨h1, h⟩ := h
  obtain ⟨I10, eI10⟩ : ∃ z, z = z_up I6 a9 (0 : Int32).toNatClampNeg r2 := ⟨_, rfl⟩
  replace h := h I10 eI10
  refine z_last (x := r2) X hB hk_a9 hc_a9 h1 dX0_endsAfter_8 (fun H locs hB => ?_)
  rw [← eI10] at hB
  refine lv_goto (tgt := 18) hx hb dX0_endsAfter_9 (by decide) ?_
  refine lv_iconst (v := 0) hx hb dX0_endsAfter_18 (by decide) ?_
  exact z_iret X hB ⟨_, rfl, h⟩ (z_k3 hK1) (z_k3 hK2) dX0_endsAfter_19
theorem pk_X0_endsAfter : z_PSW yX0_endsAfter cX0_endsAfter 4 (some .int) hh_X0_endsAfter 3 := ⟨q2922, q93, q2923, by decide +kernel⟩
theorem met_X0_endsAfter {l : Launch} {G : z_E} {T : z_T} {I : z_I} {Q : z_Q} (x0 : Option Nat) (x1 : Int32) (x2 : Option Nat) (kc : Nat) (ks : Nat) (Qk : Int32 → z_T → z_I → z_Q → Prop) (h : wp_X0_endsAfter G.2.2 T I Q x0 x1 x2 kc ks Qk) : z_GM l G yX0_endsAfter (wsW_ yX0_endsAfter cX0_endsAfter 4 (some .int) hh_X0_endsAfter) 27 536 kc ks [va_rf x0, .int x1, va_rf x2] z_PL T I Q (z_qi Qk) z_no := by
  refine z_bodyW (own := RX0) (nm := "endsAfter") (by decide +kernel) rfl rfl (by decide +kernel) (by cases x0 <;> cases x2 <;> exact Nat.le_of_ble_eq_true rfl) (fun p e R s m below meth c A ls X hT hB hl => ?_)
  replace hl : lv_has ls 4 [(0, va_rf x0), (1, .int x1), (2, va_rf x2)] := by cases x0 <;> cases x2 <;> exact hl
  exact ww_X0_endsAfter_0 X hT hB z_k0 z_k0 hl h
/-! X0_entry -/
abbrev hh_X0_entry : List (Nat × Nat × Nat × Nat) := [(0, 10, 13, 13), (0, 10, 17, 15)]
theorem hw_X0_entry {Qk : Int32 → z_T → z_I → z_Q → Prop} {cells slots mc' ms' : Nat} (X : z_X l G A p R s m args meth c cX0_entry 5 RX0 "entry" (some .int) mc ms 14 251) (hT : c.exceptionTable.toList = tableOf hh_X0_entry) (h1 : cells + mc' ≤ mc) (h2 : slots + ms' ≤ ms) {ls : Array Slot} (hl : lv_has ls 5 []) {rest : List Value} {P' : Nat → Prop} : z_kx p l e R s m args below meth c cells slots mc' ms' 5 ls rest G z_PL A P' T0 I0 Q0 T I Q (fun E q T1 I1 Q1 => z_Fr P' T I Q T1 I1 Q1 → hx_X0_entry Qk E q T1 I1 Q1) (z_MQ below G z_PL A T0 I0 Q0 (z_qi Qk) z_no args s mc ms) := by
  obtain ⟨hx, hb, -⟩ := id X
  intro q E ce T1 I1 Q1 H1 locs1 hq hF hB h3 h4 h5
  replace hq := hq hF
  obtain ⟨hE, hq⟩ := hq
  rcases hE with rfl | rfl
  · refine z_catch [] ⟨0, 10, 13, 13⟩ [⟨0, 10, 17, 15⟩] X hT rfl (by simp) (by decide) (by decide) q2359 q2395 h3 h4 h5 ?_
    refine lv_astore hx hb dX0_entry_13 hl (by decide) rfl (fun ls hl9 => ?_)
    replace hl := hl9
    clear hl9
    refine lv_iconst (v := 1) hx hb dX0_entry_15 (by decide) ?_
    exact z_iret X hB ⟨_, rfl, hq.1 rfl⟩ h1 h2 dX0_entry_16
  · refine z_catch [⟨0, 10, 13, 13⟩] ⟨0, 10, 17, 15⟩ [] X hT rfl (by
      intro z hz
      simp only [List.mem_cons, List.not_mem_nil, or_false] at hz
      rcases hz with rfl
      · exact Or.inr ⟨by decide, _, q2359, by simp [z_nc]⟩) (by decide) (by decide) q2378 q208 h3 h4 h5 ?_
    refine lv_astore hx hb dX0_entry_17 hl (by decide) rfl (fun ls hl9 => ?_)
    replace hl := hl9
    clear hl9
    refine lv_iconst (v := 2) hx hb dX0_entry_19 (by decide) ?_
    exact z_iret X hB ⟨_, rfl, hq.2 rfl⟩ h1 h2 dX0_entry_20
theorem ww_X0_entry_0 {Qk : Int32 → z_T → z_I → z_Q → Prop} (X : z_X l G A p R s m args meth c cX0_entry 5 RX0 "entry" (some .int) mc ms 14 251) (hT : c.exceptionTable.toList = tableOf hh_X0_entry) {cells slots : Nat} {T : z_T} {I : z_I} {Q : z_Q} {kc : Nat} {ks : Nat} {x0 : Option Nat} {x1 : Int32} {x2 : Int32} {x3 : Option Nat} {H : Heap} {locs : List Loc} {ls : Array Slot} (hB : z_HB G z_PL A s.heap T0 I0 Q0 T I Q H locs) (hK1 : cells + kc ≤ mc) (hK2 : slots + ks ≤ ms) (hl : lv_has ls 5 [(0, va_rf x0), (1, .int x1), (2, .int x2), (3, va_rf x3)]) (h : wb_X0_entry_0 Qk T I Q kc ks x0 x1 x2 x3) : W p l e R s m args below meth c H locs cells slots (z_MQ below G z_PL A T0 I0 Q0 (z_qi Qk) z_no args s mc ms) (F0 m 0 ls []) := by
  obtain ⟨hx, hb, -⟩ := id X
  unfold wb_X0_entry_0 at h
  refine z_aload_n (x := x3) hx hb dX0_entry_0 rfl (lv_at hl 3 rfl) ?_
  refine lv_iconst (v := 0) hx hb dX0_entry_1 (by decide) ?_
  refine z_aload_n (x := x0) hx hb dX0_entry_2 rfl (lv_at hl 0 rfl) ?_
  refine lv_iload_n hx hb dX0_entry_3 rfl (lv_at hl 1 rfl) ?_
  refine lv_iload_n hx hb dX0_entry_4 rfl (lv_at hl 2 rfl) ?_
  obtain ⟨a1, rfl, h⟩ := h
  obtain ⟨hk_a1, h⟩ := h
  obtain ⟨kc3, ks4, g1, g2, h⟩ := h
  refine z_callXi (z_runV (rest := [.int 0, va_rf x3]) [.int x1, .int x2] pk_X1_entry (met_X1_entry a1 x1 x2 kc3 ks4 _ _ h) X hB z_R0 q2943 kc_X1 (by decide) hk_a1 rfl hl.1 (by simp [z_cat, z_cati, z_catl, z_catf, z_catd, z_catq]) dX0_entry_5 (z_k1 hK1 g1) (z_k1 hK2 g2) (by decide) (by decide)) hB (fun _ h => z_RL h) (hw_X0_entry X hT (z_k1 hK1 g1) (z_k1 hK2 g2) (lv_sub hl [] rfl)) (fun r2 T5 I6 Q7 H locs h9 hF hB => ?_)
  replace h := h9
  clear h9
  replace h := h hF
  have hk_a1 := z_tk hF hk_a1 (by decide)
  replace hK1 := z_k2 hK1 g1
  replace hK2 := z_k2 hK2 g2
  refine lv_i2l hx hb dX0_entry_8 rfl ?_
  obtain ⟨a9, rfl, h⟩ := h
  obtain ⟨hk_a9, h⟩ := h
  obtain ⟨hc_a9, h⟩ := h
  obtain ⟨h1, h⟩ := h
  obtain ⟨I10, eI10⟩ : ∃ z, z = z_up I6 a9 (0 : Int32).toNatClampNeg r2 := ⟨_, rfl⟩
  replace h := h I10 eI10
  refine z_last (x := r2) X hB hk_a9 hc_a9 h1 dX0_entry_9 (fun H locs hB => ?_)
  rw [← eI10] at hB
  refine lv_goto (tgt := 21) hx hb dX0_entry_10 (by decide) ?_
  refine lv_iconst (v := 0) hx hb dX0_entry_21 (by decide) ?_
  exact z_iret X hB ⟨_, rfl, h⟩ (z_k3 hK1) (z_k3 hK2) dX0_entry_22
theorem pk_X0_entry : z_PSW yX0_entry cX0_entry 5 (some .int) hh_X0_entry 4 := ⟨q2941, q93, q2942, by decide +kernel⟩
theorem met_X0_entry {l : Launch} {G : z_E} {T : z_T} {I : z_I} {Q : z_Q} (x0 : Option Nat) (x1 : Int32) (x2 : Int32) (x3 : Option Nat) (kc : Nat) (ks : Nat) (Qk : Int32 → z_T → z_I → z_Q → Prop) (h : wp_X0_entry T I Q x0 x1 x2 x3 kc ks Qk) : z_GM l G yX0_entry (wsW_ yX0_entry cX0_entry 5 (some .int) hh_X0_entry) 14 251 kc ks [va_rf x0, .int x1, .int x2, va_rf x3] z_PL T I Q (z_qi Qk) z_no := by
  refine z_bodyW (own := RX0) (nm := "entry") (by decide +kernel) rfl rfl (by decide +kernel) (by cases x0 <;> cases x3 <;> exact Nat.le_of_ble_eq_true rfl) (fun p e R s m below meth c A ls X hT hB hl => ?_)
  replace hl : lv_has ls 5 [(0, va_rf x0), (1, .int x1), (2, .int x2), (3, va_rf x3)] := by cases x0 <;> cases x3 <;> exact hl
  exact ww_X0_entry_0 X hT hB z_k0 z_k0 hl h
/-! X0_feed -/
abbrev hh_X0_feed : List (Nat × Nat × Nat × Nat) := [(0, 9, 12, 17)]
theorem hw_X0_feed {Qk : Int32 → z_T → z_I → z_Q → Prop} {cells slots mc' ms' : Nat} (X : z_X l G A p R s m args meth c cX0_feed 4 RX0 "feed" (some .int) mc ms 10 161) (hT : c.exceptionTable.toList = tableOf hh_X0_feed) (h1 : cells + mc' ≤ mc) (h2 : slots + ms' ≤ ms) {ls : Array Slot} (hl : lv_has ls 4 []) {rest : List Value} {P' : Nat → Prop} : z_kx p l e R s m args below meth c cells slots mc' ms' 4 ls rest G z_PL A P' T0 I0 Q0 T I Q (fun E q T1 I1 Q1 => z_Fr P' T I Q T1 I1 Q1 → hx_X0_feed Qk E q T1 I1 Q1) (z_MQ below G z_PL A T0 I0 Q0 (z_qi Qk) z_no args s mc ms) := by
  obtain ⟨hx, hb, -⟩ := id X
  intro q E ce T1 I1 Q1 H1 locs1 hq hF hB h3 h4 h5
  replace hq := hq hF
  obtain ⟨hE, hq⟩ := hq
  rcases hE with rfl
  · refine z_catch [] ⟨0, 9, 12, 17⟩ [] X hT rfl (by simp) (by decide) (by decide) q2379 q1001 h3 h4 h5 ?_
    refine lv_astore_n hx hb dX0_feed_12 rfl hl (by decide) rfl (fun ls hl9 => ?_)
    replace hl := hl9
    clear hl9
    refine lv_iconst (v := 1) hx hb dX0_feed_13 (by decide) ?_
    exact z_iret X hB ⟨_, rfl, hq rfl⟩ h1 h2 dX0_feed_14
theorem ww_X0_feed_0 {Qk : Int32 → z_T → z_I → z_Q → Prop} (X : z_X l G A p R s m args meth c cX0_feed 4 RX0 "feed" (some .int) mc ms 10 161) (hT : c.exceptionTable.toList = tableOf hh_X0_feed) {cells slots : Nat} {T : z_T} {I : z_I} {Q : z_Q} {kc : Nat} {ks : Nat} {x0 : Option Nat} {x1 : Int32} {x2 : Option Nat} {H : Heap} {locs : List Loc} {ls : Array Slot} (hB : z_HB G z_PL A s.heap T0 I0 Q0 T I Q H locs) (hK1 : cells + kc ≤ mc) (hK2 : slots + ks ≤ ms) (hl : lv_has ls 4 [(0, va_rf x0), (1, .int x1), (2, va_rf x2)]) (h : wb_X0_feed_0 Qk T I Q kc ks x0 x1 x2) : W p l e R s m args below meth c H locs cells slots (z_MQ below G z_PL A T0 I0 Q0 (z_qi Qk) z_no args s mc ms) (F0 m 0 ls []) := by
  obtain ⟨hx, hb, -⟩ := id X
  unfold wb_X0_feed_0 at h
  refine z_aload_n (x := x2) hx hb dX0_feed_0 rfl (lv_at hl 2 rfl) ?_
  refine lv_iconst (v := 0) hx hb dX0_feed_1 (by decide) ?_
  refine z_aload_n (x := x0) hx hb dX0_feed_2 rfl (lv_at hl 0 rfl) ?_
  refine lv_iload_n hx hb dX0_feed_3 rfl (lv_at hl 1 rfl) ?_
  obtain ⟨a1, rfl, h⟩ := h
  obtain ⟨hk_a1, h⟩ := h
  obtain ⟨kc3, ks4, g1, g2, h⟩ := h
  refine z_callXi (z_runV (rest := [.int 0, va_rf x2]) [.int x1] pk_X1_feed (met_X1_feed a1 x1 kc3 ks4 _ _ h) X hB z_R0 q3014 kc_X1 (by decide) hk_a1 rfl hl.1 (by simp [z_cat, z_cati, z_catl, z_catf, z_catd, z_catq]) dX0_feed_4 (z_k1 hK1 g1) (z_k1 hK2 g2) (by decide) (by decide)) hB (fun _ h => z_RL h) (hw_X0_feed X hT (z_k1 hK1 g1) (z_k1 hK2 g2) (lv_sub hl [] rfl)) (fun r2 T5 I6 Q7 H locs h9 hF hB => ?_)
  replace h := h9
  clear h9
  replace h := h hF
  have hk_a1 := z_tk hF hk_a1 (by decide)
  replace hK1 := z_k2 hK1 g1
  replace hK2 := z_k2 hK2 g2
  refine lv_i2l hx hb dX0_feed_7 rfl ?_
  obtain ⟨a9, rfl, h⟩ := h
  obtain ⟨hk_a9, h⟩ := h
  obtain ⟨hc_a9, h⟩ := h
  obtain ⟨h1, h⟩ := h
  obtain ⟨I10, eI10⟩ : ∃ z, z = z_up I6 a9 (0 : Int32).toNatClampNeg r2 := ⟨_, rfl⟩
  replace h := h I10 eI10
  refine z_last (x := r2) X hB hk_a9 hc_a9 h1 dX0_feed_8 (fun H locs hB => ?_)
  rw [← eI10] at hB
  refine lv_goto (tgt := 15) hx hb dX0_feed_9 (by decide) ?_
  refine lv_iconst (v := 0) hx hb dX0_feed_15 (by decide) ?_
  exact z_iret X hB ⟨_, rfl, h⟩ (z_k3 hK1) (z_k3 hK2) dX0_feed_16
theorem pk_X0_feed : z_PSW yX0_feed cX0_feed 4 (some .int) hh_X0_feed 3 := ⟨q3012, q93, q3013, by decide +kernel⟩
theorem met_X0_feed {l : Launch} {G : z_E} {T : z_T} {I : z_I} {Q : z_Q} (x0 : Option Nat) (x1 : Int32) (x2 : Option Nat) (kc : Nat) (ks : Nat) (Qk : Int32 → z_T → z_I → z_Q → Prop) (h : wp_X0_feed T I Q x0 x1 x2 kc ks Qk) : z_GM l G yX0_feed (wsW_ yX0_feed cX0_feed 4 (some .int) hh_X0_feed) 10 161 kc ks [va_rf x0, .int x1, va_rf x2] z_PL T I Q (z_qi Qk) z_no := by
  refine z_bodyW (own := RX0) (nm := "feed") (by decide +kernel) rfl rfl (by decide +kernel) (by cases x0 <;> cases x2 <;> exact Nat.le_of_ble_eq_true rfl) (fun p e R s m below meth c A ls X hT hB hl => ?_)
  replace hl : lv_has ls 4 [(0, va_rf x0), (1, .int x1), (2, va_rf x2)] := by cases x0 <;> cases x2 <;> exact hl
  exact ww_X0_feed_0 X hT hB z_k0 z_k0 hl h
/-! X0_give -/
abbrev hh_X0_give : List (Nat × Nat × Nat × Nat) := [(0, 18, 21, 13), (0, 18, 25, 15), (0, 18, 29, 45), (0, 18, 33, 17)]
theorem hw_X0_give {Qk : Int32 → z_T → z_I → z_Q → Prop} {cells slots mc' ms' : Nat} (X : z_X l G A p R s m args meth c cX0_give 9 RX0 "give" (some .int) mc ms 16 320) (hT : c.exceptionTable.toList = tableOf hh_X0_give) (h1 : cells + mc' ≤ mc) (h2 : slots + ms' ≤ ms) {ls : Array Slot} (hl : lv_has ls 9 []) {rest : List Value} {P' : Nat → Prop} : z_kx p l e R s m args below meth c cells slots mc' ms' 13 ls rest G z_PL A P' T0 I0 Q0 T I Q (fun E q T1 I1 Q1 => z_Fr P' T I Q T1 I1 Q1 → hx_X0_give Qk E q T1 I1 Q1) (z_MQ below G z_PL A T0 I0 Q0 (z_qi Qk) z_no args s mc ms) := by
  obtain ⟨hx, hb, -⟩ := id X
  intro q E ce T1 I1 Q1 H1 locs1 hq hF hB h3 h4 h5
  replace hq := hq hF
  obtain ⟨hE, hq⟩ := hq
  rcases hE with rfl | rfl | rfl | rfl
  · refine z_catch [] ⟨0, 18, 21, 13⟩ [⟨0, 18, 25, 15⟩, ⟨0, 18, 29, 45⟩, ⟨0, 18, 33, 17⟩] X hT rfl (by simp) (by decide) (by decide) q2359 q2395 h3 h4 h5 ?_
    refine lv_astore hx hb dX0_give_21 hl (by decide) rfl (fun ls hl9 => ?_)
    replace hl := hl9
    clear hl9
    refine lv_iconst (v := 1) hx hb dX0_give_23 (by decide) ?_
    exact z_iret X hB ⟨_, rfl, hq.1 rfl⟩ h1 h2 dX0_give_24
  · refine z_catch [⟨0, 18, 21, 13⟩] ⟨0, 18, 25, 15⟩ [⟨0, 18, 29, 45⟩, ⟨0, 18, 33, 17⟩] X hT rfl (by
      intro z hz
      simp only [List.mem_cons, List.not_mem_nil, or_false] at hz
      rcases hz with rfl
      · exact Or.inr ⟨by decide, _, q2359, by simp [z_nc]⟩) (by decide) (by decide) q2378 q208 h3 h4 h5 ?_
    refine lv_astore hx hb dX0_give_25 hl (by decide) rfl (fun ls hl9 => ?_)
    replace hl := hl9
    clear hl9
    refine lv_iconst (v := 2) hx hb dX0_give_27 (by decide) ?_
    exact z_iret X hB ⟨_, rfl, hq.2.1 rfl⟩ h1 h2 dX0_give_28
  · refine z_catch [⟨0, 18, 21, 13⟩, ⟨0, 18, 25, 15⟩] ⟨0, 18, 29, 45⟩ [⟨0, 18, 33, 17⟩] X hT rfl (by
      intro z hz
      simp only [List.mem_cons, List.not_mem_nil, or_false] at hz
      rcases hz with rfl | rfl
      · exact Or.inr ⟨by decide, _, q2359, by simp [z_nc]⟩
      · exact Or.inr ⟨by decide, _, q2378, by simp [z_nc]⟩) (by decide) (by decide) q2629 q2691 h3 h4 h5 ?_
    refine lv_astore hx hb dX0_give_29 hl (by decide) rfl (fun ls hl9 => ?_)
    replace hl := hl9
    clear hl9
    refine lv_iconst (v := 3) hx hb dX0_give_31 (by decide) ?_
    exact z_iret X hB ⟨_, rfl, hq.2.2.1 rfl⟩ h1 h2 dX0_give_32
  · refine z_catch [⟨0, 18, 21, 13⟩, ⟨0, 18, 25, 15⟩, ⟨0, 18, 29, 45⟩] ⟨0, 18, 33, 17⟩ [] X hT rfl (by
      intro z hz
      simp only [List.mem_cons, List.not_mem_nil, or_false] at hz
      rcases hz with rfl | rfl | rfl
      · exact Or.inr ⟨by decide, _, q2359, by simp [z_nc]⟩
      · exact Or.inr ⟨by decide, _, q2378, by simp [z_nc]⟩
      · exact Or.inr ⟨by decide, _, q2629, by simp [z_nc]⟩) (by decide) (by decide) q2379 q1001 h3 h4 h5 ?_
    refine lv_astore hx hb dX0_give_33 hl (by decide) rfl (fun ls hl9 => ?_)
    replace hl := hl9
    clear hl9
    refine lv_iconst (v := 4) hx hb dX0_give_35 (by decide) ?_
    exact z_iret X hB ⟨_, rfl, hq.2.2.2 rfl⟩ h1 h2 dX0_give_36
theorem ww_X0_give_0 {Qk : Int32 → z_T → z_I → z_Q → Prop} (X : z_X l G A p R s m args meth c cX0_give 9 RX0 "give" (some .int) mc ms 16 320) (hT : c.exceptionTable.toList = tableOf hh_X0_give) {cells slots : Nat} {T : z_T} {I : z_I} {Q : z_Q} {kc : Nat} {ks : Nat} {x0 : Option Nat} {x1 : Int32} {x2 : Int32} {x3 : Int32} {x4 : Int32} {x5 : Int32} {x6 : Int32} {x7 : Option Nat} {H : Heap} {locs : List Loc} {ls : Array Slot} (hB : z_HB G z_PL A s.heap T0 I0 Q0 T I Q H locs) (hK1 : cells + kc ≤ mc) (hK2 : slots + ks ≤ ms) (hl : lv_has ls 9 [(0, va_rf x0), (1, .int x1), (2, .int x2), (3, .int x3), (4, .int x4), (5, .int x5), (6, .int x6), (7, va_rf x7)]) (h : wb_X0_give_0 G.2.2 Qk T I Q kc ks x0 x1 x2 x3 x4 x5 x6 x7) : W p l e R s m args below meth c H locs cells slots (z_MQ below G z_PL A T0 I0 Q0 (z_qi Qk) z_no args s mc ms) (F0 m 0 ls []) := by
  obtain ⟨hx, hb, -⟩ := id X
  unfold wb_X0_give_0 at h
  refine z_aload (x := x7) hx hb dX0_give_0 (lv_at hl 7 rfl) ?_
  refine lv_iconst (v := 0) hx hb dX0_give_2 (by decide) ?_
  refine z_aload_n (x := x0) hx hb dX0_give_3 rfl (lv_at hl 0 rfl) ?_
  refine lv_iload_n hx hb dX0_give_4 rfl (lv_at hl 1 rfl) ?_
  refine lv_iload_n hx hb dX0_give_5 rfl (lv_at hl 2 rfl) ?_
  refine lv_iload_n hx hb dX0_give_6 rfl (lv_at hl 3 rfl) ?_
  refine lv_iload hx hb dX0_give_7 (lv_at hl 4 rfl) ?_
  refine lv_iload hx hb dX0_give_9 (lv_at hl 5 rfl) ?_
  refine lv_iload hx hb dX0_give_11 (lv_at hl 6 rfl) ?_
  obtain ⟨a1, rfl, h⟩ := h
  obtain ⟨hk_a1, h⟩ := h
  obtain ⟨kc3, ks4, g1, g2, h⟩ := h
  refine z_callXi (z_runV (rest := [.int 0, va_rf x7]) [.int x1, .int x2, .int x3, .int x4, .int x5, .int x6] pk_X1_give (met_X1_give a1 x1 x2 x3 x4 x5 x6 kc3 ks4 _ _ h) X hB z_R0 q2630 kc_X1 (by decide) hk_a1 rfl hl.1 (by simp [z_cat, z_cati, z_catl, z_catf, z_catd, z_catq]) dX0_give_13 (z_k1 hK1 g1) (z_k1 hK2 g2) (by decide) (by decide)) hB (fun _ h => z_RL h) (hw_X0_give X hT (z_k1 hK1 g1) (z_k1 hK2 g2) (lv_sub hl [] rfl)) (fun r2 T5 I6 Q7 H locs h9 hF hB => ?_)
  replace h := h9
  clear h9
  replace h := h hF
  have hk_a1 := z_tk hF hk_a1 (by decide)
  replace hK1 := z_k2 hK1 g1
  replace hK2 := z_k2 hK2 g2
  refine lv_i2l hx hb dX0_give_16 rfl ?_
  obtain ⟨a9, rfl, h⟩ := h
  obtain ⟨hk_a9, h⟩ := h
  obtain ⟨hc_a9, h⟩ := h
  obtain ⟨h1, h⟩ := h
  obtain ⟨I10, eI10⟩ : ∃ z, z = z_up I6 a9 (0 : Int32).toNatClampNeg r2 := ⟨_, rfl⟩
  replace h := h I10 eI10
  refine z_last (x := r2) X hB hk_a9 hc_a9 h1 dX0_give_17 (fun H locs hB => ?_)
  rw [← eI10] at hB
  refine lv_goto (tgt := 37) hx hb dX0_give_18 (by decide) ?_
  refine lv_iconst (v := 0) hx hb dX0_give_37 (by decide) ?_
  exact z_iret X hB ⟨_, rfl, h⟩ (z_k3 hK1) (z_k3 hK2) dX0_give_38
theorem pk_X0_give : z_PSW yX0_give cX0_give 9 (some .int) hh_X0_give 8 := ⟨q2627, q93, q2628, by decide +kernel⟩
theorem met_X0_give {l : Launch} {G : z_E} {T : z_T} {I : z_I} {Q : z_Q} (x0 : Option Nat) (x1 : Int32) (x2 : Int32) (x3 : Int32) (x4 : Int32) (x5 : Int32) (x6 : Int32) (x7 : Option Nat) (kc : Nat) (ks : Nat) (Qk : Int32 → z_T → z_I → z_Q → Prop) (h : wp_X0_give G.2.2 T I Q x0 x1 x2 x3 x4 x5 x6 x7 kc ks Qk) : z_GM l G yX0_give (wsW_ yX0_give cX0_give 9 (some .int) hh_X0_give) 16 320 kc ks [va_rf x0, .int x1, .int x2, .int x3, .int x4, .int x5, .int x6, va_rf x7] z_PL T I Q (z_qi Qk) z_no := by
  refine z_bodyW (own := RX0) (nm := "give") (by decide +kernel) rfl rfl (by decide +kernel) (by cases x0 <;> cases x7 <;> exact Nat.le_of_ble_eq_true rfl) (fun p e R s m below meth c A ls X hT hB hl => ?_)
  replace hl : lv_has ls 9 [(0, va_rf x0), (1, .int x1), (2, .int x2), (3, .int x3), (4, .int x4), (5, .int x5), (6, .int x6), (7, va_rf x7)] := by cases x0 <;> cases x7 <;> exact hl
  exact ww_X0_give_0 X hT hB z_k0 z_k0 hl h
/-! X0_idleAfter -/
abbrev hh_X0_idleAfter : List (Nat × Nat × Nat × Nat) := [(0, 8, 11, 39)]
theorem hw_X0_idleAfter {Qk : Int32 → z_T → z_I → z_Q → Prop} {cells slots mc' ms' : Nat} (X : z_X l G A p R s m args meth c cX0_idleAfter 3 RX0 "idleAfter" (some .int) mc ms 27 535) (hT : c.exceptionTable.toList = tableOf hh_X0_idleAfter) (h1 : cells + mc' ≤ mc) (h2 : slots + ms' ≤ ms) {ls : Array Slot} (hl : lv_has ls 3 []) {rest : List Value} {P' : Nat → Prop} : z_kx p l e R s m args below meth c cells slots mc' ms' 3 ls rest G z_PL A P' T0 I0 Q0 T I Q (fun E q T1 I1 Q1 => z_Fr P' T I Q T1 I1 Q1 → hx_X0_idleAfter Qk E q T1 I1 Q1) (z_MQ below G z_PL A T0 I0 Q0 (z_qi Qk) z_no args s mc ms) := by
  obtain ⟨hx, hb, -⟩ := id X
  intro q E ce T1 I1 Q1 H1 locs1 hq hF hB h3 h4 h5
  replace hq := hq hF
  obtain ⟨hE, hq⟩ := hq
  rcases hE with rfl
  · refine z_catch [] ⟨0, 8, 11, 39⟩ [] X hT rfl (by simp) (by decide) (by decide) q2589 q1539 h3 h4 h5 ?_
    refine lv_astore_n hx hb dX0_idleAfter_11 rfl hl (by decide) rfl (fun ls hl9 => ?_)
    replace hl := hl9
    clear hl9
    refine lv_iconst (v := 1) hx hb dX0_idleAfter_12 (by decide) ?_
    exact z_iret X hB ⟨_, rfl, hq rfl⟩ h1 h2 dX0_idleAfter_13
theorem ww_X0_idleAfter_0 {Qk : Int32 → z_T → z_I → z_Q → Prop} (X : z_X l G A p R s m args meth c cX0_idleAfter 3 RX0 "idleAfter" (some .int) mc ms 27 535) (hT : c.exceptionTable.toList = tableOf hh_X0_idleAfter) {cells slots : Nat} {T : z_T} {I : z_I} {Q : z_Q} {kc : Nat} {ks : Nat} {x0 : Option Nat} {x1 : Option Nat} {H : Heap} {locs : List Loc} {ls : Array Slot} (hB : z_HB G z_PL A s.heap T0 I0 Q0 T I Q H locs) (hK1 : cells + kc ≤ mc) (hK2 : slots + ks ≤ ms) (hl : lv_has ls 3 [(0, va_rf x0), (1, va_rf x1)]) (h : wb_X0_idleAfter_0 G.2.2 Qk T I Q kc ks x0 x1) : W p l e R s m args below meth c H locs cells slots (z_MQ below G z_PL A T0 I0 Q0 (z_qi Qk) z_no args s mc ms) (F0 m 0 ls []) := by
  obtain ⟨hx, hb, -⟩ := id X
  unfold wb_X0_idleAfter_0 at h
  refine z_aload_n (x := x1) hx hb dX0_idleAfter_0 rfl (lv_at hl 1 rfl) ?_
  refine lv_iconst (v := 0) hx hb dX0_idleAfter_1 (by decide) ?_
  refine z_aload_n (x := x0) hx hb dX0_idleAfter_2 rfl (lv_at hl 0 rfl) ?_
  obtain ⟨a1, rfl, h⟩ := h
  obtain ⟨hk_a1, h⟩ := h
  obtain ⟨kc3, ks4, g1, g2, h⟩ := h
  refine z_callXi (z_runV (rest := [.int 0, va_rf x1]) [] pk_X1_idleAfter (met_X1_idleAfter a1 kc3 ks4 _ _ h) X hB z_R0 q2931 kc_X1 (by decide) hk_a1 rfl hl.1 (by simp [z_cat, z_cati, z_catl, z_catf, z_catd, z_catq]) dX0_idleAfter_3 (z_k1 hK1 g1) (z_k1 hK2 g2) (by decide) (by decide)) hB (fun _ h => z_RL h) (hw_X0_idleAfter X hT (z_k1 hK1 g1) (z_k1 hK2 g2) (lv_sub hl [] rfl)) (fun r2 T5 I6 Q7 H locs h9 hF hB => ?_)
  replace h := h9
  clear h9
  replace h := h hF
  have hk_a1 := z_tk hF hk_a1 (by decide)
  replace hK1 := z_k2 hK1 g1
  replace hK2 := z_k2 hK2 g2
  refine lv_i2l hx hb dX0_idleAfter_6 rfl ?_
  obtain ⟨a9, rfl, h⟩ := h
  obtain ⟨hk_a9, h⟩ := h
  obtain ⟨hc_a9, h⟩ := h
  obtain ⟨h1, h⟩ := h
  obtain ⟨I10, eI10⟩ : ∃ z, z = z_up I6 a9 (0 : Int32).toNatClampNeg r2 := ⟨_, rfl⟩
  replace h := h I10 eI10
  refine z_last (x := r2) X hB hk_a9 hc_a9 h1 dX0_idleAfter_7 (fun H locs hB => ?_)
  rw [← eI10] at hB
  refine lv_goto (tgt := 14) hx hb dX0_idleAfter_8 (by decide) ?_
  refine lv_iconst (v := 0) hx hb dX0_idleAfter_14 (by decide) ?_
  exact z_iret X hB ⟨_, rfl, h⟩ (z_k3 hK1) (z_k3 hK2) dX0_idleAfter_15
theorem pk_X0_idleAfter : z_PSW yX0_idleAfter cX0_idleAfter 3 (some .int) hh_X0_idleAfter 2 := ⟨q2929, q93, q2930, by decide +kernel⟩
theorem met_X0_idleAfter {l : Launch} {G : z_E} {T : z_T} {I : z_I} {Q : z_Q} (x0 : Option Nat) (x1 : Option Nat) (kc : Nat) (ks : Nat) (Qk : Int32 → z_T → z_I → z_Q → Prop) (h : wp_X0_idleAfter G.2.2 T I Q x0 x1 kc ks Qk) : z_GM l G yX0_idleAfter (wsW_ yX0_idleAfter cX0_idleAfter 3 (some .int) hh_X0_idleAfter) 27 535 kc ks [va_rf x0, va_rf x1] z_PL T I Q (z_qi Qk) z_no := by
  refine z_bodyW (own := RX0) (nm := "idleAfter") (by decide +kernel) rfl rfl (by decide +kernel) (by cases x0 <;> cases x1 <;> exact Nat.le_of_ble_eq_true rfl) (fun p e R s m below meth c A ls X hT hB hl => ?_)
  replace hl : lv_has ls 3 [(0, va_rf x0), (1, va_rf x1)] := by cases x0 <;> cases x1 <;> exact hl
  exact ww_X0_idleAfter_0 X hT hB z_k0 z_k0 hl h
/-! X0_job -/
abbrev hh_X0_job : List (Nat × Nat × Nat × Nat) := [(0, 10, 13, 13), (0, 10, 17, 15)]
theorem hw_X0_job {Qk : Int32 → z_T → z_I → z_Q → Prop} {cells slots mc' ms' : Nat} (X : z_X l G A p R s m args meth c cX0_job 5 RX0 "job" (some .int) mc ms 12 206) (hT : c.exceptionTable.toList = tableOf hh_X0_job) (h1 : cells + mc' ≤ mc) (h2 : slots + ms' ≤ ms) {ls : Array Slot} (hl : lv_has ls 5 []) {rest : List Value} {P' : Nat → Prop} : z_kx p l e R s m args below meth c cells slots mc' ms' 5 ls rest G z_PL A P' T0 I0 Q0 T I Q (fun E q T1 I1 Q1 => z_Fr P' T I Q T1 I1 Q1 → hx_X0_job Qk E q T1 I1 Q1) (z_MQ below G z_PL A T0 I0 Q0 (z_qi Qk) z_no args s mc ms) := by
  obtain ⟨hx, hb, -⟩ := id X
  intro q E ce T1 I1 Q1 H1 locs1 hq hF hB h3 h4 h5
  replace hq := hq hF
  obtain ⟨hE, hq⟩ := hq
  rcases hE with rfl | rfl
  · refine z_catch [] ⟨0, 10, 13, 13⟩ [⟨0, 10, 17, 15⟩] X hT rfl (by simp) (by decide) (by decide) q2359 q2395 h3 h4 h5 ?_
    refine lv_astore hx hb dX0_job_13 hl (by decide) rfl (fun ls hl9 => ?_)
    replace hl := hl9
    clear hl9
    refine lv_iconst (v := 1) hx hb dX0_job_15 (by decide) ?_
    exact z_iret X hB ⟨_, rfl, hq.1 rfl⟩ h1 h2 dX0_job_16
  · refine z_catch [⟨0, 10, 13, 13⟩] ⟨0, 10, 17, 15⟩ [] X hT rfl (by
      intro z hz
      simp only [List.mem_cons, List.not_mem_nil, or_false] at hz
      rcases hz with rfl
      · exact Or.inr ⟨by decide, _, q2359, by simp [z_nc]⟩) (by decide) (by decide) q2378 q208 h3 h4 h5 ?_
    refine lv_astore hx hb dX0_job_17 hl (by decide) rfl (fun ls hl9 => ?_)
    replace hl := hl9
    clear hl9
    refine lv_iconst (v := 2) hx hb dX0_job_19 (by decide) ?_
    exact z_iret X hB ⟨_, rfl, hq.2 rfl⟩ h1 h2 dX0_job_20
theorem ww_X0_job_0 {Qk : Int32 → z_T → z_I → z_Q → Prop} (X : z_X l G A p R s m args meth c cX0_job 5 RX0 "job" (some .int) mc ms 12 206) (hT : c.exceptionTable.toList = tableOf hh_X0_job) {cells slots : Nat} {T : z_T} {I : z_I} {Q : z_Q} {kc : Nat} {ks : Nat} {x0 : Option Nat} {x1 : Int32} {x2 : Int32} {x3 : Option Nat} {H : Heap} {locs : List Loc} {ls : Array Slot} (hB : z_HB G z_PL A s.heap T0 I0 Q0 T I Q H locs) (hK1 : cells + kc ≤ mc) (hK2 : slots + ks ≤ ms) (hl : lv_has ls 5 [(0, va_rf x0), (1, .int x1), (2, .int x2), (3, va_rf x3)]) (h : wb_X0_job_0 Qk T I Q kc ks x0 x1 x2 x3) : W p l e R s m args below meth c H locs cells slots (z_MQ below G z_PL A T0 I0 Q0 (z_qi Qk) z_no args s mc ms) (F0 m 0 ls []) := by
  obtain ⟨hx, hb, -⟩ := id X
  unfold wb_X0_job_0 at h
  refine z_aload_n (x := x3) hx hb dX0_job_0 rfl (lv_at hl 3 rfl) ?_
  refine lv_iconst (v := 0) hx hb dX0_job_1 (by decide) ?_
  refine z_aload_n (x := x0) hx hb dX0_job_2 rfl (lv_at hl 0 rfl) ?_
  refine lv_iload_n hx hb dX0_job_3 rfl (lv_at hl 1 rfl) ?_
  refine lv_iload_n hx hb dX0_job_4 rfl (lv_at hl 2 rfl) ?_
  obtain ⟨a1, rfl, h⟩ := h
  obtain ⟨hk_a1, h⟩ := h
  obtain ⟨kc3, ks4, g1, g2, h⟩ := h
  refine z_callXi (z_runV (rest := [.int 0, va_rf x3]) [.int x1, .int x2] pk_X1_job (met_X1_job a1 x1 x2 kc3 ks4 _ _ h) X hB z_R0 q2736 kc_X1 (by decide) hk_a1 rfl hl.1 (by simp [z_cat, z_cati, z_catl, z_catf, z_catd, z_catq]) dX0_job_5 (z_k1 hK1 g1) (z_k1 hK2 g2) (by decide) (by decide)) hB (fun _ h => z_RL h) (hw_X0_job X hT (z_k1 hK1 g1) (z_k1 hK2 g2) (lv_sub hl [] rfl)) (fun r2 T5 I6 Q7 H locs h9 hF hB => ?_)
  replace h := h9
  clear h9
  replace h := h hF
  have hk_a1 := z_tk hF hk_a1 (by decide)
  replace hK1 := z_k2 hK1 g1
  replace hK2 := z_k2 hK2 g2
  refine lv_i2l hx hb dX0_job_8 rfl ?_
  obtain ⟨a9, rfl, h⟩ := h
  obtain ⟨hk_a9, h⟩ := h
  obtain ⟨hc_a9, h⟩ := h
  obtain ⟨h1, h⟩ := h
  obtain ⟨I10, eI10⟩ : ∃ z, z = z_up I6 a9 (0 : Int32).toNatClampNeg r2 := ⟨_, rfl⟩
  replace h := h I10 eI10
  refine z_last (x := r2) X hB hk_a9 hc_a9 h1 dX0_job_9 (fun H locs hB => ?_)
  rw [← eI10] at hB
  refine lv_goto (tgt := 21) hx hb dX0_job_10 (by decide) ?_
  refine lv_iconst (v := 0) hx hb dX0_job_21 (by decide) ?_
  exact z_iret X hB ⟨_, rfl, h⟩ (z_k3 hK1) (z_k3 hK2) dX0_job_22
theorem pk_X0_job : z_PSW yX0_job cX0_job 5 (some .int) hh_X0_job 4 := ⟨q2734, q93, q2735, by decide +kernel⟩
theorem met_X0_job {l : Launch} {G : z_E} {T : z_T} {I : z_I} {Q : z_Q} (x0 : Option Nat) (x1 : Int32) (x2 : Int32) (x3 : Option Nat) (kc : Nat) (ks : Nat) (Qk : Int32 → z_T → z_I → z_Q → Prop) (h : wp_X0_job T I Q x0 x1 x2 x3 kc ks Qk) : z_GM l G yX0_job (wsW_ yX0_job cX0_job 5 (some .int) hh_X0_job) 12 206 kc ks [va_rf x0, .int x1, .int x2, va_rf x3] z_PL T I Q (z_qi Qk) z_no := by
  refine z_bodyW (own := RX0) (nm := "job") (by decide +kernel) rfl rfl (by decide +kernel) (by cases x0 <;> cases x3 <;> exact Nat.le_of_ble_eq_true rfl) (fun p e R s m below meth c A ls X hT hB hl => ?_)
  replace hl : lv_has ls 5 [(0, va_rf x0), (1, .int x1), (2, .int x2), (3, va_rf x3)] := by cases x0 <;> cases x3 <;> exact hl
  exact ww_X0_job_0 X hT hB z_k0 z_k0 hl h
/-! X0_meanDuration -/
abbrev hh_X0_meanDuration : List (Nat × Nat × Nat × Nat) := [(0, 7, 10, 86)]
theorem hw_X0_meanDuration {Qk : Int32 → z_T → z_I → z_Q → Prop} {cells slots mc' ms' : Nat} (X : z_X l G A p R s m args meth c cX0_meanDuration 3 RX0 "meanDuration" (some .int) mc ms 9 140) (hT : c.exceptionTable.toList = tableOf hh_X0_meanDuration) (h1 : cells + mc' ≤ mc) (h2 : slots + ms' ≤ ms) {ls : Array Slot} (hl : lv_has ls 3 []) {rest : List Value} {P' : Nat → Prop} : z_kx p l e R s m args below meth c cells slots mc' ms' 3 ls rest G z_PL A P' T0 I0 Q0 T I Q (fun E q T1 I1 Q1 => z_Fr P' T I Q T1 I1 Q1 → hx_X0_meanDuration Qk E q T1 I1 Q1) (z_MQ below G z_PL A T0 I0 Q0 (z_qi Qk) z_no args s mc ms) := by
  obtain ⟨hx, hb, -⟩ := id X
  intro q E ce T1 I1 Q1 H1 locs1 hq hF hB h3 h4 h5
  replace hq := hq hF
  obtain ⟨hE, hq⟩ := hq
  rcases hE with rfl
  · refine z_catch [] ⟨0, 7, 10, 86⟩ [] X hT rfl (by simp) (by decide) (by decide) q2981 q2993 h3 h4 h5 ?_
    refine lv_astore_n hx hb dX0_meanDuration_10 rfl hl (by decide) rfl (fun ls hl9 => ?_)
    replace hl := hl9
    clear hl9
    refine lv_iconst (v := 1) hx hb dX0_meanDuration_11 (by decide) ?_
    exact z_iret X hB ⟨_, rfl, hq rfl⟩ h1 h2 dX0_meanDuration_12
theorem ww_X0_meanDuration_0 {Qk : Int32 → z_T → z_I → z_Q → Prop} (X : z_X l G A p R s m args meth c cX0_meanDuration 3 RX0 "meanDuration" (some .int) mc ms 9 140) (hT : c.exceptionTable.toList = tableOf hh_X0_meanDuration) {cells slots : Nat} {T : z_T} {I : z_I} {Q : z_Q} {kc : Nat} {ks : Nat} {x0 : Option Nat} {x1 : Option Nat} {H : Heap} {locs : List Loc} {ls : Array Slot} (hB : z_HB G z_PL A s.heap T0 I0 Q0 T I Q H locs) (hK1 : cells + kc ≤ mc) (hK2 : slots + ks ≤ ms) (hl : lv_has ls 3 [(0, va_rf x0), (1, va_rf x1)]) (h : wb_X0_meanDuration_0 Qk T I Q kc ks x0 x1) : W p l e R s m args below meth c H locs cells slots (z_MQ below G z_PL A T0 I0 Q0 (z_qi Qk) z_no args s mc ms) (F0 m 0 ls []) := by
  obtain ⟨hx, hb, -⟩ := id X
  unfold wb_X0_meanDuration_0 at h
  refine z_aload_n (x := x1) hx hb dX0_meanDuration_0 rfl (lv_at hl 1 rfl) ?_
  refine lv_iconst (v := 0) hx hb dX0_meanDuration_1 (by decide) ?_
  refine z_aload_n (x := x0) hx hb dX0_meanDuration_2 rfl (lv_at hl 0 rfl) ?_
  obtain ⟨a1, rfl, h⟩ := h
  obtain ⟨hk_a1, h⟩ := h
  obtain ⟨kc3, ks4, g1, g2, h⟩ := h
  refine z_callXd (z_runV (rest := [.int 0, va_rf x1]) [] pk_X1_meanDuration (met_X1_meanDuration a1 kc3 ks4 _ _ h) X hB z_R0 q3007 kc_X1 (by decide) hk_a1 rfl hl.1 (by simp [z_cat, z_cati, z_catl, z_catf, z_catd, z_catq]) dX0_meanDuration_3 (z_k1 hK1 g1) (z_k1 hK2 g2) (by decide) (by decide)) hB (fun _ h => z_RL h) (hw_X0_meanDuration X hT (z_k1 hK1 g1) (z_k1 hK2 g2) (lv_sub hl [] rfl)) (fun r2 T5 I6 Q7 H locs h9 hF hB => ?_)
  replace h := h9
  clear h9
  replace h := h hF
  have hk_a1 := z_tk hF hk_a1 (by decide)
  replace hK1 := z_k2 hK1 g1
  replace hK2 := z_k2 hK2 g2
  obtain ⟨a9, rfl, h⟩ := h
  obtain ⟨hk_a9, h⟩ := h
  obtain ⟨hc_a9, h⟩ := h
  obtain ⟨h1, h⟩ := h
  obtain ⟨g10, g11, eg10⟩ := z_dm_of r2
  replace h := h g10 g11 eg10
  obtain ⟨I12, eI12⟩ : ∃ z, z = z_up (z_up I6 a9 (2 * (0 : Int32).toNatClampNeg) g10) a9 (2 * (0 : Int32).toNatClampNeg + 1) g11 := ⟨_, rfl⟩
  replace h := h I12 eI12
  refine z_dast eg10 X hB hk_a9 hc_a9 h1 dX0_meanDuration_6 (fun H locs hB => ?_)
  rw [← eI12] at hB
  refine lv_goto (tgt := 13) hx hb dX0_meanDuration_7 (by decide) ?_
  refine lv_iconst (v := 0) hx hb dX0_meanDuration_13 (by decide) ?_
  exact z_iret X hB ⟨_, rfl, h⟩ (z_k3 hK1) (z_k3 hK2) dX0_meanDuration_14
theorem pk_X0_meanDuration : z_PSW yX0_meanDuration cX0_meanDuration 3 (some .int) hh_X0_meanDuration 2 := ⟨q3005, q93, q3006, by decide +kernel⟩
theorem met_X0_meanDuration {l : Launch} {G : z_E} {T : z_T} {I : z_I} {Q : z_Q} (x0 : Option Nat) (x1 : Option Nat) (kc : Nat) (ks : Nat) (Qk : Int32 → z_T → z_I → z_Q → Prop) (h : wp_X0_meanDuration T I Q x0 x1 kc ks Qk) : z_GM l G yX0_meanDuration (wsW_ yX0_meanDuration cX0_meanDuration 3 (some .int) hh_X0_meanDuration) 9 140 kc ks [va_rf x0, va_rf x1] z_PL T I Q (z_qi Qk) z_no := by
  refine z_bodyW (own := RX0) (nm := "meanDuration") (by decide +kernel) rfl rfl (by decide +kernel) (by cases x0 <;> cases x1 <;> exact Nat.le_of_ble_eq_true rfl) (fun p e R s m below meth c A ls X hT hB hl => ?_)
  replace hl : lv_has ls 3 [(0, va_rf x0), (1, va_rf x1)] := by cases x0 <;> cases x1 <;> exact hl
  exact ww_X0_meanDuration_0 X hT hB z_k0 z_k0 hl h
/-! X0_part -/
abbrev hh_X0_part : List (Nat × Nat × Nat × Nat) := [(0, 10, 13, 13), (0, 10, 17, 39)]
theorem hw_X0_part {Qk : Int32 → z_T → z_I → z_Q → Prop} {cells slots mc' ms' : Nat} (X : z_X l G A p R s m args meth c cX0_part 5 RX0 "part" (some .int) mc ms 14 251) (hT : c.exceptionTable.toList = tableOf hh_X0_part) (h1 : cells + mc' ≤ mc) (h2 : slots + ms' ≤ ms) {ls : Array Slot} (hl : lv_has ls 5 []) {rest : List Value} {P' : Nat → Prop} : z_kx p l e R s m args below meth c cells slots mc' ms' 5 ls rest G z_PL A P' T0 I0 Q0 T I Q (fun E q T1 I1 Q1 => z_Fr P' T I Q T1 I1 Q1 → hx_X0_part Qk E q T1 I1 Q1) (z_MQ below G z_PL A T0 I0 Q0 (z_qi Qk) z_no args s mc ms) := by
  obtain ⟨hx, hb, -⟩ := id X
  intro q E ce T1 I1 Q1 H1 locs1 hq hF hB h3 h4 h5
  replace hq := hq hF
  obtain ⟨hE, hq⟩ := hq
  rcases hE with rfl | rfl
  · refine z_catch [] ⟨0, 10, 13, 13⟩ [⟨0, 10, 17, 39⟩] X hT rfl (by simp) (by decide) (by decide) q2359 q2395 h3 h4 h5 ?_
    refine lv_astore hx hb dX0_part_13 hl (by decide) rfl (fun ls hl9 => ?_)
    replace hl := hl9
    clear hl9
    refine lv_iconst (v := 1) hx hb dX0_part_15 (by decide) ?_
    exact z_iret X hB ⟨_, rfl, hq.1 rfl⟩ h1 h2 dX0_part_16
  · refine z_catch [⟨0, 10, 13, 13⟩] ⟨0, 10, 17, 39⟩ [] X hT rfl (by
      intro z hz
      simp only [List.mem_cons, List.not_mem_nil, or_false] at hz
      rcases hz with rfl
      · exact Or.inr ⟨by decide, _, q2359, by simp [z_nc]⟩) (by decide) (by decide) q2589 q1539 h3 h4 h5 ?_
    refine lv_astore hx hb dX0_part_17 hl (by decide) rfl (fun ls hl9 => ?_)
    replace hl := hl9
    clear hl9
    refine lv_iconst (v := 2) hx hb dX0_part_19 (by decide) ?_
    exact z_iret X hB ⟨_, rfl, hq.2 rfl⟩ h1 h2 dX0_part_20
theorem ww_X0_part_0 {Qk : Int32 → z_T → z_I → z_Q → Prop} (X : z_X l G A p R s m args meth c cX0_part 5 RX0 "part" (some .int) mc ms 14 251) (hT : c.exceptionTable.toList = tableOf hh_X0_part) {cells slots : Nat} {T : z_T} {I : z_I} {Q : z_Q} {kc : Nat} {ks : Nat} {x0 : Option Nat} {x1 : Int32} {x2 : Int32} {x3 : Option Nat} {H : Heap} {locs : List Loc} {ls : Array Slot} (hB : z_HB G z_PL A s.heap T0 I0 Q0 T I Q H locs) (hK1 : cells + kc ≤ mc) (hK2 : slots + ks ≤ ms) (hl : lv_has ls 5 [(0, va_rf x0), (1, .int x1), (2, .int x2), (3, va_rf x3)]) (h : wb_X0_part_0 Qk T I Q kc ks x0 x1 x2 x3) : W p l e R s m args below meth c H locs cells slots (z_MQ below G z_PL A T0 I0 Q0 (z_qi Qk) z_no args s mc ms) (F0 m 0 ls []) := by
  obtain ⟨hx, hb, -⟩ := id X
  unfold wb_X0_part_0 at h
  refine z_aload_n (x := x3) hx hb dX0_part_0 rfl (lv_at hl 3 rfl) ?_
  refine lv_iconst (v := 0) hx hb dX0_part_1 (by decide) ?_
  refine z_aload_n (x := x0) hx hb dX0_part_2 rfl (lv_at hl 0 rfl) ?_
  refine lv_iload_n hx hb dX0_part_3 rfl (lv_at hl 1 rfl) ?_
  refine lv_iload_n hx hb dX0_part_4 rfl (lv_at hl 2 rfl) ?_
  obtain ⟨a1, rfl, h⟩ := h
  obtain ⟨hk_a1, h⟩ := h
  obtain ⟨kc3, ks4, g1, g2, h⟩ := h
  refine z_callXi (z_runV (rest := [.int 0, va_rf x3]) [.int x1, .int x2] pk_X1_part (met_X1_part a1 x1 x2 kc3 ks4 _ _ h) X hB z_R0 q2590 kc_X1 (by decide) hk_a1 rfl hl.1 (by simp [z_cat, z_cati, z_catl, z_catf, z_catd, z_catq]) dX0_part_5 (z_k1 hK1 g1) (z_k1 hK2 g2) (by decide) (by decide)) hB (fun _ h => z_RL h) (hw_X0_part X hT (z_k1 hK1 g1) (z_k1 hK2 g2) (lv_sub hl [] rfl)) (fun r2 T5 I6 Q7 H locs h9 hF hB => ?_)
  replace h := h9
  clear h9
  replace h := h hF
  have hk_a1 := z_tk hF hk_a1 (by decide)
  replace hK1 := z_k2 hK1 g1
  replace hK2 := z_k2 hK2 g2
  refine lv_i2l hx hb dX0_part_8 rfl ?_
  obtain ⟨a9, rfl, h⟩ := h
  obtain ⟨hk_a9, h⟩ := h
  obtain ⟨hc_a9, h⟩ := h
  obtain ⟨h1, h⟩ := h
  obtain ⟨I10, eI10⟩ : ∃ z, z = z_up I6 a9 (0 : Int32).toNatClampNeg r2 := ⟨_, rfl⟩
  replace h := h I10 eI10
  refine z_last (x := r2) X hB hk_a9 hc_a9 h1 dX0_part_9 (fun H locs hB => ?_)
  rw [← eI10] at hB
  refine lv_goto (tgt := 21) hx hb dX0_part_10 (by decide) ?_
  refine lv_iconst (v := 0) hx hb dX0_part_21 (by decide) ?_
  exact z_iret X hB ⟨_, rfl, h⟩ (z_k3 hK1) (z_k3 hK2) dX0_part_22
theorem pk_X0_part : z_PSW yX0_part cX0_part 5 (some .int) hh_X0_part 4 := ⟨q2587, q93, q2588, by decide +kernel⟩
theorem met_X0_part {l : Launch} {G : z_E} {T : z_T} {I : z_I} {Q : z_Q} (x0 : Option Nat) (x1 : Int32) (x2 : Int32) (x3 : Option Nat) (kc : Nat) (ks : Nat) (Qk : Int32 → z_T → z_I → z_Q → Prop) (h : wp_X0_part T I Q x0 x1 x2 x3 kc ks Qk) : z_GM l G yX0_part (wsW_ yX0_part cX0_part 5 (some .int) hh_X0_part) 14 251 kc ks [va_rf x0, .int x1, .int x2, va_rf x3] z_PL T I Q (z_qi Qk) z_no := by
  refine z_bodyW (own := RX0) (nm := "part") (by decide +kernel) rfl rfl (by decide +kernel) (by cases x0 <;> cases x3 <;> exact Nat.le_of_ble_eq_true rfl) (fun p e R s m below meth c A ls X hT hB hl => ?_)
  replace hl : lv_has ls 5 [(0, va_rf x0), (1, .int x1), (2, .int x2), (3, va_rf x3)] := by cases x0 <;> cases x3 <;> exact hl
  exact ww_X0_part_0 X hT hB z_k0 z_k0 hl h
/-! X1_perform -/
abbrev hh_X1_perform : List (Nat × Nat × Nat × Nat) := [(0, 68, 75, 332), (0, 68, 91, 1), (0, 68, 91, 7), (0, 68, 91, 16), (0, 68, 100, 0), (75, 84, 100, 0), (91, 102, 100, 0)]
theorem fin_X1_perform {o : Nat} {Qk : Int32 → z_T → z_I → z_Q → Prop} {Xk : String → Nat → z_T → z_I → z_Q → Prop} {cells slots : Nat} (X : z_X l G A p R s m args meth c cX1_perform 6 RX1 "perform" (some .int) mc ms 28 558) (hT : c.exceptionTable.toList = tableOf hh_X1_perform) (ho : (T0 o).1 = 1) (hoc : 3 ≤ (T0 o).2.2) {H : Heap} {locs : List Loc} {ls : Array Slot} (hB : z_HB G z_PR A s.heap T0 I0 Q0 T I Q H locs) (hl : lv_has ls 6 [(0, .ref o)]) {q : Addr} {ce : Cell} (h3 : H[q]? = some ce) (h4 : ce.vm = .none) (h5 : s.vm.findClass "java/lang/UnsupportedOperationException" = some ce.cls) (hK1 : cells ≤ mc) (hK2 : slots ≤ ms) (h : ∀ I2, I2 = z_up I o 4 0 → Xk "java/lang/UnsupportedOperationException" q T I2 Q) : W p l e R s m args below meth c H locs cells slots (z_MQ below G z_PR A T0 I0 Q0 (z_qi Qk) Xk args s mc ms) (F0 m 100 ls [.ref q]) := by
  obtain ⟨hx, hb, -⟩ := id X
  have ko := z_fo hB ho (by decide)
  have kco : 3 ≤ (T o).2.2 := z_foc (p := fun k => 3 ≤ k) hB ho (by decide) hoc
  have hne : q ≠ o := by
    intro e9
    obtain ⟨cell, c1, c2, c3⟩ := z_recv X hB.1 kc_X1 (by decide) ko
    subst e9
    cases h3.symm.trans c1
    obtain ⟨k1, e1, e2⟩ := Vm.findClass_spec h5
    obtain ⟨k2, e3, e4⟩ := Vm.findClass_spec c3
    cases e1.symm.trans e3
    exact absurd (e2.symm.trans e4) (by decide +kernel)
  refine lv_astore (lv' := [(5, .ref q), (0, .ref o)]) hx hb dX1_perform_100 hl (by decide) rfl (fun ls hl9 => ?_)
  replace hl := hl9
  clear hl9
  refine lv_aload_n (x := o) hx hb dX1_perform_102 rfl (lv_at hl 1 rfl) ?_
  refine lv_iconst (v := 0) hx hb dX1_perform_103 (by decide) ?_
  refine z_putX (t := 0) (ty := .int) (I1 := z_up I o 4 0) (Q1 := Q) tyX1 X hB kc_X1 in_X1 tyX1_ok nmX1 (j := 4) (Nat.le_of_ble_eq_true rfl) q1302 (fun _ h => h) rfl rfl (by decide) ko kco rfl rfl rfl (by simp [z_v, z_up]) (fun q hq => z_up_ne hq) (fun _ _ => rfl) (fun y hy => by simp [z_up, hy]) (fun _ _ => rfl) dX1_perform_104 (fun H1 locs1 hB oq => ?_)
  refine lv_aload (x := q) hx hb dX1_perform_107 (lv_at hl 0 rfl) ?_
  exact vx_athrow hx hb dX1_perform_109 (z_outW X hT (by decide) hB (by rw [oq q hne]; exact h3) h4 h5 (h _ rfl) hK1 hK2)
theorem mk_X1_perform {o : Nat} {Qk : Int32 → z_T → z_I → z_Q → Prop} {Xk : String → Nat → z_T → z_I → z_Q → Prop} {cells slots : Nat} (X : z_X l G A p R s m args meth c cX1_perform 6 RX1 "perform" (some .int) mc ms 28 558) (hT : c.exceptionTable.toList = tableOf hh_X1_perform) (ho : (T0 o).1 = 1) (hoc : 3 ≤ (T0 o).2.2) {kc ks : Nat} {H : Heap} {locs : List Loc} {ls : Array Slot} (hB : z_HB G z_PR A s.heap T0 I0 Q0 T I Q H locs) (hl : lv_has ls 6 [(0, .ref o)]) {q : Addr} (hK1 : cells + kc ≤ mc) (hK2 : slots + ks ≤ ms) (b1 : 1 ≤ kc) (b2 : 6 ≤ ks) (h : ∀ q2 I2, I2 = z_up I o 4 0 → Xk "java/lang/UnsupportedOperationException" q2 T I2 Q) : W p l e R s m args below meth c H locs cells slots (z_MQ below G z_PR A T0 I0 Q0 (z_qi Qk) Xk args s mc ms) (F0 m 91 ls [.ref q]) := by
  obtain ⟨hx, hb, -⟩ := id X
  refine lv_astore_n (lv' := [(1, .ref q), (0, .ref o)]) hx hb dX1_perform_91 rfl hl (by decide) rfl (fun ls hl9 => ?_)
  replace hl := hl9
  clear hl9
  refine z_make0 (cls := "java/lang/UnsupportedOperationException") (names := ["java/lang/RuntimeException", "java/lang/Exception"]) (rest := []) X hB (by decide +kernel) (by decide +kernel) q2689 q153 thr_RobotCell_140 hl.1 dX1_perform_92 dX1_perform_95 dX1_perform_96 (by decide) (by decide) (z_k1 hK1 b1) (z_k1 hK2 b2) (fun q2 ce H1 hB h3 h4 h5 => ?_)
  refine vx_athrow hx hb dX1_perform_99 ?_
  refine z_catchAny [⟨0, 68, 75, 332⟩, ⟨0, 68, 91, 1⟩, ⟨0, 68, 91, 7⟩, ⟨0, 68, 91, 16⟩, ⟨0, 68, 100, 0⟩, ⟨75, 84, 100, 0⟩] ⟨91, 102, 100, 0⟩ [] X hT rfl (by
      intro z hz
      simp only [List.mem_cons, List.not_mem_nil, or_false] at hz
      rcases hz with rfl | rfl | rfl | rfl | rfl | rfl <;> exact Or.inl (by decide)) (by decide) rfl h3 h4 h5 ?_
  exact fin_X1_perform X hT ho hoc hB (lv_sub hl [1] rfl) h3 h4 h5 (z_k1 hK1 b1) (z_k1 hK2 b2) (h q2)
theorem hw_X1_perform {o : Nat} {Qk : Int32 → z_T → z_I → z_Q → Prop} {Xk : String → Nat → z_T → z_I → z_Q → Prop} {cells slots : Nat} (X : z_X l G A p R s m args meth c cX1_perform 6 RX1 "perform" (some .int) mc ms 28 558) (hT : c.exceptionTable.toList = tableOf hh_X1_perform) (ho : (T0 o).1 = 1) (hoc : 3 ≤ (T0 o).2.2) {kc ks kc1 ks1 pc : Nat} (hp : covers ⟨0, 68, 75, 332⟩ pc = true) (hK1 : cells + kc ≤ mc) (hK2 : slots + ks ≤ ms) (g1 : kc1 ≤ kc) (g2 : ks1 ≤ ks) {ls : Array Slot} (hl : lv_has ls 6 [(0, .ref o)]) {rest : List Value} {P' : Nat → Prop} : z_kx p l e R s m args below meth c cells slots kc1 ks1 pc ls rest G z_PR A P' T0 I0 Q0 T I Q (fun E q T1 I1 Q1 => z_Fr P' T I Q T1 I1 Q1 → hx_X1_perform o Qk Xk (kc - kc1) (ks - ks1) E q T1 I1 Q1) (z_MQ below G z_PR A T0 I0 Q0 (z_qi Qk) Xk args s mc ms) := by
  obtain ⟨hx, hb, -⟩ := id X
  intro q E ce T1 I1 Q1 H1 locs1 hq hF hB h3 h4 h5
  obtain ⟨hE, a1, a2, a3⟩ := hq hF
  have ko := z_fo hB ho (by decide)
  have kco : 3 ≤ (T1 o).2.2 := z_foc (p := fun k => 3 ≤ k) hB ho (by decide) hoc
  have hk1 := z_k2 hK1 g1
  have hk2 := z_k2 hK2 g2
  rcases hE with rfl | rfl | rfl | rfl | rfl
  · obtain ⟨k16, a1⟩ := a1 rfl
    refine z_catch [] ⟨0, 68, 75, 332⟩ [⟨0, 68, 91, 1⟩, ⟨0, 68, 91, 7⟩, ⟨0, 68, 91, 16⟩, ⟨0, 68, 100, 0⟩, ⟨75, 84, 100, 0⟩, ⟨91, 102, 100, 0⟩] X hT rfl (by simp) hp (by decide) q3025 q3076 h3 h4 h5 ?_
    refine lv_astore_n (lv' := [(1, .ref q), (0, .ref o)]) hx hb dX1_perform_75 rfl hl (by decide) rfl (fun ls hl9 => ?_)
    replace hl := hl9
    clear hl9
    refine lv_bipush (v := -100) hx hb dX1_perform_76 (by decide) ?_
    refine lv_aload_n (x := q) hx hb dX1_perform_78 rfl (lv_at hl 0 rfl) ?_
    refine z_getiN X hB.1 kc_X13 in_X13 (j := 6) (Nat.le_of_ble_eq_true rfl) q3093 (fun _ h => h) rfl (by decide) k16 dX1_perform_79 ?_
    refine lv_isub hx hb dX1_perform_82 ?_
    refine lv_istore_n (lv' := [(2, .int (-100 - I1 q 6)), (1, .ref q), (0, .ref o)]) hx hb dX1_perform_83 rfl hl (by decide) rfl (fun ls hl9 => ?_)
    replace hl := hl9
    clear hl9
    refine lv_aload_n (x := o) hx hb dX1_perform_84 rfl (lv_at hl 2 rfl) ?_
    refine lv_iconst (v := 0) hx hb dX1_perform_85 (by decide) ?_
    refine z_puti (x := 0) (I1 := z_up I1 o 4 0) rfl tyX1 X hB kc_X1 in_X1 tyX1_ok nmX1 (j := 4) (Nat.le_of_ble_eq_true rfl) q1302 (fun _ h => h) rfl rfl (by decide) ko kco rfl (Or.inl rfl) dX1_perform_86 (fun H locs hB => ?_)
    refine lv_iload_n hx hb dX1_perform_89 rfl (lv_at hl 0 rfl) ?_
    exact z_iret X hB ⟨_, rfl, a1 _ rfl⟩ (z_k1 hK1 g1) (z_k1 hK2 g2) dX1_perform_90
  · obtain ⟨b1, b2, a2⟩ := a2 (by simp)
    refine z_catch [⟨0, 68, 75, 332⟩] ⟨0, 68, 91, 1⟩ [⟨0, 68, 91, 7⟩, ⟨0, 68, 91, 16⟩, ⟨0, 68, 100, 0⟩, ⟨75, 84, 100, 0⟩, ⟨91, 102, 100, 0⟩] X hT rfl (by
      intro z hz
      simp only [List.mem_cons, List.not_mem_nil, or_false] at hz
      rcases hz with rfl
      · exact Or.inr ⟨by decide, _, q3025, by simp [z_nc]⟩) hp (by decide) q2411 q208 h3 h4 h5 ?_
    exact mk_X1_perform X hT ho hoc hB hl hk1 hk2 b1 b2 a2
  · obtain ⟨b1, b2, a2⟩ := a2 (by simp)
    refine z_catch [⟨0, 68, 75, 332⟩, ⟨0, 68, 91, 1⟩] ⟨0, 68, 91, 7⟩ [⟨0, 68, 91, 16⟩, ⟨0, 68, 100, 0⟩, ⟨75, 84, 100, 0⟩, ⟨91, 102, 100, 0⟩] X hT rfl (by
      intro z hz
      simp only [List.mem_cons, List.not_mem_nil, or_false] at hz
      rcases hz with rfl | rfl
      · exact Or.inr ⟨by decide, _, q3025, by simp [z_nc]⟩
      · exact Or.inr ⟨by decide, _, q2411, by simp [z_nc]⟩) hp (by decide) q2459 q1001 h3 h4 h5 ?_
    exact mk_X1_perform X hT ho hoc hB hl hk1 hk2 b1 b2 a2
  · obtain ⟨b1, b2, a2⟩ := a2 (by simp)
    refine z_catch [⟨0, 68, 75, 332⟩, ⟨0, 68, 91, 1⟩, ⟨0, 68, 91, 7⟩] ⟨0, 68, 91, 16⟩ [⟨0, 68, 100, 0⟩, ⟨75, 84, 100, 0⟩, ⟨91, 102, 100, 0⟩] X hT rfl (by
      intro z hz
      simp only [List.mem_cons, List.not_mem_nil, or_false] at hz
      rcases hz with rfl | rfl | rfl
      · exact Or.inr ⟨by decide, _, q3025, by simp [z_nc]⟩
      · exact Or.inr ⟨by decide, _, q2411, by simp [z_nc]⟩
      · exact Or.inr ⟨by decide, _, q2459, by simp [z_nc]⟩) hp (by decide) q2393 q2395 h3 h4 h5 ?_
    exact mk_X1_perform X hT ho hoc hB hl hk1 hk2 b1 b2 a2
  · refine z_catchAny [⟨0, 68, 75, 332⟩, ⟨0, 68, 91, 1⟩, ⟨0, 68, 91, 7⟩, ⟨0, 68, 91, 16⟩] ⟨0, 68, 100, 0⟩ [⟨75, 84, 100, 0⟩, ⟨91, 102, 100, 0⟩] X hT rfl (by
      intro z hz
      simp only [List.mem_cons, List.not_mem_nil, or_false] at hz
      rcases hz with rfl | rfl | rfl | rfl
      · exact Or.inr ⟨by decide, _, q3025, by simp [z_nc]⟩
      · exact Or.inr ⟨by decide, _, q2411, by simp [z_nc]⟩
      · exact Or.inr ⟨by decide, _, q2459, by simp [z_nc]⟩
      · exact Or.inr ⟨by decide, _, q2393, by simp [z_nc]⟩) hp rfl h3 h4 h5 ?_
    exact fin_X1_perform X hT ho hoc hB hl h3 h4 h5 (z_k1 hK1 g1) (z_k1 hK2 g2) (a3 rfl)
theorem wv_X1_perform_29 {o : Nat} {Qk : Int32 → z_T → z_I → z_Q → Prop} {Xk : String → Nat → z_T → z_I → z_Q → Prop} (X : z_X l G A p R s m args meth c cX1_perform 6 RX1 "perform" (some .int) mc ms 28 558) (ho : (T0 o).1 = 1) (hoc : 3 ≤ (T0 o).2.2) (hT : c.exceptionTable.toList = tableOf hh_X1_perform) : ∀ (n : Nat) {cells slots : Nat} {T : z_T} {I : z_I} {Q : z_Q} {kc : Nat} {ks : Nat} {x1 : Option Nat} {x2 : Option Nat} {x3 : Option Nat} {H : Heap} {locs : List Loc} {ls : Array Slot}, z_HB G z_PR A s.heap T0 I0 Q0 T I Q H locs → cells + kc ≤ mc → slots + ks ≤ ms → lv_has ls 6 [(0, .ref o), (1, va_rf x1), (2, va_rf x2), (3, va_rf x3)] → wl_X1_perform_29 G.2.2 o Qk Xk n T I Q kc ks x1 x2 x3 → W p l e R s m args below meth c H locs cells slots (z_MQ below G z_PR A T0 I0 Q0 (z_qi Qk) Xk args s mc ms) (F0 m 29 ls []) := by
  intro n
  induction n with
  | zero =>
    intro cells slots T I Q kc ks x1 x2 x3 H locs ls hB hK1 hK2 hl h
    exact h.elim
  | succ n ih =>
    intro cells slots T I Q kc ks x1 x2 x3 H locs ls hB hK1 hK2 hl h
    obtain ⟨hx, hb, -⟩ := id X
    unfold wl_X1_perform_29 at h
    refine z_aload_n (x := x3) hx hb dX1_perform_29 rfl (lv_at hl 3 rfl) ?_
    obtain ⟨a37, rfl, h⟩ := h
    refine z_call5zp (z_run_itHas (rest := []) h X hB q2621 hl.1 (Nat.le_of_ble_eq_true rfl) dX1_perform_30 (z_k4 hK1) (z_k4 hK2) (by decide) (by decide)) hB (fun r38 H locs hz h9 hB => ?_)
    replace h := h9
    clear h9
    replace h := h hz
    refine lv_if_eq (tgt := 58) hx hb dX1_perform_35 (by decide) (fun c39 => ?_) (fun c39 => ?_)
    · replace h := h.1 c39
      refine lv_aload_n (x := o) hx hb dX1_perform_58 rfl (lv_at hl 0 rfl) ?_
      refine z_aload_n (x := x2) hx hb dX1_perform_59 rfl (lv_at hl 2 rfl) ?_
      obtain ⟨kc41, ks42, g1, g2, h⟩ := h
      refine z_callv (z_runV (rest := []) [va_rf x2] pk_X1_change (met_X1_change o x2 kc41 ks42 _ h) X hB hB.2.2.2.2.2.2 q2495 kc_X1 (by decide) (z_fo hB ho (by decide)) rfl hl.1 (Nat.le_of_ble_eq_true rfl) dX1_perform_60 (z_k1 hK1 g1) (z_k1 hK2 g2) (by decide) (by decide)) hB (fun _ h => h) (fun T43 I44 Q45 H locs h9 hF hB => ?_)
      replace h := h9
      clear h9
      replace h := h hF
      replace hK1 := z_k2 hK1 g1
      replace hK2 := z_k2 hK2 g2
      refine z_aload_n (x := x1) hx hb dX1_perform_63 rfl (lv_at hl 1 rfl) ?_
      obtain ⟨a46, rfl, h⟩ := h
      obtain ⟨hk_a46, h⟩ := h
      refine z_callip (z_runV (rest := []) [] pk_J30_size (met_J30_size a46 _ h) X hB (fun h => h) q2704 kc_J30 (by decide) hk_a46 rfl hl.1 (Nat.le_of_ble_eq_true rfl) dX1_perform_64 (z_k4 hK1) (z_k4 hK2) (by decide) (by decide)) hB (fun r47 H locs h9 hB => ?_)
      replace h := h9
      clear h9
      refine lv_istore_n (i := 3) (lv' := [(3, .int r47), (0, .ref o), (1, .ref a46), (2, va_rf x2)]) hx hb dX1_perform_67 rfl hl (by decide) (by simp [z_cat, z_rfs, z_catq]) (fun ls hl9 => ?_)
      replace hl := hl9
      clear hl9
      refine lv_aload_n (x := o) hx hb dX1_perform_68 rfl (lv_at hl 1 rfl) ?_
      refine lv_iconst (v := 0) hx hb dX1_perform_69 (by decide) ?_
      obtain ⟨I48, eI48⟩ : ∃ z, z = z_up I44 o 4 0 := ⟨_, rfl⟩
      replace h := h I48 eI48
      refine z_puti (x := 0) eI48 tyX1 X hB kc_X1 in_X1 tyX1_ok nmX1 (j := 4) (Nat.le_of_ble_eq_true rfl) q1302 (fun _ h => h) rfl rfl (by decide) (z_fo hB ho (by decide)) (z_foc hB ho (by decide) hoc) rfl (Or.inl rfl) dX1_perform_70 (fun H locs hB => ?_)
      refine lv_iload_n hx hb dX1_perform_73 rfl (lv_at hl 0 rfl) ?_
      exact z_iret X hB ⟨_, rfl, h⟩ (z_k3 hK1) (z_k3 hK2) dX1_perform_74
    · replace h := h.2 c39
      refine lv_aload_n (x := a37) hx hb dX1_perform_38 rfl (lv_at hl 3 rfl) ?_
      obtain ⟨co50, hco50, h⟩ := h
      refine z_call5r (z_run_itNext (rest := []) h X hB (z_coR0 hco50) q2623 hl.1 (Nat.le_of_ble_eq_true rfl) dX1_perform_39 (z_k4 hK1) (z_k4 hK2) (by decide) (by decide)) hB (z_coR hco50) (fun r49 T51 I52 Q53 H locs h9 hF hB => ?_)
      replace h := h9
      clear h9
      replace h := h hF
      obtain ⟨h2, h⟩ := h
      refine z_castCmd (x := r49) X hB.1 h2 q3164 dX1_perform_44 ?_
      refine z_astore (x := r49) (lv' := [(4, va_rf r49), (0, .ref o), (1, va_rf x1), (2, va_rf x2), (3, .ref a37)]) hx hb dX1_perform_47 hl (by decide) rfl (fun ls hl9 => ?_)
      replace hl := hl9
      clear hl9
      refine z_aload (x := r49) hx hb dX1_perform_49 (lv_at hl 0 rfl) ?_
      refine z_aload_n (x := x2) hx hb dX1_perform_51 rfl (lv_at hl 3 rfl) ?_
      obtain ⟨a54, rfl, h⟩ := h
      obtain ⟨kc56, ks57, g1, g2, h⟩ := h
      refine z_callXv (z_run_cmd (count := 0) (rest := []) h X hB z_R0 q3165 hl.1 (Nat.le_of_ble_eq_true rfl) dX1_perform_52 (z_k1 hK1 g1) (z_k1 hK2 g2) (by decide) (by decide)) hB (fun _ h => h) (hw_X1_perform X hT ho hoc (by decide) hK1 hK2 g1 g2 (lv_sub hl [1] rfl)) (fun T58 I59 Q60 H locs h9 hF hB => ?_)
      replace h := h9
      clear h9
      replace h := h hF
      replace hK1 := z_k2 hK1 g1
      replace hK2 := z_k2 hK2 g2
      refine lv_goto (tgt := 29) hx hb dX1_perform_55 (by decide) ?_
      exact ih hB hK1 hK2 (lv_sub hl [1, 2, 3, 4] rfl) h
theorem ww_X1_perform_0 {o : Nat} {Qk : Int32 → z_T → z_I → z_Q → Prop} {Xk : String → Nat → z_T → z_I → z_Q → Prop} (X : z_X l G A p R s m args meth c cX1_perform 6 RX1 "perform" (some .int) mc ms 28 558) (ho : (T0 o).1 = 1) (hoc : 3 ≤ (T0 o).2.2) (hT : c.exceptionTable.toList = tableOf hh_X1_perform) {cells slots : Nat} {T : z_T} {I : z_I} {Q : z_Q} {kc : Nat} {ks : Nat} {H : Heap} {locs : List Loc} {ls : Array Slot} (hB : z_HB G z_PR A s.heap T0 I0 Q0 T I Q H locs) (hK1 : cells + kc ≤ mc) (hK2 : slots + ks ≤ ms) (hl : lv_has ls 6 [(0, .ref o)]) (h : wb_X1_perform_0 G.2.2 o Qk Xk T I Q kc ks) : W p l e R s m args below meth c H locs cells slots (z_MQ below G z_PR A T0 I0 Q0 (z_qi Qk) Xk args s mc ms) (F0 m 0 ls []) := by
  obtain ⟨hx, hb, -⟩ := id X
  unfold wb_X1_perform_0 at h
  obtain ⟨co1, hco1, h⟩ := h
  obtain ⟨g1, g2, h⟩ := h
  refine z_new (col := co1) tyX12 X hB kc_X12 in_X12 tyX12_ok q3026 q3027 q158 (by decide) (z_dvX12) hco1 (z_k1 hK1 g1) (z_k1 hK2 g2) dX1_perform_0 (fun a2 H hq hB => ?_)
  obtain ⟨T3, eT3⟩ : ∃ z, z = z_t T a2 (12, 0, co1) := ⟨_, rfl⟩
  obtain ⟨I4, eI4⟩ : ∃ z, z = z_row I a2 (fun _ => 0) := ⟨_, rfl⟩
  obtain ⟨Q5, eQ5⟩ : ∃ z, z = z_row Q a2 (fun _ => none) := ⟨_, rfl⟩
  rw [← eT3, ← eI4, ← eQ5] at hB
  replace h := h a2 T3 I4 Q5 hq eT3 eI4 eQ5
  have hk_a2 := z_tq eT3
  have hc_a2 : 3 ≤ (T3 a2).2.2 := by rw [z_tqc eT3]; exact hco1
  replace hK1 := z_k2 hK1 g1
  replace hK2 := z_k2 hK2 g2
  refine lv_dup hx hb dX1_perform_3 rfl ?_
  refine lv_aload_n (x := o) hx hb dX1_perform_4 rfl (lv_at hl 0 rfl) ?_
  refine z_callv (z_runIN (rest := [.ref a2]) [.ref o] pk_X12_init (met_X12_init a2 o _ h) X hB hB.2.2.2.2.2.2 q3028 rfl hl.1 (Nat.le_of_ble_eq_true rfl) dX1_perform_5 (z_k4 hK1) (z_k4 hK2) (by decide) (by decide)) hB (fun _ h => h) (fun T7 I8 Q9 H locs h9 hF hB => ?_)
  replace h := h9
  clear h9
  replace h := h hF
  have hc_a2 : 3 ≤ (T7 a2).2.2 := by rw [z_te hF hk_a2 (by decide)]; exact hc_a2
  have hk_a2 := z_tk hF hk_a2 (by decide)
  obtain ⟨kc11, ks12, g1, g2, h⟩ := h
  refine z_callXr (z_runV (rest := []) [] pk_X12_all (met_X12_all a2 kc11 ks12 _ _ h) X hB hB.2.2.2.2.2.2 q3039 kc_X12 (by decide) hk_a2 rfl hl.1 (Nat.le_of_ble_eq_true rfl) dX1_perform_8 (z_k1 hK1 g1) (z_k1 hK2 g2) (by decide) (by decide)) hB (fun _ h => h) (hw_X1_perform X hT ho hoc (by decide) hK1 hK2 g1 g2 (lv_sub hl [0] rfl)) (fun r10 T13 I14 Q15 H locs h9 hF hB => ?_)
  replace h := h9
  clear h9
  replace h := h hF
  replace hK1 := z_k2 hK1 g1
  replace hK2 := z_k2 hK2 g2
  refine z_astore_n (x := r10) (lv' := [(1, va_rf r10), (0, .ref o)]) hx hb dX1_perform_11 rfl hl (by decide) rfl (fun ls hl9 => ?_)
  replace hl := hl9
  clear hl9
  obtain ⟨co17, hco17, h⟩ := h
  obtain ⟨g1, g2, h⟩ := h
  refine z_new (col := co17) tyX2 X hB kc_X2 in_X2 tyX2_ok q172 q173 q95 (by decide) (z_dvX2) hco17 (z_k1 hK1 g1) (z_k1 hK2 g2) dX1_perform_12 (fun a18 H hq hB => ?_)
  obtain ⟨T19, eT19⟩ : ∃ z, z = z_t T13 a18 (3, 0, co17) := ⟨_, rfl⟩
  obtain ⟨I20, eI20⟩ : ∃ z, z = z_row I14 a18 (fun _ => 0) := ⟨_, rfl⟩
  obtain ⟨Q21, eQ21⟩ : ∃ z, z = z_row Q15 a18 (fun _ => none) := ⟨_, rfl⟩
  rw [← eT19, ← eI20, ← eQ21] at hB
  replace h := h a18 T19 I20 Q21 hq eT19 eI20 eQ21
  have hk_a18 := z_tq eT19
  have hc_a18 : 3 ≤ (T19 a18).2.2 := by rw [z_tqc eT19]; exact hco17
  replace hK1 := z_k2 hK1 g1
  replace hK2 := z_k2 hK2 g2
  refine lv_dup hx hb dX1_perform_15 rfl ?_
  refine lv_aload_n (x := o) hx hb dX1_perform_16 rfl (lv_at hl 1 rfl) ?_
  refine z_getq X hB.1 kc_X1 in_X1 (j := 0) (Nat.le_of_ble_eq_true rfl) q1296 (fun _ h => h) rfl (by decide) (z_fo hB ho (by decide)) dX1_perform_17 ?_
  obtain ⟨co23, hco23, h⟩ := h
  obtain ⟨kc24, ks25, g1, g2, h⟩ := h
  refine z_callv (z_runI (rest := [.ref a18]) [va_rf (Q21 o 0)] pk_X2_init_2 (met_X2_init_2 co23 a18 (Q21 o 0) kc24 ks25 _ h) X hB (z_coR0 hco23) q1627 rfl hl.1 (Nat.le_of_ble_eq_true rfl) dX1_perform_20 (z_k1 hK1 g1) (z_k1 hK2 g2) (by decide) (by decide)) hB (z_coR hco23) (fun T26 I27 Q28 H locs h9 hF hB => ?_)
  replace h := h9
  clear h9
  replace h := h hF
  have hc_a18 : 3 ≤ (T26 a18).2.2 := by rw [z_te hF hk_a18 (by decide)]; exact hc_a18
  have hk_a18 := z_tk hF hk_a18 (by decide)
  replace hK1 := z_k2 hK1 g1
  replace hK2 := z_k2 hK2 g2
  refine lv_astore_n (i := 2) (x := a18) (lv' := [(2, .ref a18), (1, va_rf r10), (0, .ref o)]) hx hb dX1_perform_23 rfl hl (by decide) (by simp [z_cat, z_rfs, z_catq]) (fun ls hl9 => ?_)
  replace hl := hl9
  clear hl9
  refine z_aload_n (x := r10) hx hb dX1_perform_24 rfl (lv_at hl 1 rfl) ?_
  obtain ⟨a29, rfl, h⟩ := h
  obtain ⟨hk_a29, h⟩ := h
  obtain ⟨co31, hco31, h⟩ := h
  obtain ⟨kc32, ks33, g1, g2, h⟩ := h
  refine z_callr (z_runV (rest := []) [] pk_J30_iterator (met_J30_iterator co31 a29 kc32 ks33 _ h) X hB (z_coR0 hco31) q3163 kc_J30 (by decide) hk_a29 rfl hl.1 (Nat.le_of_ble_eq_true rfl) dX1_perform_25 (z_k1 hK1 g1) (z_k1 hK2 g2) (by decide) (by decide)) hB (z_coR hco31) (fun r30 T34 I35 Q36 H locs h9 hF hB => ?_)
  replace h := h9
  clear h9
  replace h := h hF
  have hc_a18 : 3 ≤ (T34 a18).2.2 := by rw [z_te hF hk_a18 (by decide)]; exact hc_a18
  have hk_a18 := z_tk hF hk_a18 (by decide)
  have hk_a29 := z_tk hF hk_a29 (by decide)
  replace hK1 := z_k2 hK1 g1
  replace hK2 := z_k2 hK2 g2
  refine z_astore_n (x := r30) (lv' := [(3, va_rf r30), (2, .ref a18), (1, .ref a29), (0, .ref o)]) hx hb dX1_perform_28 rfl hl (by decide) rfl (fun ls hl9 => ?_)
  replace hl := hl9
  clear hl9
  obtain ⟨w, h⟩ := h
  exact wv_X1_perform_29 X ho hoc hT  w hB hK1 hK2 (lv_sub hl [3, 2, 1, 0] rfl) h
theorem pk_X1_perform : z_PVW RX1 yX1_perform cX1_perform 6 (some .int) hh_X1_perform 0 := ⟨q3022, q3023, q94, q3024, by decide +kernel⟩
theorem met_X1_perform {l : Launch} {G : z_E} {T : z_T} {I : z_I} {Q : z_Q} (o : Nat) (kc : Nat) (ks : Nat) (Qk : Int32 → z_T → z_I → z_Q → Prop) (Xk : String → Nat → z_T → z_I → z_Q → Prop) (h : wp_X1_perform G.2.2 T I Q o kc ks Qk Xk) : z_GM l G yX1_perform (wsW_ yX1_perform cX1_perform 6 (some .int) hh_X1_perform) 28 558 kc ks [.ref o] z_PR T I Q (z_qi Qk) Xk := by
  obtain ⟨ho, hoc, h⟩ := h
  refine z_bodyW (own := RX1) (nm := "perform") (by decide +kernel) rfl rfl (by decide +kernel) (Nat.le_of_ble_eq_true rfl) (fun p e R s m below meth c A ls X hT hB hl => ?_)
  exact ww_X1_perform_0 X ho hoc hT hB z_k0 z_k0 hl h
/-! X0_perform -/
abbrev hh_X0_perform : List (Nat × Nat × Nat × Nat) := [(0, 8, 11, 45)]
theorem hw_X0_perform {Qk : Int32 → z_T → z_I → z_Q → Prop} {cells slots mc' ms' : Nat} (X : z_X l G A p R s m args meth c cX0_perform 3 RX0 "perform" (some .int) mc ms 29 583) (hT : c.exceptionTable.toList = tableOf hh_X0_perform) (h1 : cells + mc' ≤ mc) (h2 : slots + ms' ≤ ms) {ls : Array Slot} (hl : lv_has ls 3 []) {rest : List Value} {P' : Nat → Prop} : z_kx p l e R s m args below meth c cells slots mc' ms' 3 ls rest G z_PL A P' T0 I0 Q0 T I Q (fun E q T1 I1 Q1 => z_Fr P' T I Q T1 I1 Q1 → hx_X0_perform Qk E q T1 I1 Q1) (z_MQ below G z_PL A T0 I0 Q0 (z_qi Qk) z_no args s mc ms) := by
  obtain ⟨hx, hb, -⟩ := id X
  intro q E ce T1 I1 Q1 H1 locs1 hq hF hB h3 h4 h5
  replace hq := hq hF
  obtain ⟨hE, hq⟩ := hq
  rcases hE with rfl
  · refine z_catch [] ⟨0, 8, 11, 45⟩ [] X hT rfl (by simp) (by decide) (by decide) q2629 q2691 h3 h4 h5 ?_
    refine lv_astore_n hx hb dX0_perform_11 rfl hl (by decide) rfl (fun ls hl9 => ?_)
    replace hl := hl9
    clear hl9
    refine lv_iconst (v := 1) hx hb dX0_perform_12 (by decide) ?_
    exact z_iret X hB ⟨_, rfl, hq rfl⟩ h1 h2 dX0_perform_13
theorem ww_X0_perform_0 {Qk : Int32 → z_T → z_I → z_Q → Prop} (X : z_X l G A p R s m args meth c cX0_perform 3 RX0 "perform" (some .int) mc ms 29 583) (hT : c.exceptionTable.toList = tableOf hh_X0_perform) {cells slots : Nat} {T : z_T} {I : z_I} {Q : z_Q} {kc : Nat} {ks : Nat} {x0 : Option Nat} {x1 : Option Nat} {H : Heap} {locs : List Loc} {ls : Array Slot} (hB : z_HB G z_PL A s.heap T0 I0 Q0 T I Q H locs) (hK1 : cells + kc ≤ mc) (hK2 : slots + ks ≤ ms) (hl : lv_has ls 3 [(0, va_rf x0), (1, va_rf x1)]) (h : wb_X0_perform_0 G.2.2 Qk T I Q kc ks x0 x1) : W p l e R s m args below meth c H locs cells slots (z_MQ below G z_PL A T0 I0 Q0 (z_qi Qk) z_no args s mc ms) (F0 m 0 ls []) := by
  obtain ⟨hx, hb, -⟩ := id X
  unfold wb_X0_perform_0 at h
  refine z_aload_n (x := x1) hx hb dX0_perform_0 rfl (lv_at hl 1 rfl) ?_
  refine lv_iconst (v := 0) hx hb dX0_perform_1 (by decide) ?_
  refine z_aload_n (x := x0) hx hb dX0_perform_2 rfl (lv_at hl 0 rfl) ?_
  obtain ⟨a1, rfl, h⟩ := h
  obtain ⟨hk_a1, h⟩ := h
  obtain ⟨kc3, ks4, g1, g2, h⟩ := h
  refine z_callXi (z_runVW (rest := [.int 0, va_rf x1]) [] pk_X1_perform (met_X1_perform a1 kc3 ks4 _ _ h) X hB z_R0 q3021 kc_X1 (by decide) hk_a1 rfl hl.1 (by simp [z_cat, z_cati, z_catl, z_catf, z_catd, z_catq]) dX0_perform_3 (z_k1 hK1 g1) (z_k1 hK2 g2) (by decide) (by decide)) hB (fun _ h => z_RL h) (hw_X0_perform X hT (z_k1 hK1 g1) (z_k1 hK2 g2) (lv_sub hl [] rfl)) (fun r2 T5 I6 Q7 H locs h9 hF hB => ?_)
  replace h := h9
  clear h9
  replace h := h hF
  have hk_a1 := z_tk hF hk_a1 (by decide)
  replace hK1 := z_k2 hK1 g1
  replace hK2 := z_k2 hK2 g2
  refine lv_i2l hx hb dX0_perform_6 rfl ?_
  obtain ⟨a9, rfl, h⟩ := h
  obtain ⟨hk_a9, h⟩ := h
  obtain ⟨hc_a9, h⟩ := h
  obtain ⟨h1, h⟩ := h
  obtain ⟨I10, eI10⟩ : ∃ z, z = z_up I6 a9 (0 : Int32).toNatClampNeg r2 := ⟨_, rfl⟩
  replace h := h I10 eI10
  refine z_last (x := r2) X hB hk_a9 hc_a9 h1 dX0_perform_7 (fun H locs hB => ?_)
  rw [← eI10] at hB
  refine lv_goto (tgt := 14) hx hb dX0_perform_8 (by decide) ?_
  refine lv_iconst (v := 0) hx hb dX0_perform_14 (by decide) ?_
  exact z_iret X hB ⟨_, rfl, h⟩ (z_k3 hK1) (z_k3 hK2) dX0_perform_15
theorem pk_X0_perform : z_PSW yX0_perform cX0_perform 3 (some .int) hh_X0_perform 2 := ⟨q3019, q93, q3020, by decide +kernel⟩
theorem met_X0_perform {l : Launch} {G : z_E} {T : z_T} {I : z_I} {Q : z_Q} (x0 : Option Nat) (x1 : Option Nat) (kc : Nat) (ks : Nat) (Qk : Int32 → z_T → z_I → z_Q → Prop) (h : wp_X0_perform G.2.2 T I Q x0 x1 kc ks Qk) : z_GM l G yX0_perform (wsW_ yX0_perform cX0_perform 3 (some .int) hh_X0_perform) 29 583 kc ks [va_rf x0, va_rf x1] z_PL T I Q (z_qi Qk) z_no := by
  refine z_bodyW (own := RX0) (nm := "perform") (by decide +kernel) rfl rfl (by decide +kernel) (by cases x0 <;> cases x1 <;> exact Nat.le_of_ble_eq_true rfl) (fun p e R s m below meth c A ls X hT hB hl => ?_)
  replace hl : lv_has ls 3 [(0, va_rf x0), (1, va_rf x1)] := by cases x0 <;> cases x1 <;> exact hl
  exact ww_X0_perform_0 X hT hB z_k0 z_k0 hl h
/-! X0_reason -/
abbrev hh_X0_reason : List (Nat × Nat × Nat × Nat) := [(0, 10, 13, 13), (0, 10, 17, 39)]
theorem hw_X0_reason {Qk : Int32 → z_T → z_I → z_Q → Prop} {cells slots mc' ms' : Nat} (X : z_X l G A p R s m args meth c cX0_reason 5 RX0 "reason" (some .int) mc ms 11 185) (hT : c.exceptionTable.toList = tableOf hh_X0_reason) (h1 : cells + mc' ≤ mc) (h2 : slots + ms' ≤ ms) {ls : Array Slot} (hl : lv_has ls 5 []) {rest : List Value} {P' : Nat → Prop} : z_kx p l e R s m args below meth c cells slots mc' ms' 5 ls rest G z_PL A P' T0 I0 Q0 T I Q (fun E q T1 I1 Q1 => z_Fr P' T I Q T1 I1 Q1 → hx_X0_reason Qk E q T1 I1 Q1) (z_MQ below G z_PL A T0 I0 Q0 (z_qi Qk) z_no args s mc ms) := by
  obtain ⟨hx, hb, -⟩ := id X
  intro q E ce T1 I1 Q1 H1 locs1 hq hF hB h3 h4 h5
  replace hq := hq hF
  obtain ⟨hE, hq⟩ := hq
  rcases hE with rfl | rfl
  · refine z_catch [] ⟨0, 10, 13, 13⟩ [⟨0, 10, 17, 39⟩] X hT rfl (by simp) (by decide) (by decide) q2359 q2395 h3 h4 h5 ?_
    refine lv_astore hx hb dX0_reason_13 hl (by decide) rfl (fun ls hl9 => ?_)
    replace hl := hl9
    clear hl9
    refine lv_iconst (v := 1) hx hb dX0_reason_15 (by decide) ?_
    exact z_iret X hB ⟨_, rfl, hq.1 rfl⟩ h1 h2 dX0_reason_16
  · refine z_catch [⟨0, 10, 13, 13⟩] ⟨0, 10, 17, 39⟩ [] X hT rfl (by
      intro z hz
      simp only [List.mem_cons, List.not_mem_nil, or_false] at hz
      rcases hz with rfl
      · exact Or.inr ⟨by decide, _, q2359, by simp [z_nc]⟩) (by decide) (by decide) q2589 q1539 h3 h4 h5 ?_
    refine lv_astore hx hb dX0_reason_17 hl (by decide) rfl (fun ls hl9 => ?_)
    replace hl := hl9
    clear hl9
    refine lv_iconst (v := 2) hx hb dX0_reason_19 (by decide) ?_
    exact z_iret X hB ⟨_, rfl, hq.2 rfl⟩ h1 h2 dX0_reason_20
theorem ww_X0_reason_0 {Qk : Int32 → z_T → z_I → z_Q → Prop} (X : z_X l G A p R s m args meth c cX0_reason 5 RX0 "reason" (some .int) mc ms 11 185) (hT : c.exceptionTable.toList = tableOf hh_X0_reason) {cells slots : Nat} {T : z_T} {I : z_I} {Q : z_Q} {kc : Nat} {ks : Nat} {x0 : Option Nat} {x1 : Int32} {x2 : Int32} {x3 : Option Nat} {H : Heap} {locs : List Loc} {ls : Array Slot} (hB : z_HB G z_PL A s.heap T0 I0 Q0 T I Q H locs) (hK1 : cells + kc ≤ mc) (hK2 : slots + ks ≤ ms) (hl : lv_has ls 5 [(0, va_rf x0), (1, .int x1), (2, .int x2), (3, va_rf x3)]) (h : wb_X0_reason_0 Qk T I Q kc ks x0 x1 x2 x3) : W p l e R s m args below meth c H locs cells slots (z_MQ below G z_PL A T0 I0 Q0 (z_qi Qk) z_no args s mc ms) (F0 m 0 ls []) := by
  obtain ⟨hx, hb, -⟩ := id X
  unfold wb_X0_reason_0 at h
  refine z_aload_n (x := x3) hx hb dX0_reason_0 rfl (lv_at hl 3 rfl) ?_
  refine lv_iconst (v := 0) hx hb dX0_reason_1 (by decide) ?_
  refine z_aload_n (x := x0) hx hb dX0_reason_2 rfl (lv_at hl 0 rfl) ?_
  refine lv_iload_n hx hb dX0_reason_3 rfl (lv_at hl 1 rfl) ?_
  refine lv_iload_n hx hb dX0_reason_4 rfl (lv_at hl 2 rfl) ?_
  obtain ⟨a1, rfl, h⟩ := h
  obtain ⟨hk_a1, h⟩ := h
  obtain ⟨kc3, ks4, g1, g2, h⟩ := h
  refine z_callXi (z_runV (rest := [.int 0, va_rf x3]) [.int x1, .int x2] pk_X1_reason (met_X1_reason a1 x1 x2 kc3 ks4 _ _ h) X hB z_R0 q2908 kc_X1 (by decide) hk_a1 rfl hl.1 (by simp [z_cat, z_cati, z_catl, z_catf, z_catd, z_catq]) dX0_reason_5 (z_k1 hK1 g1) (z_k1 hK2 g2) (by decide) (by decide)) hB (fun _ h => z_RL h) (hw_X0_reason X hT (z_k1 hK1 g1) (z_k1 hK2 g2) (lv_sub hl [] rfl)) (fun r2 T5 I6 Q7 H locs h9 hF hB => ?_)
  replace h := h9
  clear h9
  replace h := h hF
  have hk_a1 := z_tk hF hk_a1 (by decide)
  replace hK1 := z_k2 hK1 g1
  replace hK2 := z_k2 hK2 g2
  refine lv_i2l hx hb dX0_reason_8 rfl ?_
  obtain ⟨a9, rfl, h⟩ := h
  obtain ⟨hk_a9, h⟩ := h
  obtain ⟨hc_a9, h⟩ := h
  obtain ⟨h1, h⟩ := h
  obtain ⟨I10, eI10⟩ : ∃ z, z = z_up I6 a9 (0 : Int32).toNatClampNeg r2 := ⟨_, rfl⟩
  replace h := h I10 eI10
  refine z_last (x := r2) X hB hk_a9 hc_a9 h1 dX0_reason_9 (fun H locs hB => ?_)
  rw [← eI10] at hB
  refine lv_goto (tgt := 21) hx hb dX0_reason_10 (by decide) ?_
  refine lv_iconst (v := 0) hx hb dX0_reason_21 (by decide) ?_
  exact z_iret X hB ⟨_, rfl, h⟩ (z_k3 hK1) (z_k3 hK2) dX0_reason_22
theorem pk_X0_reason : z_PSW yX0_reason cX0_reason 5 (some .int) hh_X0_reason 4 := ⟨q2906, q93, q2907, by decide +kernel⟩
theorem met_X0_reason {l : Launch} {G : z_E} {T : z_T} {I : z_I} {Q : z_Q} (x0 : Option Nat) (x1 : Int32) (x2 : Int32) (x3 : Option Nat) (kc : Nat) (ks : Nat) (Qk : Int32 → z_T → z_I → z_Q → Prop) (h : wp_X0_reason T I Q x0 x1 x2 x3 kc ks Qk) : z_GM l G yX0_reason (wsW_ yX0_reason cX0_reason 5 (some .int) hh_X0_reason) 11 185 kc ks [va_rf x0, .int x1, .int x2, va_rf x3] z_PL T I Q (z_qi Qk) z_no := by
  refine z_bodyW (own := RX0) (nm := "reason") (by decide +kernel) rfl rfl (by decide +kernel) (by cases x0 <;> cases x3 <;> exact Nat.le_of_ble_eq_true rfl) (fun p e R s m below meth c A ls X hT hB hl => ?_)
  replace hl : lv_has ls 5 [(0, va_rf x0), (1, .int x1), (2, .int x2), (3, va_rf x3)] := by cases x0 <;> cases x3 <;> exact hl
  exact ww_X0_reason_0 X hT hB z_k0 z_k0 hl h
/-! X0_restore -/
abbrev hh_X0_restore : List (Nat × Nat × Nat × Nat) := [(0, 8, 11, 17)]
theorem hw_X0_restore {Qk : Int32 → z_T → z_I → z_Q → Prop} {cells slots mc' ms' : Nat} (X : z_X l G A p R s m args meth c cX0_restore 3 RX0 "restore" (some .int) mc ms 16 312) (hT : c.exceptionTable.toList = tableOf hh_X0_restore) (h1 : cells + mc' ≤ mc) (h2 : slots + ms' ≤ ms) {ls : Array Slot} (hl : lv_has ls 3 []) {rest : List Value} {P' : Nat → Prop} : z_kx p l e R s m args below meth c cells slots mc' ms' 3 ls rest G z_PL A P' T0 I0 Q0 T I Q (fun E q T1 I1 Q1 => z_Fr P' T I Q T1 I1 Q1 → hx_X0_restore Qk E q T1 I1 Q1) (z_MQ below G z_PL A T0 I0 Q0 (z_qi Qk) z_no args s mc ms) := by
  obtain ⟨hx, hb, -⟩ := id X
  intro q E ce T1 I1 Q1 H1 locs1 hq hF hB h3 h4 h5
  replace hq := hq hF
  obtain ⟨hE, hq⟩ := hq
  rcases hE with rfl
  · refine z_catch [] ⟨0, 8, 11, 17⟩ [] X hT rfl (by simp) (by decide) (by decide) q2379 q1001 h3 h4 h5 ?_
    refine lv_astore_n hx hb dX0_restore_11 rfl hl (by decide) rfl (fun ls hl9 => ?_)
    replace hl := hl9
    clear hl9
    refine lv_iconst (v := 1) hx hb dX0_restore_12 (by decide) ?_
    exact z_iret X hB ⟨_, rfl, hq rfl⟩ h1 h2 dX0_restore_13
theorem ww_X0_restore_0 {Qk : Int32 → z_T → z_I → z_Q → Prop} (X : z_X l G A p R s m args meth c cX0_restore 3 RX0 "restore" (some .int) mc ms 16 312) (hT : c.exceptionTable.toList = tableOf hh_X0_restore) {cells slots : Nat} {T : z_T} {I : z_I} {Q : z_Q} {kc : Nat} {ks : Nat} {x0 : Option Nat} {x1 : Option Nat} {H : Heap} {locs : List Loc} {ls : Array Slot} (hB : z_HB G z_PL A s.heap T0 I0 Q0 T I Q H locs) (hK1 : cells + kc ≤ mc) (hK2 : slots + ks ≤ ms) (hl : lv_has ls 3 [(0, va_rf x0), (1, va_rf x1)]) (h : wb_X0_restore_0 G.2.2 Qk T I Q kc ks x0 x1) : W p l e R s m args below meth c H locs cells slots (z_MQ below G z_PL A T0 I0 Q0 (z_qi Qk) z_no args s mc ms) (F0 m 0 ls []) := by
  obtain ⟨hx, hb, -⟩ := id X
  unfold wb_X0_restore_0 at h
  refine z_aload_n (x := x1) hx hb dX0_restore_0 rfl (lv_at hl 1 rfl) ?_
  refine lv_iconst (v := 0) hx hb dX0_restore_1 (by decide) ?_
  refine z_aload_n (x := x0) hx hb dX0_restore_2 rfl (lv_at hl 0 rfl) ?_
  obtain ⟨a1, rfl, h⟩ := h
  obtain ⟨hk_a1, h⟩ := h
  obtain ⟨kc3, ks4, g1, g2, h⟩ := h
  refine z_callXi (z_runV (rest := [.int 0, va_rf x1]) [] pk_X1_restore (met_X1_restore a1 kc3 ks4 _ _ h) X hB z_R0 q3193 kc_X1 (by decide) hk_a1 rfl hl.1 (by simp [z_cat, z_cati, z_catl, z_catf, z_catd, z_catq]) dX0_restore_3 (z_k1 hK1 g1) (z_k1 hK2 g2) (by decide) (by decide)) hB (fun _ h => z_RL h) (hw_X0_restore X hT (z_k1 hK1 g1) (z_k1 hK2 g2) (lv_sub hl [] rfl)) (fun r2 T5 I6 Q7 H locs h9 hF hB => ?_)
  replace h := h9
  clear h9
  replace h := h hF
  have hk_a1 := z_tk hF hk_a1 (by decide)
  replace hK1 := z_k2 hK1 g1
  replace hK2 := z_k2 hK2 g2
  refine lv_i2l hx hb dX0_restore_6 rfl ?_
  obtain ⟨a9, rfl, h⟩ := h
  obtain ⟨hk_a9, h⟩ := h
  obtain ⟨hc_a9, h⟩ := h
  obtain ⟨h1, h⟩ := h
  obtain ⟨I10, eI10⟩ : ∃ z, z = z_up I6 a9 (0 : Int32).toNatClampNeg r2 := ⟨_, rfl⟩
  replace h := h I10 eI10
  refine z_last (x := r2) X hB hk_a9 hc_a9 h1 dX0_restore_7 (fun H locs hB => ?_)
  rw [← eI10] at hB
  refine lv_goto (tgt := 14) hx hb dX0_restore_8 (by decide) ?_
  refine lv_iconst (v := 0) hx hb dX0_restore_14 (by decide) ?_
  exact z_iret X hB ⟨_, rfl, h⟩ (z_k3 hK1) (z_k3 hK2) dX0_restore_15
theorem pk_X0_restore : z_PSW yX0_restore cX0_restore 3 (some .int) hh_X0_restore 2 := ⟨q3191, q93, q3192, by decide +kernel⟩
theorem met_X0_restore {l : Launch} {G : z_E} {T : z_T} {I : z_I} {Q : z_Q} (x0 : Option Nat) (x1 : Option Nat) (kc : Nat) (ks : Nat) (Qk : Int32 → z_T → z_I → z_Q → Prop) (h : wp_X0_restore G.2.2 T I Q x0 x1 kc ks Qk) : z_GM l G yX0_restore (wsW_ yX0_restore cX0_restore 3 (some .int) hh_X0_restore) 16 312 kc ks [va_rf x0, va_rf x1] z_PL T I Q (z_qi Qk) z_no := by
  refine z_bodyW (own := RX0) (nm := "restore") (by decide +kernel) rfl rfl (by decide +kernel) (by cases x0 <;> cases x1 <;> exact Nat.le_of_ble_eq_true rfl) (fun p e R s m below meth c A ls X hT hB hl => ?_)
  replace hl : lv_has ls 3 [(0, va_rf x0), (1, va_rf x1)] := by cases x0 <;> cases x1 <;> exact hl
  exact ww_X0_restore_0 X hT hB z_k0 z_k0 hl h
/-! X0_setCapacity -/
abbrev hh_X0_setCapacity : List (Nat × Nat × Nat × Nat) := [(0, 10, 13, 13), (0, 10, 17, 15), (0, 10, 21, 17)]
theorem hw_X0_setCapacity {Qk : Int32 → z_T → z_I → z_Q → Prop} {cells slots mc' ms' : Nat} (X : z_X l G A p R s m args meth c cX0_setCapacity 5 RX0 "setCapacity" (some .int) mc ms 16 317) (hT : c.exceptionTable.toList = tableOf hh_X0_setCapacity) (h1 : cells + mc' ≤ mc) (h2 : slots + ms' ≤ ms) {ls : Array Slot} (hl : lv_has ls 5 []) {rest : List Value} {P' : Nat → Prop} : z_kx p l e R s m args below meth c cells slots mc' ms' 5 ls rest G z_PL A P' T0 I0 Q0 T I Q (fun E q T1 I1 Q1 => z_Fr P' T I Q T1 I1 Q1 → hx_X0_setCapacity Qk E q T1 I1 Q1) (z_MQ below G z_PL A T0 I0 Q0 (z_qi Qk) z_no args s mc ms) := by
  obtain ⟨hx, hb, -⟩ := id X
  intro q E ce T1 I1 Q1 H1 locs1 hq hF hB h3 h4 h5
  replace hq := hq hF
  obtain ⟨hE, hq⟩ := hq
  rcases hE with rfl | rfl | rfl
  · refine z_catch [] ⟨0, 10, 13, 13⟩ [⟨0, 10, 17, 15⟩, ⟨0, 10, 21, 17⟩] X hT rfl (by simp) (by decide) (by decide) q2359 q2395 h3 h4 h5 ?_
    refine lv_astore hx hb dX0_setCapacity_13 hl (by decide) rfl (fun ls hl9 => ?_)
    replace hl := hl9
    clear hl9
    refine lv_iconst (v := 1) hx hb dX0_setCapacity_15 (by decide) ?_
    exact z_iret X hB ⟨_, rfl, hq.1 rfl⟩ h1 h2 dX0_setCapacity_16
  · refine z_catch [⟨0, 10, 13, 13⟩] ⟨0, 10, 17, 15⟩ [⟨0, 10, 21, 17⟩] X hT rfl (by
      intro z hz
      simp only [List.mem_cons, List.not_mem_nil, or_false] at hz
      rcases hz with rfl
      · exact Or.inr ⟨by decide, _, q2359, by simp [z_nc]⟩) (by decide) (by decide) q2378 q208 h3 h4 h5 ?_
    refine lv_astore hx hb dX0_setCapacity_17 hl (by decide) rfl (fun ls hl9 => ?_)
    replace hl := hl9
    clear hl9
    refine lv_iconst (v := 2) hx hb dX0_setCapacity_19 (by decide) ?_
    exact z_iret X hB ⟨_, rfl, hq.2.1 rfl⟩ h1 h2 dX0_setCapacity_20
  · refine z_catch [⟨0, 10, 13, 13⟩, ⟨0, 10, 17, 15⟩] ⟨0, 10, 21, 17⟩ [] X hT rfl (by
      intro z hz
      simp only [List.mem_cons, List.not_mem_nil, or_false] at hz
      rcases hz with rfl | rfl
      · exact Or.inr ⟨by decide, _, q2359, by simp [z_nc]⟩
      · exact Or.inr ⟨by decide, _, q2378, by simp [z_nc]⟩) (by decide) (by decide) q2379 q1001 h3 h4 h5 ?_
    refine lv_astore hx hb dX0_setCapacity_21 hl (by decide) rfl (fun ls hl9 => ?_)
    replace hl := hl9
    clear hl9
    refine lv_iconst (v := 3) hx hb dX0_setCapacity_23 (by decide) ?_
    exact z_iret X hB ⟨_, rfl, hq.2.2 rfl⟩ h1 h2 dX0_setCapacity_24
theorem ww_X0_setCapacity_0 {Qk : Int32 → z_T → z_I → z_Q → Prop} (X : z_X l G A p R s m args meth c cX0_setCapacity 5 RX0 "setCapacity" (some .int) mc ms 16 317) (hT : c.exceptionTable.toList = tableOf hh_X0_setCapacity) {cells slots : Nat} {T : z_T} {I : z_I} {Q : z_Q} {kc : Nat} {ks : Nat} {x0 : Option Nat} {x1 : Int32} {x2 : Int32} {x3 : Option Nat} {H : Heap} {locs : List Loc} {ls : Array Slot} (hB : z_HB G z_PL A s.heap T0 I0 Q0 T I Q H locs) (hK1 : cells + kc ≤ mc) (hK2 : slots + ks ≤ ms) (hl : lv_has ls 5 [(0, va_rf x0), (1, .int x1), (2, .int x2), (3, va_rf x3)]) (h : wb_X0_setCapacity_0 G.2.2 Qk T I Q kc ks x0 x1 x2 x3) : W p l e R s m args below meth c H locs cells slots (z_MQ below G z_PL A T0 I0 Q0 (z_qi Qk) z_no args s mc ms) (F0 m 0 ls []) := by
  obtain ⟨hx, hb, -⟩ := id X
  unfold wb_X0_setCapacity_0 at h
  refine z_aload_n (x := x3) hx hb dX0_setCapacity_0 rfl (lv_at hl 3 rfl) ?_
  refine lv_iconst (v := 0) hx hb dX0_setCapacity_1 (by decide) ?_
  refine z_aload_n (x := x0) hx hb dX0_setCapacity_2 rfl (lv_at hl 0 rfl) ?_
  refine lv_iload_n hx hb dX0_setCapacity_3 rfl (lv_at hl 1 rfl) ?_
  refine lv_iload_n hx hb dX0_setCapacity_4 rfl (lv_at hl 2 rfl) ?_
  obtain ⟨a1, rfl, h⟩ := h
  obtain ⟨hk_a1, h⟩ := h
  obtain ⟨kc3, ks4, g1, g2, h⟩ := h
  refine z_callXi (z_runV (rest := [.int 0, va_rf x3]) [.int x1, .int x2] pk_X1_setCapacity (met_X1_setCapacity a1 x1 x2 kc3 ks4 _ _ h) X hB z_R0 q2524 kc_X1 (by decide) hk_a1 rfl hl.1 (by simp [z_cat, z_cati, z_catl, z_catf, z_catd, z_catq]) dX0_setCapacity_5 (z_k1 hK1 g1) (z_k1 hK2 g2) (by decide) (by decide)) hB (fun _ h => z_RL h) (hw_X0_setCapacity X hT (z_k1 hK1 g1) (z_k1 hK2 g2) (lv_sub hl [] rfl)) (fun r2 T5 I6 Q7 H locs h9 hF hB => ?_)
  replace h := h9
  clear h9
  replace h := h hF
  have hk_a1 := z_tk hF hk_a1 (by decide)
  replace hK1 := z_k2 hK1 g1
  replace hK2 := z_k2 hK2 g2
  refine lv_i2l hx hb dX0_setCapacity_8 rfl ?_
  obtain ⟨a9, rfl, h⟩ := h
  obtain ⟨hk_a9, h⟩ := h
  obtain ⟨hc_a9, h⟩ := h
  obtain ⟨h1, h⟩ := h
  obtain ⟨I10, eI10⟩ : ∃ z, z = z_up I6 a9 (0 : Int32).toNatClampNeg r2 := ⟨_, rfl⟩
  replace h := h I10 eI10
  refine z_last (x := r2) X hB hk_a9 hc_a9 h1 dX0_setCapacity_9 (fun H locs hB => ?_)
  rw [← eI10] at hB
  refine lv_goto (tgt := 25) hx hb dX0_setCapacity_10 (by decide) ?_
  refine lv_iconst (v := 0) hx hb dX0_setCapacity_25 (by decide) ?_
  exact z_iret X hB ⟨_, rfl, h⟩ (z_k3 hK1) (z_k3 hK2) dX0_setCapacity_26
theorem pk_X0_setCapacity : z_PSW yX0_setCapacity cX0_setCapacity 5 (some .int) hh_X0_setCapacity 4 := ⟨q2522, q93, q2523, by decide +kernel⟩
theorem met_X0_setCapacity {l : Launch} {G : z_E} {T : z_T} {I : z_I} {Q : z_Q} (x0 : Option Nat) (x1 : Int32) (x2 : Int32) (x3 : Option Nat) (kc : Nat) (ks : Nat) (Qk : Int32 → z_T → z_I → z_Q → Prop) (h : wp_X0_setCapacity G.2.2 T I Q x0 x1 x2 x3 kc ks Qk) : z_GM l G yX0_setCapacity (wsW_ yX0_setCapacity cX0_setCapacity 5 (some .int) hh_X0_setCapacity) 16 317 kc ks [va_rf x0, .int x1, .int x2, va_rf x3] z_PL T I Q (z_qi Qk) z_no := by
  refine z_bodyW (own := RX0) (nm := "setCapacity") (by decide +kernel) rfl rfl (by decide +kernel) (by cases x0 <;> cases x3 <;> exact Nat.le_of_ble_eq_true rfl) (fun p e R s m below meth c A ls X hT hB hl => ?_)
  replace hl : lv_has ls 5 [(0, va_rf x0), (1, .int x1), (2, .int x2), (3, va_rf x3)] := by cases x0 <;> cases x3 <;> exact hl
  exact ww_X0_setCapacity_0 X hT hB z_k0 z_k0 hl h
/-! X0_setInterlock -/
abbrev hh_X0_setInterlock : List (Nat × Nat × Nat × Nat) := [(0, 19, 22, 13), (0, 19, 26, 15), (0, 19, 30, 17)]
theorem hw_X0_setInterlock {Qk : Int32 → z_T → z_I → z_Q → Prop} {cells slots mc' ms' : Nat} (X : z_X l G A p R s m args meth c cX0_setInterlock 6 RX0 "setInterlock" (some .int) mc ms 16 321) (hT : c.exceptionTable.toList = tableOf hh_X0_setInterlock) (h1 : cells + mc' ≤ mc) (h2 : slots + ms' ≤ ms) {ls : Array Slot} (hl : lv_has ls 6 []) {rest : List Value} {P' : Nat → Prop} : z_kx p l e R s m args below meth c cells slots mc' ms' 7 ls rest G z_PL A P' T0 I0 Q0 T I Q (fun E q T1 I1 Q1 => z_Fr P' T I Q T1 I1 Q1 → hx_X0_setInterlock Qk E q T1 I1 Q1) (z_MQ below G z_PL A T0 I0 Q0 (z_qi Qk) z_no args s mc ms) := by
  obtain ⟨hx, hb, -⟩ := id X
  intro q E ce T1 I1 Q1 H1 locs1 hq hF hB h3 h4 h5
  replace hq := hq hF
  obtain ⟨hE, hq⟩ := hq
  rcases hE with rfl | rfl | rfl
  · refine z_catch [] ⟨0, 19, 22, 13⟩ [⟨0, 19, 26, 15⟩, ⟨0, 19, 30, 17⟩] X hT rfl (by simp) (by decide) (by decide) q2359 q2395 h3 h4 h5 ?_
    refine lv_astore hx hb dX0_setInterlock_22 hl (by decide) rfl (fun ls hl9 => ?_)
    replace hl := hl9
    clear hl9
    refine lv_iconst (v := 1) hx hb dX0_setInterlock_24 (by decide) ?_
    exact z_iret X hB ⟨_, rfl, hq.1 rfl⟩ h1 h2 dX0_setInterlock_25
  · refine z_catch [⟨0, 19, 22, 13⟩] ⟨0, 19, 26, 15⟩ [⟨0, 19, 30, 17⟩] X hT rfl (by
      intro z hz
      simp only [List.mem_cons, List.not_mem_nil, or_false] at hz
      rcases hz with rfl
      · exact Or.inr ⟨by decide, _, q2359, by simp [z_nc]⟩) (by decide) (by decide) q2378 q208 h3 h4 h5 ?_
    refine lv_astore hx hb dX0_setInterlock_26 hl (by decide) rfl (fun ls hl9 => ?_)
    replace hl := hl9
    clear hl9
    refine lv_iconst (v := 2) hx hb dX0_setInterlock_28 (by decide) ?_
    exact z_iret X hB ⟨_, rfl, hq.2.1 rfl⟩ h1 h2 dX0_setInterlock_29
  · refine z_catch [⟨0, 19, 22, 13⟩, ⟨0, 19, 26, 15⟩] ⟨0, 19, 30, 17⟩ [] X hT rfl (by
      intro z hz
      simp only [List.mem_cons, List.not_mem_nil, or_false] at hz
      rcases hz with rfl | rfl
      · exact Or.inr ⟨by decide, _, q2359, by simp [z_nc]⟩
      · exact Or.inr ⟨by decide, _, q2378, by simp [z_nc]⟩) (by decide) (by decide) q2379 q1001 h3 h4 h5 ?_
    refine lv_astore hx hb dX0_setInterlock_30 hl (by decide) rfl (fun ls hl9 => ?_)
    replace hl := hl9
    clear hl9
    refine lv_iconst (v := 3) hx hb dX0_setInterlock_32 (by decide) ?_
    exact z_iret X hB ⟨_, rfl, hq.2.2 rfl⟩ h1 h2 dX0_setInterlock_33
theorem ww_X0_setInterlock_18 {Qk : Int32 → z_T → z_I → z_Q → Prop} (X : z_X l G A p R s m args meth c cX0_setInterlock 6 RX0 "setInterlock" (some .int) mc ms 16 321) (hT : c.exceptionTable.toList = tableOf hh_X0_setInterlock) {cells slots : Nat} {T : z_T} {I : z_I} {Q : z_Q} {kc : Nat} {ks : Nat} {s0 : Option Nat} {s1 : Int32} {s2 : Int64} {H : Heap} {locs : List Loc} {ls : Array Slot} (hB : z_HB G z_PL A s.heap T0 I0 Q0 T I Q H locs) (hK1 : cells + kc ≤ mc) (hK2 : slots + ks ≤ ms) (hl : lv_has ls 6 []) (h : wb_X0_setInterlock_18 G.2.2 Qk T I Q kc ks s0 s1 s2) : W p l e R s m args below meth c H locs cells slots (z_MQ below G z_PL A T0 I0 Q0 (z_qi Qk) z_no args s mc ms) (F0 m 18 ls [.long s2, .int s1, va_rf s0]) := by
  obtain ⟨hx, hb, -⟩ := id X
  unfold wb_X0_setInterlock_18 at h
  obtain ⟨a10, rfl, h⟩ := h
  obtain ⟨hk_a10, h⟩ := h
  obtain ⟨hc_a10, h⟩ := h
  obtain ⟨h1, h⟩ := h
  obtain ⟨g12, eg12, h⟩ := h
  refine z_stk (st' := [.long g12.toInt64, .int s1, .ref a10]) (by rw [eg12] <;> rfl) ?_
  obtain ⟨I11, eI11⟩ : ∃ z, z = z_up I a10 s1.toNatClampNeg g12 := ⟨_, rfl⟩
  replace h := h I11 eI11
  refine z_last (x := g12) X hB hk_a10 hc_a10 h1 dX0_setInterlock_18 (fun H locs hB => ?_)
  rw [← eI11] at hB
  refine lv_goto (tgt := 34) hx hb dX0_setInterlock_19 (by decide) ?_
  refine lv_iconst (v := 0) hx hb dX0_setInterlock_34 (by decide) ?_
  exact z_iret X hB ⟨_, rfl, h⟩ (z_k3 hK1) (z_k3 hK2) dX0_setInterlock_35
theorem ww_X0_setInterlock_0 {Qk : Int32 → z_T → z_I → z_Q → Prop} (X : z_X l G A p R s m args meth c cX0_setInterlock 6 RX0 "setInterlock" (some .int) mc ms 16 321) (hT : c.exceptionTable.toList = tableOf hh_X0_setInterlock) {cells slots : Nat} {T : z_T} {I : z_I} {Q : z_Q} {kc : Nat} {ks : Nat} {x0 : Option Nat} {x1 : Int32} {x2 : Int32} {x3 : Int32} {x4 : Option Nat} {H : Heap} {locs : List Loc} {ls : Array Slot} (hB : z_HB G z_PL A s.heap T0 I0 Q0 T I Q H locs) (hK1 : cells + kc ≤ mc) (hK2 : slots + ks ≤ ms) (hl : lv_has ls 6 [(0, va_rf x0), (1, .int x1), (2, .int x2), (3, .int x3), (4, va_rf x4)]) (h : wb_X0_setInterlock_0 G.2.2 Qk T I Q kc ks x0 x1 x2 x3 x4) : W p l e R s m args below meth c H locs cells slots (z_MQ below G z_PL A T0 I0 Q0 (z_qi Qk) z_no args s mc ms) (F0 m 0 ls []) := by
  obtain ⟨hx, hb, -⟩ := id X
  unfold wb_X0_setInterlock_0 at h
  refine z_aload (x := x4) hx hb dX0_setInterlock_0 (lv_at hl 4 rfl) ?_
  refine lv_iconst (v := 0) hx hb dX0_setInterlock_2 (by decide) ?_
  refine z_aload_n (x := x0) hx hb dX0_setInterlock_3 rfl (lv_at hl 0 rfl) ?_
  refine lv_iload_n hx hb dX0_setInterlock_4 rfl (lv_at hl 1 rfl) ?_
  refine lv_iload_n hx hb dX0_setInterlock_5 rfl (lv_at hl 2 rfl) ?_
  refine lv_iload_n hx hb dX0_setInterlock_6 rfl (lv_at hl 3 rfl) ?_
  obtain ⟨a1, rfl, h⟩ := h
  obtain ⟨hk_a1, h⟩ := h
  obtain ⟨kc3, ks4, g1, g2, h⟩ := h
  refine z_callXz (z_runV (rest := [.int 0, va_rf x4]) [.int x1, .int x2, .int x3] pk_X1_setInterlock (met_X1_setInterlock a1 x1 x2 x3 kc3 ks4 _ _ h) X hB z_R0 q2380 kc_X1 (by decide) hk_a1 rfl hl.1 (by simp [z_cat, z_cati, z_catl, z_catf, z_catd, z_catq]) dX0_setInterlock_7 (z_k1 hK1 g1) (z_k1 hK2 g2) (by decide) (by decide)) hB (fun _ h => z_RL h) (hw_X0_setInterlock X hT (z_k1 hK1 g1) (z_k1 hK2 g2) (lv_sub hl [] rfl)) (fun r2 T5 I6 Q7 H locs hz h9 hF hB => ?_)
  replace h := h9
  clear h9
  replace h := h hz hF
  have hk_a1 := z_tk hF hk_a1 (by decide)
  replace hK1 := z_k2 hK1 g1
  replace hK2 := z_k2 hK2 g2
  refine lv_if_eq (tgt := 17) hx hb dX0_setInterlock_10 (by decide) (fun c9 => ?_) (fun c9 => ?_)
  · replace h := h.1 c9
    refine lv_lconst hx hb dX0_setInterlock_17 (v := (0 : Int32).toInt64) (by decide) ?_
    exact ww_X0_setInterlock_18 X hT  hB hK1 hK2 (lv_sub hl [] rfl) h
  · replace h := h.2 c9
    refine lv_lconst hx hb dX0_setInterlock_13 (v := (1 : Int32).toInt64) (by decide) ?_
    refine lv_goto (tgt := 18) hx hb dX0_setInterlock_14 (by decide) ?_
    exact ww_X0_setInterlock_18 X hT  hB hK1 hK2 (lv_sub hl [] rfl) h
theorem pk_X0_setInterlock : z_PSW yX0_setInterlock cX0_setInterlock 6 (some .int) hh_X0_setInterlock 5 := ⟨q2357, q93, q2358, by decide +kernel⟩
theorem met_X0_setInterlock {l : Launch} {G : z_E} {T : z_T} {I : z_I} {Q : z_Q} (x0 : Option Nat) (x1 : Int32) (x2 : Int32) (x3 : Int32) (x4 : Option Nat) (kc : Nat) (ks : Nat) (Qk : Int32 → z_T → z_I → z_Q → Prop) (h : wp_X0_setInterlock G.2.2 T I Q x0 x1 x2 x3 x4 kc ks Qk) : z_GM l G yX0_setInterlock (wsW_ yX0_setInterlock cX0_setInterlock 6 (some .int) hh_X0_setInterlock) 16 321 kc ks [va_rf x0, .int x1, .int x2, .int x3, va_rf x4] z_PL T I Q (z_qi Qk) z_no := by
  refine z_bodyW (own := RX0) (nm := "setInterlock") (by decide +kernel) rfl rfl (by decide +kernel) (by cases x0 <;> cases x4 <;> exact Nat.le_of_ble_eq_true rfl) (fun p e R s m below meth c A ls X hT hB hl => ?_)
  replace hl : lv_has ls 6 [(0, va_rf x0), (1, .int x1), (2, .int x2), (3, .int x3), (4, va_rf x4)] := by cases x0 <;> cases x4 <;> exact hl
  exact ww_X0_setInterlock_0 X hT hB z_k0 z_k0 hl h
/-! X0_setReach -/
abbrev hh_X0_setReach : List (Nat × Nat × Nat × Nat) := [(0, 10, 13, 13), (0, 10, 17, 15)]
theorem hw_X0_setReach {Qk : Int32 → z_T → z_I → z_Q → Prop} {cells slots mc' ms' : Nat} (X : z_X l G A p R s m args meth c cX0_setReach 5 RX0 "setReach" (some .int) mc ms 16 316) (hT : c.exceptionTable.toList = tableOf hh_X0_setReach) (h1 : cells + mc' ≤ mc) (h2 : slots + ms' ≤ ms) {ls : Array Slot} (hl : lv_has ls 5 []) {rest : List Value} {P' : Nat → Prop} : z_kx p l e R s m args below meth c cells slots mc' ms' 5 ls rest G z_PL A P' T0 I0 Q0 T I Q (fun E q T1 I1 Q1 => z_Fr P' T I Q T1 I1 Q1 → hx_X0_setReach Qk E q T1 I1 Q1) (z_MQ below G z_PL A T0 I0 Q0 (z_qi Qk) z_no args s mc ms) := by
  obtain ⟨hx, hb, -⟩ := id X
  intro q E ce T1 I1 Q1 H1 locs1 hq hF hB h3 h4 h5
  replace hq := hq hF
  obtain ⟨hE, hq⟩ := hq
  rcases hE with rfl | rfl
  · refine z_catch [] ⟨0, 10, 13, 13⟩ [⟨0, 10, 17, 15⟩] X hT rfl (by simp) (by decide) (by decide) q2359 q2395 h3 h4 h5 ?_
    refine lv_astore hx hb dX0_setReach_13 hl (by decide) rfl (fun ls hl9 => ?_)
    replace hl := hl9
    clear hl9
    refine lv_iconst (v := 1) hx hb dX0_setReach_15 (by decide) ?_
    exact z_iret X hB ⟨_, rfl, hq.1 rfl⟩ h1 h2 dX0_setReach_16
  · refine z_catch [⟨0, 10, 13, 13⟩] ⟨0, 10, 17, 15⟩ [] X hT rfl (by
      intro z hz
      simp only [List.mem_cons, List.not_mem_nil, or_false] at hz
      rcases hz with rfl
      · exact Or.inr ⟨by decide, _, q2359, by simp [z_nc]⟩) (by decide) (by decide) q2378 q208 h3 h4 h5 ?_
    refine lv_astore hx hb dX0_setReach_17 hl (by decide) rfl (fun ls hl9 => ?_)
    replace hl := hl9
    clear hl9
    refine lv_iconst (v := 2) hx hb dX0_setReach_19 (by decide) ?_
    exact z_iret X hB ⟨_, rfl, hq.2 rfl⟩ h1 h2 dX0_setReach_20
theorem ww_X0_setReach_0 {Qk : Int32 → z_T → z_I → z_Q → Prop} (X : z_X l G A p R s m args meth c cX0_setReach 5 RX0 "setReach" (some .int) mc ms 16 316) (hT : c.exceptionTable.toList = tableOf hh_X0_setReach) {cells slots : Nat} {T : z_T} {I : z_I} {Q : z_Q} {kc : Nat} {ks : Nat} {x0 : Option Nat} {x1 : Int32} {x2 : Int32} {x3 : Option Nat} {H : Heap} {locs : List Loc} {ls : Array Slot} (hB : z_HB G z_PL A s.heap T0 I0 Q0 T I Q H locs) (hK1 : cells + kc ≤ mc) (hK2 : slots + ks ≤ ms) (hl : lv_has ls 5 [(0, va_rf x0), (1, .int x1), (2, .int x2), (3, va_rf x3)]) (h : wb_X0_setReach_0 G.2.2 Qk T I Q kc ks x0 x1 x2 x3) : W p l e R s m args below meth c H locs cells slots (z_MQ below G z_PL A T0 I0 Q0 (z_qi Qk) z_no args s mc ms) (F0 m 0 ls []) := by
  obtain ⟨hx, hb, -⟩ := id X
  unfold wb_X0_setReach_0 at h
  refine z_aload_n (x := x3) hx hb dX0_setReach_0 rfl (lv_at hl 3 rfl) ?_
  refine lv_iconst (v := 0) hx hb dX0_setReach_1 (by decide) ?_
  refine z_aload_n (x := x0) hx hb dX0_setReach_2 rfl (lv_at hl 0 rfl) ?_
  refine lv_iload_n hx hb dX0_setReach_3 rfl (lv_at hl 1 rfl) ?_
  refine lv_iload_n hx hb dX0_setReach_4 rfl (lv_at hl 2 rfl) ?_
  obtain ⟨a1, rfl, h⟩ := h
  obtain ⟨hk_a1, h⟩ := h
  obtain ⟨kc3, ks4, g1, g2, h⟩ := h
  refine z_callXi (z_runV (rest := [.int 0, va_rf x3]) [.int x1, .int x2] pk_X1_setReach (met_X1_setReach a1 x1 x2 kc3 ks4 _ _ h) X hB z_R0 q2517 kc_X1 (by decide) hk_a1 rfl hl.1 (by simp [z_cat, z_cati, z_catl, z_catf, z_catd, z_catq]) dX0_setReach_5 (z_k1 hK1 g1) (z_k1 hK2 g2) (by decide) (by decide)) hB (fun _ h => z_RL h) (hw_X0_setReach X hT (z_k1 hK1 g1) (z_k1 hK2 g2) (lv_sub hl [] rfl)) (fun r2 T5 I6 Q7 H locs h9 hF hB => ?_)
  replace h := h9
  clear h9
  replace h := h hF
  have hk_a1 := z_tk hF hk_a1 (by decide)
  replace hK1 := z_k2 hK1 g1
  replace hK2 := z_k2 hK2 g2
  refine lv_i2l hx hb dX0_setReach_8 rfl ?_
  obtain ⟨a9, rfl, h⟩ := h
  obtain ⟨hk_a9, h⟩ := h
  obtain ⟨hc_a9, h⟩ := h
  obtain ⟨h1, h⟩ := h
  obtain ⟨I10, eI10⟩ : ∃ z, z = z_up I6 a9 (0 : Int32).toNatClampNeg r2 := ⟨_, rfl⟩
  replace h := h I10 eI10
  refine z_last (x := r2) X hB hk_a9 hc_a9 h1 dX0_setReach_9 (fun H locs hB => ?_)
  rw [← eI10] at hB
  refine lv_goto (tgt := 21) hx hb dX0_setReach_10 (by decide) ?_
  refine lv_iconst (v := 0) hx hb dX0_setReach_21 (by decide) ?_
  exact z_iret X hB ⟨_, rfl, h⟩ (z_k3 hK1) (z_k3 hK2) dX0_setReach_22
theorem pk_X0_setReach : z_PSW yX0_setReach cX0_setReach 5 (some .int) hh_X0_setReach 4 := ⟨q2515, q93, q2516, by decide +kernel⟩
theorem met_X0_setReach {l : Launch} {G : z_E} {T : z_T} {I : z_I} {Q : z_Q} (x0 : Option Nat) (x1 : Int32) (x2 : Int32) (x3 : Option Nat) (kc : Nat) (ks : Nat) (Qk : Int32 → z_T → z_I → z_Q → Prop) (h : wp_X0_setReach G.2.2 T I Q x0 x1 x2 x3 kc ks Qk) : z_GM l G yX0_setReach (wsW_ yX0_setReach cX0_setReach 5 (some .int) hh_X0_setReach) 16 316 kc ks [va_rf x0, .int x1, .int x2, va_rf x3] z_PL T I Q (z_qi Qk) z_no := by
  refine z_bodyW (own := RX0) (nm := "setReach") (by decide +kernel) rfl rfl (by decide +kernel) (by cases x0 <;> cases x3 <;> exact Nat.le_of_ble_eq_true rfl) (fun p e R s m below meth c A ls X hT hB hl => ?_)
  replace hl : lv_has ls 5 [(0, va_rf x0), (1, .int x1), (2, .int x2), (3, va_rf x3)] := by cases x0 <;> cases x3 <;> exact hl
  exact ww_X0_setReach_0 X hT hB z_k0 z_k0 hl h
/-! X0_supply -/
abbrev hh_X0_supply : List (Nat × Nat × Nat × Nat) := [(0, 9, 12, 13), (0, 9, 15, 17)]
theorem hw_X0_supply {Qk : Int32 → z_T → z_I → z_Q → Prop} {cells slots mc' ms' : Nat} (X : z_X l G A p R s m args meth c cX0_supply 4 RX0 "supply" (some .int) mc ms 16 315) (hT : c.exceptionTable.toList = tableOf hh_X0_supply) (h1 : cells + mc' ≤ mc) (h2 : slots + ms' ≤ ms) {ls : Array Slot} (hl : lv_has ls 4 []) {rest : List Value} {P' : Nat → Prop} : z_kx p l e R s m args below meth c cells slots mc' ms' 4 ls rest G z_PL A P' T0 I0 Q0 T I Q (fun E q T1 I1 Q1 => z_Fr P' T I Q T1 I1 Q1 → hx_X0_supply Qk E q T1 I1 Q1) (z_MQ below G z_PL A T0 I0 Q0 (z_qi Qk) z_no args s mc ms) := by
  obtain ⟨hx, hb, -⟩ := id X
  intro q E ce T1 I1 Q1 H1 locs1 hq hF hB h3 h4 h5
  replace hq := hq hF
  obtain ⟨hE, hq⟩ := hq
  rcases hE with rfl | rfl
  · refine z_catch [] ⟨0, 9, 12, 13⟩ [⟨0, 9, 15, 17⟩] X hT rfl (by simp) (by decide) (by decide) q2359 q2395 h3 h4 h5 ?_
    refine lv_astore_n hx hb dX0_supply_12 rfl hl (by decide) rfl (fun ls hl9 => ?_)
    replace hl := hl9
    clear hl9
    refine lv_iconst (v := 1) hx hb dX0_supply_13 (by decide) ?_
    exact z_iret X hB ⟨_, rfl, hq.1 rfl⟩ h1 h2 dX0_supply_14
  · refine z_catch [⟨0, 9, 12, 13⟩] ⟨0, 9, 15, 17⟩ [] X hT rfl (by
      intro z hz
      simp only [List.mem_cons, List.not_mem_nil, or_false] at hz
      rcases hz with rfl
      · exact Or.inr ⟨by decide, _, q2359, by simp [z_nc]⟩) (by decide) (by decide) q2379 q1001 h3 h4 h5 ?_
    refine lv_astore_n hx hb dX0_supply_15 rfl hl (by decide) rfl (fun ls hl9 => ?_)
    replace hl := hl9
    clear hl9
    refine lv_iconst (v := 2) hx hb dX0_supply_16 (by decide) ?_
    exact z_iret X hB ⟨_, rfl, hq.2 rfl⟩ h1 h2 dX0_supply_17
theorem ww_X0_supply_0 {Qk : Int32 → z_T → z_I → z_Q → Prop} (X : z_X l G A p R s m args meth c cX0_supply 4 RX0 "supply" (some .int) mc ms 16 315) (hT : c.exceptionTable.toList = tableOf hh_X0_supply) {cells slots : Nat} {T : z_T} {I : z_I} {Q : z_Q} {kc : Nat} {ks : Nat} {x0 : Option Nat} {x1 : Int32} {x2 : Option Nat} {H : Heap} {locs : List Loc} {ls : Array Slot} (hB : z_HB G z_PL A s.heap T0 I0 Q0 T I Q H locs) (hK1 : cells + kc ≤ mc) (hK2 : slots + ks ≤ ms) (hl : lv_has ls 4 [(0, va_rf x0), (1, .int x1), (2, va_rf x2)]) (h : wb_X0_supply_0 G.2.2 Qk T I Q kc ks x0 x1 x2) : W p l e R s m args below meth c H locs cells slots (z_MQ below G z_PL A T0 I0 Q0 (z_qi Qk) z_no args s mc ms) (F0 m 0 ls []) := by
  obtain ⟨hx, hb, -⟩ := id X
  unfold wb_X0_supply_0 at h
  refine z_aload_n (x := x2) hx hb dX0_supply_0 rfl (lv_at hl 2 rfl) ?_
  refine lv_iconst (v := 0) hx hb dX0_supply_1 (by decide) ?_
  refine z_aload_n (x := x0) hx hb dX0_supply_2 rfl (lv_at hl 0 rfl) ?_
  refine lv_iload_n hx hb dX0_supply_3 rfl (lv_at hl 1 rfl) ?_
  obtain ⟨a1, rfl, h⟩ := h
  obtain ⟨hk_a1, h⟩ := h
  obtain ⟨kc3, ks4, g1, g2, h⟩ := h
  refine z_callXi (z_runV (rest := [.int 0, va_rf x2]) [.int x1] pk_X1_supply (met_X1_supply a1 x1 kc3 ks4 _ _ h) X hB z_R0 q2531 kc_X1 (by decide) hk_a1 rfl hl.1 (by simp [z_cat, z_cati, z_catl, z_catf, z_catd, z_catq]) dX0_supply_4 (z_k1 hK1 g1) (z_k1 hK2 g2) (by decide) (by decide)) hB (fun _ h => z_RL h) (hw_X0_supply X hT (z_k1 hK1 g1) (z_k1 hK2 g2) (lv_sub hl [] rfl)) (fun r2 T5 I6 Q7 H locs h9 hF hB => ?_)
  replace h := h9
  clear h9
  replace h := h hF
  have hk_a1 := z_tk hF hk_a1 (by decide)
  replace hK1 := z_k2 hK1 g1
  replace hK2 := z_k2 hK2 g2
  refine lv_i2l hx hb dX0_supply_7 rfl ?_
  obtain ⟨a9, rfl, h⟩ := h
  obtain ⟨hk_a9, h⟩ := h
  obtain ⟨hc_a9, h⟩ := h
  obtain ⟨h1, h⟩ := h
  obtain ⟨I10, eI10⟩ : ∃ z, z = z_up I6 a9 (0 : Int32).toNatClampNeg r2 := ⟨_, rfl⟩
  replace h := h I10 eI10
  refine z_last (x := r2) X hB hk_a9 hc_a9 h1 dX0_supply_8 (fun H locs hB => ?_)
  rw [← eI10] at hB
  refine lv_goto (tgt := 18) hx hb dX0_supply_9 (by decide) ?_
  refine lv_iconst (v := 0) hx hb dX0_supply_18 (by decide) ?_
  exact z_iret X hB ⟨_, rfl, h⟩ (z_k3 hK1) (z_k3 hK2) dX0_supply_19
theorem pk_X0_supply : z_PSW yX0_supply cX0_supply 4 (some .int) hh_X0_supply 3 := ⟨q2529, q93, q2530, by decide +kernel⟩
theorem met_X0_supply {l : Launch} {G : z_E} {T : z_T} {I : z_I} {Q : z_Q} (x0 : Option Nat) (x1 : Int32) (x2 : Option Nat) (kc : Nat) (ks : Nat) (Qk : Int32 → z_T → z_I → z_Q → Prop) (h : wp_X0_supply G.2.2 T I Q x0 x1 x2 kc ks Qk) : z_GM l G yX0_supply (wsW_ yX0_supply cX0_supply 4 (some .int) hh_X0_supply) 16 315 kc ks [va_rf x0, .int x1, va_rf x2] z_PL T I Q (z_qi Qk) z_no := by
  refine z_bodyW (own := RX0) (nm := "supply") (by decide +kernel) rfl rfl (by decide +kernel) (by cases x0 <;> cases x2 <;> exact Nat.le_of_ble_eq_true rfl) (fun p e R s m below meth c A ls X hT hB hl => ?_)
  replace hl : lv_has ls 4 [(0, va_rf x0), (1, .int x1), (2, va_rf x2)] := by cases x0 <;> cases x2 <;> exact hl
  exact ww_X0_supply_0 X hT hB z_k0 z_k0 hl h
/-! X0_tick -/
abbrev hh_X0_tick : List (Nat × Nat × Nat × Nat) := [(0, 9, 12, 15)]
theorem hw_X0_tick {Qk : Int32 → z_T → z_I → z_Q → Prop} {cells slots mc' ms' : Nat} (X : z_X l G A p R s m args meth c cX0_tick 4 RX0 "tick" (some .int) mc ms 28 559) (hT : c.exceptionTable.toList = tableOf hh_X0_tick) (h1 : cells + mc' ≤ mc) (h2 : slots + ms' ≤ ms) {ls : Array Slot} (hl : lv_has ls 4 []) {rest : List Value} {P' : Nat → Prop} : z_kx p l e R s m args below meth c cells slots mc' ms' 4 ls rest G z_PL A P' T0 I0 Q0 T I Q (fun E q T1 I1 Q1 => z_Fr P' T I Q T1 I1 Q1 → hx_X0_tick Qk E q T1 I1 Q1) (z_MQ below G z_PL A T0 I0 Q0 (z_qi Qk) z_no args s mc ms) := by
  obtain ⟨hx, hb, -⟩ := id X
  intro q E ce T1 I1 Q1 H1 locs1 hq hF hB h3 h4 h5
  replace hq := hq hF
  obtain ⟨hE, hq⟩ := hq
  rcases hE with rfl
  · refine z_catch [] ⟨0, 9, 12, 15⟩ [] X hT rfl (by simp) (by decide) (by decide) q2378 q208 h3 h4 h5 ?_
    refine lv_astore_n hx hb dX0_tick_12 rfl hl (by decide) rfl (fun ls hl9 => ?_)
    replace hl := hl9
    clear hl9
    refine lv_iconst (v := 1) hx hb dX0_tick_13 (by decide) ?_
    exact z_iret X hB ⟨_, rfl, hq rfl⟩ h1 h2 dX0_tick_14
theorem ww_X0_tick_0 {Qk : Int32 → z_T → z_I → z_Q → Prop} (X : z_X l G A p R s m args meth c cX0_tick 4 RX0 "tick" (some .int) mc ms 28 559) (hT : c.exceptionTable.toList = tableOf hh_X0_tick) {cells slots : Nat} {T : z_T} {I : z_I} {Q : z_Q} {kc : Nat} {ks : Nat} {x0 : Option Nat} {x1 : Int32} {x2 : Option Nat} {H : Heap} {locs : List Loc} {ls : Array Slot} (hB : z_HB G z_PL A s.heap T0 I0 Q0 T I Q H locs) (hK1 : cells + kc ≤ mc) (hK2 : slots + ks ≤ ms) (hl : lv_has ls 4 [(0, va_rf x0), (1, .int x1), (2, va_rf x2)]) (h : wb_X0_tick_0 G.2.2 Qk T I Q kc ks x0 x1 x2) : W p l e R s m args below meth c H locs cells slots (z_MQ below G z_PL A T0 I0 Q0 (z_qi Qk) z_no args s mc ms) (F0 m 0 ls []) := by
  obtain ⟨hx, hb, -⟩ := id X
  unfold wb_X0_tick_0 at h
  refine z_aload_n (x := x2) hx hb dX0_tick_0 rfl (lv_at hl 2 rfl) ?_
  refine lv_iconst (v := 0) hx hb dX0_tick_1 (by decide) ?_
  refine z_aload_n (x := x0) hx hb dX0_tick_2 rfl (lv_at hl 0 rfl) ?_
  refine lv_iload_n hx hb dX0_tick_3 rfl (lv_at hl 1 rfl) ?_
  obtain ⟨a1, rfl, h⟩ := h
  obtain ⟨hk_a1, h⟩ := h
  obtain ⟨kc3, ks4, g1, g2, h⟩ := h
  refine z_callXi (z_runV (rest := [.int 0, va_rf x2]) [.int x1] pk_X1_tick (met_X1_tick a1 x1 kc3 ks4 _ _ h) X hB z_R0 q2776 kc_X1 (by decide) hk_a1 rfl hl.1 (by simp [z_cat, z_cati, z_catl, z_catf, z_catd, z_catq]) dX0_tick_4 (z_k1 hK1 g1) (z_k1 hK2 g2) (by decide) (by decide)) hB (fun _ h => z_RL h) (hw_X0_tick X hT (z_k1 hK1 g1) (z_k1 hK2 g2) (lv_sub hl [] rfl)) (fun r2 T5 I6 Q7 H locs h9 hF hB => ?_)
  replace h := h9
  clear h9
  replace h := h hF
  have hk_a1 := z_tk hF hk_a1 (by decide)
  replace hK1 := z_k2 hK1 g1
  replace hK2 := z_k2 hK2 g2
  refine lv_i2l hx hb dX0_tick_7 rfl ?_
  obtain ⟨a9, rfl, h⟩ := h
  obtain ⟨hk_a9, h⟩ := h
  obtain ⟨hc_a9, h⟩ := h
  obtain ⟨h1, h⟩ := h
  obtain ⟨I10, eI10⟩ : ∃ z, z = z_up I6 a9 (0 : Int32).toNatClampNeg r2 := ⟨_, rfl⟩
  replace h := h I10 eI10
  refine z_last (x := r2) X hB hk_a9 hc_a9 h1 dX0_tick_8 (fun H locs hB => ?_)
  rw [← eI10] at hB
  refine lv_goto (tgt := 15) hx hb dX0_tick_9 (by decide) ?_
  refine lv_iconst (v := 0) hx hb dX0_tick_15 (by decide) ?_
  exact z_iret X hB ⟨_, rfl, h⟩ (z_k3 hK1) (z_k3 hK2) dX0_tick_16
theorem pk_X0_tick : z_PSW yX0_tick cX0_tick 4 (some .int) hh_X0_tick 3 := ⟨q2774, q93, q2775, by decide +kernel⟩
theorem met_X0_tick {l : Launch} {G : z_E} {T : z_T} {I : z_I} {Q : z_Q} (x0 : Option Nat) (x1 : Int32) (x2 : Option Nat) (kc : Nat) (ks : Nat) (Qk : Int32 → z_T → z_I → z_Q → Prop) (h : wp_X0_tick G.2.2 T I Q x0 x1 x2 kc ks Qk) : z_GM l G yX0_tick (wsW_ yX0_tick cX0_tick 4 (some .int) hh_X0_tick) 28 559 kc ks [va_rf x0, .int x1, va_rf x2] z_PL T I Q (z_qi Qk) z_no := by
  refine z_bodyW (own := RX0) (nm := "tick") (by decide +kernel) rfl rfl (by decide +kernel) (by cases x0 <;> cases x2 <;> exact Nat.le_of_ble_eq_true rfl) (fun p e R s m below meth c A ls X hT hB hl => ?_)
  replace hl : lv_has ls 4 [(0, va_rf x0), (1, .int x1), (2, va_rf x2)] := by cases x0 <;> cases x2 <;> exact hl
  exact ww_X0_tick_0 X hT hB z_k0 z_k0 hl h
/-! X0_undo -/
abbrev hh_X0_undo : List (Nat × Nat × Nat × Nat) := [(0, 8, 11, 17)]
theorem hw_X0_undo {Qk : Int32 → z_T → z_I → z_Q → Prop} {cells slots mc' ms' : Nat} (X : z_X l G A p R s m args meth c cX0_undo 3 RX0 "undo" (some .int) mc ms 12 205) (hT : c.exceptionTable.toList = tableOf hh_X0_undo) (h1 : cells + mc' ≤ mc) (h2 : slots + ms' ≤ ms) {ls : Array Slot} (hl : lv_has ls 3 []) {rest : List Value} {P' : Nat → Prop} : z_kx p l e R s m args below meth c cells slots mc' ms' 3 ls rest G z_PL A P' T0 I0 Q0 T I Q (fun E q T1 I1 Q1 => z_Fr P' T I Q T1 I1 Q1 → hx_X0_undo Qk E q T1 I1 Q1) (z_MQ below G z_PL A T0 I0 Q0 (z_qi Qk) z_no args s mc ms) := by
  obtain ⟨hx, hb, -⟩ := id X
  intro q E ce T1 I1 Q1 H1 locs1 hq hF hB h3 h4 h5
  replace hq := hq hF
  obtain ⟨hE, hq⟩ := hq
  rcases hE with rfl
  · refine z_catch [] ⟨0, 8, 11, 17⟩ [] X hT rfl (by simp) (by decide) (by decide) q2379 q1001 h3 h4 h5 ?_
    refine lv_astore_n hx hb dX0_undo_11 rfl hl (by decide) rfl (fun ls hl9 => ?_)
    replace hl := hl9
    clear hl9
    refine lv_iconst (v := 1) hx hb dX0_undo_12 (by decide) ?_
    exact z_iret X hB ⟨_, rfl, hq rfl⟩ h1 h2 dX0_undo_13
theorem ww_X0_undo_0 {Qk : Int32 → z_T → z_I → z_Q → Prop} (X : z_X l G A p R s m args meth c cX0_undo 3 RX0 "undo" (some .int) mc ms 12 205) (hT : c.exceptionTable.toList = tableOf hh_X0_undo) {cells slots : Nat} {T : z_T} {I : z_I} {Q : z_Q} {kc : Nat} {ks : Nat} {x0 : Option Nat} {x1 : Option Nat} {H : Heap} {locs : List Loc} {ls : Array Slot} (hB : z_HB G z_PL A s.heap T0 I0 Q0 T I Q H locs) (hK1 : cells + kc ≤ mc) (hK2 : slots + ks ≤ ms) (hl : lv_has ls 3 [(0, va_rf x0), (1, va_rf x1)]) (h : wb_X0_undo_0 Qk T I Q kc ks x0 x1) : W p l e R s m args below meth c H locs cells slots (z_MQ below G z_PL A T0 I0 Q0 (z_qi Qk) z_no args s mc ms) (F0 m 0 ls []) := by
  obtain ⟨hx, hb, -⟩ := id X
  unfold wb_X0_undo_0 at h
  refine z_aload_n (x := x1) hx hb dX0_undo_0 rfl (lv_at hl 1 rfl) ?_
  refine lv_iconst (v := 0) hx hb dX0_undo_1 (by decide) ?_
  refine z_aload_n (x := x0) hx hb dX0_undo_2 rfl (lv_at hl 0 rfl) ?_
  obtain ⟨a1, rfl, h⟩ := h
  obtain ⟨hk_a1, h⟩ := h
  obtain ⟨kc3, ks4, g1, g2, h⟩ := h
  refine z_callXi (z_runV (rest := [.int 0, va_rf x1]) [] pk_X1_undo (met_X1_undo a1 kc3 ks4 _ _ h) X hB z_R0 q3186 kc_X1 (by decide) hk_a1 rfl hl.1 (by simp [z_cat, z_cati, z_catl, z_catf, z_catd, z_catq]) dX0_undo_3 (z_k1 hK1 g1) (z_k1 hK2 g2) (by decide) (by decide)) hB (fun _ h => z_RL h) (hw_X0_undo X hT (z_k1 hK1 g1) (z_k1 hK2 g2) (lv_sub hl [] rfl)) (fun r2 T5 I6 Q7 H locs h9 hF hB => ?_)
  replace h := h9
  clear h9
  replace h := h hF
  have hk_a1 := z_tk hF hk_a1 (by decide)
  replace hK1 := z_k2 hK1 g1
  replace hK2 := z_k2 hK2 g2
  refine lv_i2l hx hb dX0_undo_6 rfl ?_
  obtain ⟨a9, rfl, h⟩ := h
  obtain ⟨hk_a9, h⟩ := h
  obtain ⟨hc_a9, h⟩ := h
  obtain ⟨h1, h⟩ := h
  obtain ⟨I10, eI10⟩ : ∃ z, z = z_up I6 a9 (0 : Int32).toNatClampNeg r2 := ⟨_, rfl⟩
  replace h := h I10 eI10
  refine z_last (x := r2) X hB hk_a9 hc_a9 h1 dX0_undo_7 (fun H locs hB => ?_)
  rw [← eI10] at hB
  refine lv_goto (tgt := 14) hx hb dX0_undo_8 (by decide) ?_
  refine lv_iconst (v := 0) hx hb dX0_undo_14 (by decide) ?_
  exact z_iret X hB ⟨_, rfl, h⟩ (z_k3 hK1) (z_k3 hK2) dX0_undo_15
theorem pk_X0_undo : z_PSW yX0_undo cX0_undo 3 (some .int) hh_X0_undo 2 := ⟨q3184, q93, q3185, by decide +kernel⟩
theorem met_X0_undo {l : Launch} {G : z_E} {T : z_T} {I : z_I} {Q : z_Q} (x0 : Option Nat) (x1 : Option Nat) (kc : Nat) (ks : Nat) (Qk : Int32 → z_T → z_I → z_Q → Prop) (h : wp_X0_undo T I Q x0 x1 kc ks Qk) : z_GM l G yX0_undo (wsW_ yX0_undo cX0_undo 3 (some .int) hh_X0_undo) 12 205 kc ks [va_rf x0, va_rf x1] z_PL T I Q (z_qi Qk) z_no := by
  refine z_bodyW (own := RX0) (nm := "undo") (by decide +kernel) rfl rfl (by decide +kernel) (by cases x0 <;> cases x1 <;> exact Nat.le_of_ble_eq_true rfl) (fun p e R s m below meth c A ls X hT hB hl => ?_)
  replace hl : lv_has ls 3 [(0, va_rf x0), (1, va_rf x1)] := by cases x0 <;> cases x1 <;> exact hl
  exact ww_X0_undo_0 X hT hB z_k0 z_k0 hl h
/-! X0_use -/
abbrev hh_X0_use : List (Nat × Nat × Nat × Nat) := [(0, 9, 12, 13), (0, 9, 15, 86)]
theorem hw_X0_use {Qk : Int32 → z_T → z_I → z_Q → Prop} {cells slots mc' ms' : Nat} (X : z_X l G A p R s m args meth c cX0_use 4 RX0 "use" (some .int) mc ms 11 184) (hT : c.exceptionTable.toList = tableOf hh_X0_use) (h1 : cells + mc' ≤ mc) (h2 : slots + ms' ≤ ms) {ls : Array Slot} (hl : lv_has ls 4 []) {rest : List Value} {P' : Nat → Prop} : z_kx p l e R s m args below meth c cells slots mc' ms' 4 ls rest G z_PL A P' T0 I0 Q0 T I Q (fun E q T1 I1 Q1 => z_Fr P' T I Q T1 I1 Q1 → hx_X0_use Qk E q T1 I1 Q1) (z_MQ below G z_PL A T0 I0 Q0 (z_qi Qk) z_no args s mc ms) := by
  obtain ⟨hx, hb, -⟩ := id X
  intro q E ce T1 I1 Q1 H1 locs1 hq hF hB h3 h4 h5
  replace hq := hq hF
  obtain ⟨hE, hq⟩ := hq
  rcases hE with rfl | rfl
  · refine z_catch [] ⟨0, 9, 12, 13⟩ [⟨0, 9, 15, 86⟩] X hT rfl (by simp) (by decide) (by decide) q2359 q2395 h3 h4 h5 ?_
    refine lv_astore_n hx hb dX0_use_12 rfl hl (by decide) rfl (fun ls hl9 => ?_)
    replace hl := hl9
    clear hl9
    refine lv_iconst (v := 1) hx hb dX0_use_13 (by decide) ?_
    exact z_iret X hB ⟨_, rfl, hq.1 rfl⟩ h1 h2 dX0_use_14
  · refine z_catch [⟨0, 9, 12, 13⟩] ⟨0, 9, 15, 86⟩ [] X hT rfl (by
      intro z hz
      simp only [List.mem_cons, List.not_mem_nil, or_false] at hz
      rcases hz with rfl
      · exact Or.inr ⟨by decide, _, q2359, by simp [z_nc]⟩) (by decide) (by decide) q2981 q2993 h3 h4 h5 ?_
    refine lv_astore_n hx hb dX0_use_15 rfl hl (by decide) rfl (fun ls hl9 => ?_)
    replace hl := hl9
    clear hl9
    refine lv_iconst (v := 2) hx hb dX0_use_16 (by decide) ?_
    exact z_iret X hB ⟨_, rfl, hq.2 rfl⟩ h1 h2 dX0_use_17
theorem ww_X0_use_0 {Qk : Int32 → z_T → z_I → z_Q → Prop} (X : z_X l G A p R s m args meth c cX0_use 4 RX0 "use" (some .int) mc ms 11 184) (hT : c.exceptionTable.toList = tableOf hh_X0_use) {cells slots : Nat} {T : z_T} {I : z_I} {Q : z_Q} {kc : Nat} {ks : Nat} {x0 : Option Nat} {x1 : Int32} {x2 : Option Nat} {H : Heap} {locs : List Loc} {ls : Array Slot} (hB : z_HB G z_PL A s.heap T0 I0 Q0 T I Q H locs) (hK1 : cells + kc ≤ mc) (hK2 : slots + ks ≤ ms) (hl : lv_has ls 4 [(0, va_rf x0), (1, .int x1), (2, va_rf x2)]) (h : wb_X0_use_0 Qk T I Q kc ks x0 x1 x2) : W p l e R s m args below meth c H locs cells slots (z_MQ below G z_PL A T0 I0 Q0 (z_qi Qk) z_no args s mc ms) (F0 m 0 ls []) := by
  obtain ⟨hx, hb, -⟩ := id X
  unfold wb_X0_use_0 at h
  refine z_aload_n (x := x2) hx hb dX0_use_0 rfl (lv_at hl 2 rfl) ?_
  refine lv_iconst (v := 0) hx hb dX0_use_1 (by decide) ?_
  refine z_aload_n (x := x0) hx hb dX0_use_2 rfl (lv_at hl 0 rfl) ?_
  refine lv_iload_n hx hb dX0_use_3 rfl (lv_at hl 1 rfl) ?_
  obtain ⟨a1, rfl, h⟩ := h
  obtain ⟨hk_a1, h⟩ := h
  obtain ⟨kc3, ks4, g1, g2, h⟩ := h
  refine z_callXf (z_runV (rest := [.int 0, va_rf x2]) [.int x1] pk_X1_use (met_X1_use a1 x1 kc3 ks4 _ _ h) X hB z_R0 q2995 kc_X1 (by decide) hk_a1 rfl hl.1 (by simp [z_cat, z_cati, z_catl, z_catf, z_catd, z_catq]) dX0_use_4 (z_k1 hK1 g1) (z_k1 hK2 g2) (by decide) (by decide)) hB (fun _ h => z_RL h) (hw_X0_use X hT (z_k1 hK1 g1) (z_k1 hK2 g2) (lv_sub hl [] rfl)) (fun r2 T5 I6 Q7 H locs h9 hF hB => ?_)
  replace h := h9
  clear h9
  replace h := h hF
  have hk_a1 := z_tk hF hk_a1 (by decide)
  replace hK1 := z_k2 hK1 g1
  replace hK2 := z_k2 hK2 g2
  obtain ⟨hn, h⟩ := h
  refine lv_f2d hx hb dX0_use_7 hn ?_
  obtain ⟨a9, rfl, h⟩ := h
  obtain ⟨hk_a9, h⟩ := h
  obtain ⟨hc_a9, h⟩ := h
  obtain ⟨h1, h⟩ := h
  obtain ⟨g10, g11, eg10⟩ := z_dm_of (FP.f2d r2)
  replace h := h g10 g11 eg10
  obtain ⟨I12, eI12⟩ : ∃ z, z = z_up (z_up I6 a9 (2 * (0 : Int32).toNatClampNeg) g10) a9 (2 * (0 : Int32).toNatClampNeg + 1) g11 := ⟨_, rfl⟩
  replace h := h I12 eI12
  refine z_dast eg10 X hB hk_a9 hc_a9 h1 dX0_use_8 (fun H locs hB => ?_)
  rw [← eI12] at hB
  refine lv_goto (tgt := 18) hx hb dX0_use_9 (by decide) ?_
  refine lv_iconst (v := 0) hx hb dX0_use_18 (by decide) ?_
  exact z_iret X hB ⟨_, rfl, h⟩ (z_k3 hK1) (z_k3 hK2) dX0_use_19
theorem pk_X0_use : z_PSW yX0_use cX0_use 4 (some .int) hh_X0_use 3 := ⟨q2979, q93, q2980, by decide +kernel⟩
theorem met_X0_use {l : Launch} {G : z_E} {T : z_T} {I : z_I} {Q : z_Q} (x0 : Option Nat) (x1 : Int32) (x2 : Option Nat) (kc : Nat) (ks : Nat) (Qk : Int32 → z_T → z_I → z_Q → Prop) (h : wp_X0_use T I Q x0 x1 x2 kc ks Qk) : z_GM l G yX0_use (wsW_ yX0_use cX0_use 4 (some .int) hh_X0_use) 11 184 kc ks [va_rf x0, .int x1, va_rf x2] z_PL T I Q (z_qi Qk) z_no := by
  refine z_bodyW (own := RX0) (nm := "use") (by decide +kernel) rfl rfl (by decide +kernel) (by cases x0 <;> cases x2 <;> exact Nat.le_of_ble_eq_true rfl) (fun p e R s m below meth c A ls X hT hB hl => ?_)
  replace hl : lv_has ls 4 [(0, va_rf x0), (1, .int x1), (2, va_rf x2)] := by cases x0 <;> cases x2 <;> exact hl
  exact ww_X0_use_0 X hT hB z_k0 z_k0 hl h
/-! X0_waiting -/
abbrev hh_X0_waiting : List (Nat × Nat × Nat × Nat) := [(0, 10, 13, 13)]
theorem hw_X0_waiting {Qk : Int32 → z_T → z_I → z_Q → Prop} {cells slots mc' ms' : Nat} (X : z_X l G A p R s m args meth c cX0_waiting 5 RX0 "waiting" (some .int) mc ms 14 251) (hT : c.exceptionTable.toList = tableOf hh_X0_waiting) (h1 : cells + mc' ≤ mc) (h2 : slots + ms' ≤ ms) {ls : Array Slot} (hl : lv_has ls 5 []) {rest : List Value} {P' : Nat → Prop} : z_kx p l e R s m args below meth c cells slots mc' ms' 5 ls rest G z_PL A P' T0 I0 Q0 T I Q (fun E q T1 I1 Q1 => z_Fr P' T I Q T1 I1 Q1 → hx_X0_waiting Qk E q T1 I1 Q1) (z_MQ below G z_PL A T0 I0 Q0 (z_qi Qk) z_no args s mc ms) := by
  obtain ⟨hx, hb, -⟩ := id X
  intro q E ce T1 I1 Q1 H1 locs1 hq hF hB h3 h4 h5
  replace hq := hq hF
  obtain ⟨hE, hq⟩ := hq
  rcases hE with rfl
  · refine z_catch [] ⟨0, 10, 13, 13⟩ [] X hT rfl (by simp) (by decide) (by decide) q2359 q2395 h3 h4 h5 ?_
    refine lv_astore hx hb dX0_waiting_13 hl (by decide) rfl (fun ls hl9 => ?_)
    replace hl := hl9
    clear hl9
    refine lv_iconst (v := 1) hx hb dX0_waiting_15 (by decide) ?_
    exact z_iret X hB ⟨_, rfl, hq rfl⟩ h1 h2 dX0_waiting_16
theorem ww_X0_waiting_0 {Qk : Int32 → z_T → z_I → z_Q → Prop} (X : z_X l G A p R s m args meth c cX0_waiting 5 RX0 "waiting" (some .int) mc ms 14 251) (hT : c.exceptionTable.toList = tableOf hh_X0_waiting) {cells slots : Nat} {T : z_T} {I : z_I} {Q : z_Q} {kc : Nat} {ks : Nat} {x0 : Option Nat} {x1 : Int32} {x2 : Int32} {x3 : Option Nat} {H : Heap} {locs : List Loc} {ls : Array Slot} (hB : z_HB G z_PL A s.heap T0 I0 Q0 T I Q H locs) (hK1 : cells + kc ≤ mc) (hK2 : slots + ks ≤ ms) (hl : lv_has ls 5 [(0, va_rf x0), (1, .int x1), (2, .int x2), (3, va_rf x3)]) (h : wb_X0_waiting_0 Qk T I Q kc ks x0 x1 x2 x3) : W p l e R s m args below meth c H locs cells slots (z_MQ below G z_PL A T0 I0 Q0 (z_qi Qk) z_no args s mc ms) (F0 m 0 ls []) := by
  obtain ⟨hx, hb, -⟩ := id X
  unfold wb_X0_waiting_0 at h
  refine z_aload_n (x := x3) hx hb dX0_waiting_0 rfl (lv_at hl 3 rfl) ?_
  refine lv_iconst (v := 0) hx hb dX0_waiting_1 (by decide) ?_
  refine z_aload_n (x := x0) hx hb dX0_waiting_2 rfl (lv_at hl 0 rfl) ?_
  refine lv_iload_n hx hb dX0_waiting_3 rfl (lv_at hl 1 rfl) ?_
  refine lv_iload_n hx hb dX0_waiting_4 rfl (lv_at hl 2 rfl) ?_
  obtain ⟨a1, rfl, h⟩ := h
  obtain ⟨hk_a1, h⟩ := h
  obtain ⟨kc3, ks4, g1, g2, h⟩ := h
  refine z_callXi (z_runV (rest := [.int 0, va_rf x3]) [.int x1, .int x2] pk_X1_waiting (met_X1_waiting a1 x1 x2 kc3 ks4 _ _ h) X hB z_R0 q2769 kc_X1 (by decide) hk_a1 rfl hl.1 (by simp [z_cat, z_cati, z_catl, z_catf, z_catd, z_catq]) dX0_waiting_5 (z_k1 hK1 g1) (z_k1 hK2 g2) (by decide) (by decide)) hB (fun _ h => z_RL h) (hw_X0_waiting X hT (z_k1 hK1 g1) (z_k1 hK2 g2) (lv_sub hl [] rfl)) (fun r2 T5 I6 Q7 H locs h9 hF hB => ?_)
  replace h := h9
  clear h9
  replace h := h hF
  have hk_a1 := z_tk hF hk_a1 (by decide)
  replace hK1 := z_k2 hK1 g1
  replace hK2 := z_k2 hK2 g2
  refine lv_i2l hx hb dX0_waiting_8 rfl ?_
  obtain ⟨a9, rfl, h⟩ := h
  obtain ⟨hk_a9, h⟩ := h
  obtain ⟨hc_a9, h⟩ := h
  obtain ⟨h1, h⟩ := h
  obtain ⟨I10, eI10⟩ : ∃ z, z = z_up I6 a9 (0 : Int32).toNatClampNeg r2 := ⟨_, rfl⟩
  replace h := h I10 eI10
  refine z_last (x := r2) X hB hk_a9 hc_a9 h1 dX0_waiting_9 (fun H locs hB => ?_)
  rw [← eI10] at hB
  refine lv_goto (tgt := 17) hx hb dX0_waiting_10 (by decide) ?_
  refine lv_iconst (v := 0) hx hb dX0_waiting_17 (by decide) ?_
  exact z_iret X hB ⟨_, rfl, h⟩ (z_k3 hK1) (z_k3 hK2) dX0_waiting_18
theorem pk_X0_waiting : z_PSW yX0_waiting cX0_waiting 5 (some .int) hh_X0_waiting 4 := ⟨q2767, q93, q2768, by decide +kernel⟩
theorem met_X0_waiting {l : Launch} {G : z_E} {T : z_T} {I : z_I} {Q : z_Q} (x0 : Option Nat) (x1 : Int32) (x2 : Int32) (x3 : Option Nat) (kc : Nat) (ks : Nat) (Qk : Int32 → z_T → z_I → z_Q → Prop) (h : wp_X0_waiting T I Q x0 x1 x2 x3 kc ks Qk) : z_GM l G yX0_waiting (wsW_ yX0_waiting cX0_waiting 5 (some .int) hh_X0_waiting) 14 251 kc ks [va_rf x0, .int x1, .int x2, va_rf x3] z_PL T I Q (z_qi Qk) z_no := by
  refine z_bodyW (own := RX0) (nm := "waiting") (by decide +kernel) rfl rfl (by decide +kernel) (by cases x0 <;> cases x3 <;> exact Nat.le_of_ble_eq_true rfl) (fun p e R s m below meth c A ls X hT hB hl => ?_)
  replace hl : lv_has ls 5 [(0, va_rf x0), (1, .int x1), (2, .int x2), (3, va_rf x3)] := by cases x0 <;> cases x3 <;> exact hl
  exact ww_X0_waiting_0 X hT hB z_k0 z_k0 hl h
/-! X0_withdraw -/
abbrev hh_X0_withdraw : List (Nat × Nat × Nat × Nat) := [(0, 9, 12, 13), (0, 9, 15, 39)]
theorem hw_X0_withdraw {Qk : Int32 → z_T → z_I → z_Q → Prop} {cells slots mc' ms' : Nat} (X : z_X l G A p R s m args meth c cX0_withdraw 4 RX0 "withdraw" (some .int) mc ms 16 315) (hT : c.exceptionTable.toList = tableOf hh_X0_withdraw) (h1 : cells + mc' ≤ mc) (h2 : slots + ms' ≤ ms) {ls : Array Slot} (hl : lv_has ls 4 []) {rest : List Value} {P' : Nat → Prop} : z_kx p l e R s m args below meth c cells slots mc' ms' 4 ls rest G z_PL A P' T0 I0 Q0 T I Q (fun E q T1 I1 Q1 => z_Fr P' T I Q T1 I1 Q1 → hx_X0_withdraw Qk E q T1 I1 Q1) (z_MQ below G z_PL A T0 I0 Q0 (z_qi Qk) z_no args s mc ms) := by
  obtain ⟨hx, hb, -⟩ := id X
  intro q E ce T1 I1 Q1 H1 locs1 hq hF hB h3 h4 h5
  replace hq := hq hF
  obtain ⟨hE, hq⟩ := hq
  rcases hE with rfl | rfl
  · refine z_catch [] ⟨0, 9, 12, 13⟩ [⟨0, 9, 15, 39⟩] X hT rfl (by simp) (by decide) (by decide) q2359 q2395 h3 h4 h5 ?_
    refine lv_astore_n hx hb dX0_withdraw_12 rfl hl (by decide) rfl (fun ls hl9 => ?_)
    replace hl := hl9
    clear hl9
    refine lv_iconst (v := 1) hx hb dX0_withdraw_13 (by decide) ?_
    exact z_iret X hB ⟨_, rfl, hq.1 rfl⟩ h1 h2 dX0_withdraw_14
  · refine z_catch [⟨0, 9, 12, 13⟩] ⟨0, 9, 15, 39⟩ [] X hT rfl (by
      intro z hz
      simp only [List.mem_cons, List.not_mem_nil, or_false] at hz
      rcases hz with rfl
      · exact Or.inr ⟨by decide, _, q2359, by simp [z_nc]⟩) (by decide) (by decide) q2589 q1539 h3 h4 h5 ?_
    refine lv_astore_n hx hb dX0_withdraw_15 rfl hl (by decide) rfl (fun ls hl9 => ?_)
    replace hl := hl9
    clear hl9
    refine lv_iconst (v := 2) hx hb dX0_withdraw_16 (by decide) ?_
    exact z_iret X hB ⟨_, rfl, hq.2 rfl⟩ h1 h2 dX0_withdraw_17
theorem ww_X0_withdraw_0 {Qk : Int32 → z_T → z_I → z_Q → Prop} (X : z_X l G A p R s m args meth c cX0_withdraw 4 RX0 "withdraw" (some .int) mc ms 16 315) (hT : c.exceptionTable.toList = tableOf hh_X0_withdraw) {cells slots : Nat} {T : z_T} {I : z_I} {Q : z_Q} {kc : Nat} {ks : Nat} {x0 : Option Nat} {x1 : Int32} {x2 : Option Nat} {H : Heap} {locs : List Loc} {ls : Array Slot} (hB : z_HB G z_PL A s.heap T0 I0 Q0 T I Q H locs) (hK1 : cells + kc ≤ mc) (hK2 : slots + ks ≤ ms) (hl : lv_has ls 4 [(0, va_rf x0), (1, .int x1), (2, va_rf x2)]) (h : wb_X0_withdraw_0 G.2.2 Qk T I Q kc ks x0 x1 x2) : W p l e R s m args below meth c H locs cells slots (z_MQ below G z_PL A T0 I0 Q0 (z_qi Qk) z_no args s mc ms) (F0 m 0 ls []) := by
  obtain ⟨hx, hb, -⟩ := id X
  unfold wb_X0_withdraw_0 at h
  refine z_aload_n (x := x2) hx hb dX0_withdraw_0 rfl (lv_at hl 2 rfl) ?_
  refine lv_iconst (v := 0) hx hb dX0_withdraw_1 (by decide) ?_
  refine z_aload_n (x := x0) hx hb dX0_withdraw_2 rfl (lv_at hl 0 rfl) ?_
  refine lv_iload_n hx hb dX0_withdraw_3 rfl (lv_at hl 1 rfl) ?_
  obtain ⟨a1, rfl, h⟩ := h
  obtain ⟨hk_a1, h⟩ := h
  obtain ⟨kc3, ks4, g1, g2, h⟩ := h
  refine z_callXi (z_runV (rest := [.int 0, va_rf x2]) [.int x1] pk_X1_withdraw (met_X1_withdraw a1 x1 kc3 ks4 _ _ h) X hB z_R0 q2714 kc_X1 (by decide) hk_a1 rfl hl.1 (by simp [z_cat, z_cati, z_catl, z_catf, z_catd, z_catq]) dX0_withdraw_4 (z_k1 hK1 g1) (z_k1 hK2 g2) (by decide) (by decide)) hB (fun _ h => z_RL h) (hw_X0_withdraw X hT (z_k1 hK1 g1) (z_k1 hK2 g2) (lv_sub hl [] rfl)) (fun r2 T5 I6 Q7 H locs h9 hF hB => ?_)
  replace h := h9
  clear h9
  replace h := h hF
  have hk_a1 := z_tk hF hk_a1 (by decide)
  replace hK1 := z_k2 hK1 g1
  replace hK2 := z_k2 hK2 g2
  refine lv_i2l hx hb dX0_withdraw_7 rfl ?_
  obtain ⟨a9, rfl, h⟩ := h
  obtain ⟨hk_a9, h⟩ := h
  obtain ⟨hc_a9, h⟩ := h
  obtain ⟨h1, h⟩ := h
  obtain ⟨I10, eI10⟩ : ∃ z, z = z_up I6 a9 (0 : Int32).toNatClampNeg r2 := ⟨_, rfl⟩
  replace h := h I10 eI10
  refine z_last (x := r2) X hB hk_a9 hc_a9 h1 dX0_withdraw_8 (fun H locs hB => ?_)
  rw [← eI10] at hB
  refine lv_goto (tgt := 18) hx hb dX0_withdraw_9 (by decide) ?_
  refine lv_iconst (v := 0) hx hb dX0_withdraw_18 (by decide) ?_
  exact z_iret X hB ⟨_, rfl, h⟩ (z_k3 hK1) (z_k3 hK2) dX0_withdraw_19
theorem pk_X0_withdraw : z_PSW yX0_withdraw cX0_withdraw 4 (some .int) hh_X0_withdraw 3 := ⟨q2712, q93, q2713, by decide +kernel⟩
theorem met_X0_withdraw {l : Launch} {G : z_E} {T : z_T} {I : z_I} {Q : z_Q} (x0 : Option Nat) (x1 : Int32) (x2 : Option Nat) (kc : Nat) (ks : Nat) (Qk : Int32 → z_T → z_I → z_Q → Prop) (h : wp_X0_withdraw G.2.2 T I Q x0 x1 x2 kc ks Qk) : z_GM l G yX0_withdraw (wsW_ yX0_withdraw cX0_withdraw 4 (some .int) hh_X0_withdraw) 16 315 kc ks [va_rf x0, .int x1, va_rf x2] z_PL T I Q (z_qi Qk) z_no := by
  refine z_bodyW (own := RX0) (nm := "withdraw") (by decide +kernel) rfl rfl (by decide +kernel) (by cases x0 <;> cases x2 <;> exact Nat.le_of_ble_eq_true rfl) (fun p e R s m below meth c A ls X hT hB hl => ?_)
  replace hl : lv_has ls 4 [(0, va_rf x0), (1, .int x1), (2, va_rf x2)] := by cases x0 <;> cases x2 <;> exact hl
  exact ww_X0_withdraw_0 X hT hB z_k0 z_k0 hl h
/-! X0_wouldBe -/
abbrev hh_X0_wouldBe : List (Nat × Nat × Nat × Nat) := [(0, 9, 12, 13), (0, 9, 15, 39)]
theorem hw_X0_wouldBe {Qk : Int32 → z_T → z_I → z_Q → Prop} {cells slots mc' ms' : Nat} (X : z_X l G A p R s m args meth c cX0_wouldBe 4 RX0 "wouldBe" (some .int) mc ms 22 429) (hT : c.exceptionTable.toList = tableOf hh_X0_wouldBe) (h1 : cells + mc' ≤ mc) (h2 : slots + ms' ≤ ms) {ls : Array Slot} (hl : lv_has ls 4 []) {rest : List Value} {P' : Nat → Prop} : z_kx p l e R s m args below meth c cells slots mc' ms' 4 ls rest G z_PL A P' T0 I0 Q0 T I Q (fun E q T1 I1 Q1 => z_Fr P' T I Q T1 I1 Q1 → hx_X0_wouldBe Qk E q T1 I1 Q1) (z_MQ below G z_PL A T0 I0 Q0 (z_qi Qk) z_no args s mc ms) := by
  obtain ⟨hx, hb, -⟩ := id X
  intro q E ce T1 I1 Q1 H1 locs1 hq hF hB h3 h4 h5
  replace hq := hq hF
  obtain ⟨hE, hq⟩ := hq
  rcases hE with rfl | rfl
  · refine z_catch [] ⟨0, 9, 12, 13⟩ [⟨0, 9, 15, 39⟩] X hT rfl (by simp) (by decide) (by decide) q2359 q2395 h3 h4 h5 ?_
    refine lv_astore_n hx hb dX0_wouldBe_12 rfl hl (by decide) rfl (fun ls hl9 => ?_)
    replace hl := hl9
    clear hl9
    refine lv_iconst (v := 1) hx hb dX0_wouldBe_13 (by decide) ?_
    exact z_iret X hB ⟨_, rfl, hq.1 rfl⟩ h1 h2 dX0_wouldBe_14
  · refine z_catch [⟨0, 9, 12, 13⟩] ⟨0, 9, 15, 39⟩ [] X hT rfl (by
      intro z hz
      simp only [List.mem_cons, List.not_mem_nil, or_false] at hz
      rcases hz with rfl
      · exact Or.inr ⟨by decide, _, q2359, by simp [z_nc]⟩) (by decide) (by decide) q2589 q1539 h3 h4 h5 ?_
    refine lv_astore_n hx hb dX0_wouldBe_15 rfl hl (by decide) rfl (fun ls hl9 => ?_)
    replace hl := hl9
    clear hl9
    refine lv_iconst (v := 2) hx hb dX0_wouldBe_16 (by decide) ?_
    exact z_iret X hB ⟨_, rfl, hq.2 rfl⟩ h1 h2 dX0_wouldBe_17
theorem ww_X0_wouldBe_0 {Qk : Int32 → z_T → z_I → z_Q → Prop} (X : z_X l G A p R s m args meth c cX0_wouldBe 4 RX0 "wouldBe" (some .int) mc ms 22 429) (hT : c.exceptionTable.toList = tableOf hh_X0_wouldBe) {cells slots : Nat} {T : z_T} {I : z_I} {Q : z_Q} {kc : Nat} {ks : Nat} {x0 : Option Nat} {x1 : Int32} {x2 : Option Nat} {H : Heap} {locs : List Loc} {ls : Array Slot} (hB : z_HB G z_PL A s.heap T0 I0 Q0 T I Q H locs) (hK1 : cells + kc ≤ mc) (hK2 : slots + ks ≤ ms) (hl : lv_has ls 4 [(0, va_rf x0), (1, .int x1), (2, va_rf x2)]) (h : wb_X0_wouldBe_0 G.2.2 Qk T I Q kc ks x0 x1 x2) : W p l e R s m args below meth c H locs cells slots (z_MQ below G z_PL A T0 I0 Q0 (z_qi Qk) z_no args s mc ms) (F0 m 0 ls []) := by
  obtain ⟨hx, hb, -⟩ := id X
  unfold wb_X0_wouldBe_0 at h
  refine z_aload_n (x := x2) hx hb dX0_wouldBe_0 rfl (lv_at hl 2 rfl) ?_
  refine lv_iconst (v := 0) hx hb dX0_wouldBe_1 (by decide) ?_
  refine z_aload_n (x := x0) hx hb dX0_wouldBe_2 rfl (lv_at hl 0 rfl) ?_
  refine lv_iload_n hx hb dX0_wouldBe_3 rfl (lv_at hl 1 rfl) ?_
  obtain ⟨a1, rfl, h⟩ := h
  obtain ⟨hk_a1, h⟩ := h
  obtain ⟨kc3, ks4, g1, g2, h⟩ := h
  refine z_callXi (z_runV (rest := [.int 0, va_rf x2]) [.int x1] pk_X1_wouldBe (met_X1_wouldBe a1 x1 kc3 ks4 _ _ h) X hB z_R0 q2915 kc_X1 (by decide) hk_a1 rfl hl.1 (by simp [z_cat, z_cati, z_catl, z_catf, z_catd, z_catq]) dX0_wouldBe_4 (z_k1 hK1 g1) (z_k1 hK2 g2) (by decide) (by decide)) hB (fun _ h => z_RL h) (hw_X0_wouldBe X hT (z_k1 hK1 g1) (z_k1 hK2 g2) (lv_sub hl [] rfl)) (fun r2 T5 I6 Q7 H locs h9 hF hB => ?_)
  replace h := h9
  clear h9
  replace h := h hF
  have hk_a1 := z_tk hF hk_a1 (by decide)
  replace hK1 := z_k2 hK1 g1
  replace hK2 := z_k2 hK2 g2
  refine lv_i2l hx hb dX0_wouldBe_7 rfl ?_
  obtain ⟨a9, rfl, h⟩ := h
  obtain ⟨hk_a9, h⟩ := h
  obtain ⟨hc_a9, h⟩ := h
  obtain ⟨h1, h⟩ := h
  obtain ⟨I10, eI10⟩ : ∃ z, z = z_up I6 a9 (0 : Int32).toNatClampNeg r2 := ⟨_, rfl⟩
  replace h := h I10 eI10
  refine z_last (x := r2) X hB hk_a9 hc_a9 h1 dX0_wouldBe_8 (fun H locs hB => ?_)
  rw [← eI10] at hB
  refine lv_goto (tgt := 18) hx hb dX0_wouldBe_9 (by decide) ?_
  refine lv_iconst (v := 0) hx hb dX0_wouldBe_18 (by decide) ?_
  exact z_iret X hB ⟨_, rfl, h⟩ (z_k3 hK1) (z_k3 hK2) dX0_wouldBe_19
theorem pk_X0_wouldBe : z_PSW yX0_wouldBe cX0_wouldBe 4 (some .int) hh_X0_wouldBe 3 := ⟨q2913, q93, q2914, by decide +kernel⟩
theorem met_X0_wouldBe {l : Launch} {G : z_E} {T : z_T} {I : z_I} {Q : z_Q} (x0 : Option Nat) (x1 : Int32) (x2 : Option Nat) (kc : Nat) (ks : Nat) (Qk : Int32 → z_T → z_I → z_Q → Prop) (h : wp_X0_wouldBe G.2.2 T I Q x0 x1 x2 kc ks Qk) : z_GM l G yX0_wouldBe (wsW_ yX0_wouldBe cX0_wouldBe 4 (some .int) hh_X0_wouldBe) 22 429 kc ks [va_rf x0, .int x1, va_rf x2] z_PL T I Q (z_qi Qk) z_no := by
  refine z_bodyW (own := RX0) (nm := "wouldBe") (by decide +kernel) rfl rfl (by decide +kernel) (by cases x0 <;> cases x2 <;> exact Nat.le_of_ble_eq_true rfl) (fun p e R s m below meth c A ls X hT hB hl => ?_)
  replace hl : lv_has ls 4 [(0, va_rf x0), (1, .int x1), (2, va_rf x2)] := by cases x0 <;> cases x2 <;> exact hl
  exact ww_X0_wouldBe_0 X hT hB z_k0 z_k0 hl h
/-! X0_zone -/
abbrev hh_X0_zone : List (Nat × Nat × Nat × Nat) := [(0, 10, 13, 13), (0, 10, 17, 15)]
theorem hw_X0_zone {Qk : Int32 → z_T → z_I → z_Q → Prop} {cells slots mc' ms' : Nat} (X : z_X l G A p R s m args meth c cX0_zone 5 RX0 "zone" (some .int) mc ms 16 297) (hT : c.exceptionTable.toList = tableOf hh_X0_zone) (h1 : cells + mc' ≤ mc) (h2 : slots + ms' ≤ ms) {ls : Array Slot} (hl : lv_has ls 5 []) {rest : List Value} {P' : Nat → Prop} : z_kx p l e R s m args below meth c cells slots mc' ms' 5 ls rest G z_PL A P' T0 I0 Q0 T I Q (fun E q T1 I1 Q1 => z_Fr P' T I Q T1 I1 Q1 → hx_X0_zone Qk E q T1 I1 Q1) (z_MQ below G z_PL A T0 I0 Q0 (z_qi Qk) z_no args s mc ms) := by
  obtain ⟨hx, hb, -⟩ := id X
  intro q E ce T1 I1 Q1 H1 locs1 hq hF hB h3 h4 h5
  replace hq := hq hF
  obtain ⟨hE, hq⟩ := hq
  rcases hE with rfl | rfl
  · refine z_catch [] ⟨0, 10, 13, 13⟩ [⟨0, 10, 17, 15⟩] X hT rfl (by simp) (by decide) (by decide) q2359 q2395 h3 h4 h5 ?_
    refine lv_astore hx hb dX0_zone_13 hl (by decide) rfl (fun ls hl9 => ?_)
    replace hl := hl9
    clear hl9
    refine lv_iconst (v := 1) hx hb dX0_zone_15 (by decide) ?_
    exact z_iret X hB ⟨_, rfl, hq.1 rfl⟩ h1 h2 dX0_zone_16
  · refine z_catch [⟨0, 10, 13, 13⟩] ⟨0, 10, 17, 15⟩ [] X hT rfl (by
      intro z hz
      simp only [List.mem_cons, List.not_mem_nil, or_false] at hz
      rcases hz with rfl
      · exact Or.inr ⟨by decide, _, q2359, by simp [z_nc]⟩) (by decide) (by decide) q2378 q208 h3 h4 h5 ?_
    refine lv_astore hx hb dX0_zone_17 hl (by decide) rfl (fun ls hl9 => ?_)
    replace hl := hl9
    clear hl9
    refine lv_iconst (v := 2) hx hb dX0_zone_19 (by decide) ?_
    exact z_iret X hB ⟨_, rfl, hq.2 rfl⟩ h1 h2 dX0_zone_20
theorem ww_X0_zone_0 {Qk : Int32 → z_T → z_I → z_Q → Prop} (X : z_X l G A p R s m args meth c cX0_zone 5 RX0 "zone" (some .int) mc ms 16 297) (hT : c.exceptionTable.toList = tableOf hh_X0_zone) {cells slots : Nat} {T : z_T} {I : z_I} {Q : z_Q} {kc : Nat} {ks : Nat} {x0 : Option Nat} {x1 : Int32} {x2 : Int32} {x3 : Option Nat} {H : Heap} {locs : List Loc} {ls : Array Slot} (hB : z_HB G z_PL A s.heap T0 I0 Q0 T I Q H locs) (hK1 : cells + kc ≤ mc) (hK2 : slots + ks ≤ ms) (hl : lv_has ls 5 [(0, va_rf x0), (1, .int x1), (2, .int x2), (3, va_rf x3)]) (h : wb_X0_zone_0 Qk T I Q kc ks x0 x1 x2 x3) : W p l e R s m args below meth c H locs cells slots (z_MQ below G z_PL A T0 I0 Q0 (z_qi Qk) z_no args s mc ms) (F0 m 0 ls []) := by
  obtain ⟨hx, hb, -⟩ := id X
  unfold wb_X0_zone_0 at h
  refine z_aload_n (x := x3) hx hb dX0_zone_0 rfl (lv_at hl 3 rfl) ?_
  refine lv_iconst (v := 0) hx hb dX0_zone_1 (by decide) ?_
  refine z_aload_n (x := x0) hx hb dX0_zone_2 rfl (lv_at hl 0 rfl) ?_
  refine lv_iload_n hx hb dX0_zone_3 rfl (lv_at hl 1 rfl) ?_
  refine lv_iload_n hx hb dX0_zone_4 rfl (lv_at hl 2 rfl) ?_
  obtain ⟨a1, rfl, h⟩ := h
  obtain ⟨hk_a1, h⟩ := h
  obtain ⟨kc3, ks4, g1, g2, h⟩ := h
  refine z_callXi (z_runV (rest := [.int 0, va_rf x3]) [.int x1, .int x2] pk_X1_zone (met_X1_zone a1 x1 x2 kc3 ks4 _ _ h) X hB z_R0 q2570 kc_X1 (by decide) hk_a1 rfl hl.1 (by simp [z_cat, z_cati, z_catl, z_catf, z_catd, z_catq]) dX0_zone_5 (z_k1 hK1 g1) (z_k1 hK2 g2) (by decide) (by decide)) hB (fun _ h => z_RL h) (hw_X0_zone X hT (z_k1 hK1 g1) (z_k1 hK2 g2) (lv_sub hl [] rfl)) (fun r2 T5 I6 Q7 H locs h9 hF hB => ?_)
  replace h := h9
  clear h9
  replace h := h hF
  have hk_a1 := z_tk hF hk_a1 (by decide)
  replace hK1 := z_k2 hK1 g1
  replace hK2 := z_k2 hK2 g2
  refine lv_i2l hx hb dX0_zone_8 rfl ?_
  obtain ⟨a9, rfl, h⟩ := h
  obtain ⟨hk_a9, h⟩ := h
  obtain ⟨hc_a9, h⟩ := h
  obtain ⟨h1, h⟩ := h
  obtain ⟨I10, eI10⟩ : ∃ z, z = z_up I6 a9 (0 : Int32).toNatClampNeg r2 := ⟨_, rfl⟩
  replace h := h I10 eI10
  refine z_last (x := r2) X hB hk_a9 hc_a9 h1 dX0_zone_9 (fun H locs hB => ?_)
  rw [← eI10] at hB
  refine lv_goto (tgt := 21) hx hb dX0_zone_10 (by decide) ?_
  refine lv_iconst (v := 0) hx hb dX0_zone_21 (by decide) ?_
  exact z_iret X hB ⟨_, rfl, h⟩ (z_k3 hK1) (z_k3 hK2) dX0_zone_22
theorem pk_X0_zone : z_PSW yX0_zone cX0_zone 5 (some .int) hh_X0_zone 4 := ⟨q2568, q93, q2569, by decide +kernel⟩
theorem met_X0_zone {l : Launch} {G : z_E} {T : z_T} {I : z_I} {Q : z_Q} (x0 : Option Nat) (x1 : Int32) (x2 : Int32) (x3 : Option Nat) (kc : Nat) (ks : Nat) (Qk : Int32 → z_T → z_I → z_Q → Prop) (h : wp_X0_zone T I Q x0 x1 x2 x3 kc ks Qk) : z_GM l G yX0_zone (wsW_ yX0_zone cX0_zone 5 (some .int) hh_X0_zone) 16 297 kc ks [va_rf x0, .int x1, .int x2, va_rf x3] z_PL T I Q (z_qi Qk) z_no := by
  refine z_bodyW (own := RX0) (nm := "zone") (by decide +kernel) rfl rfl (by decide +kernel) (by cases x0 <;> cases x3 <;> exact Nat.le_of_ble_eq_true rfl) (fun p e R s m below meth c A ls X hT hB hl => ?_)
  replace hl : lv_has ls 5 [(0, va_rf x0), (1, .int x1), (2, .int x2), (3, va_rf x3)] := by cases x0 <;> cases x3 <;> exact hl
  exact ww_X0_zone_0 X hT hB z_k0 z_k0 hl h
end
