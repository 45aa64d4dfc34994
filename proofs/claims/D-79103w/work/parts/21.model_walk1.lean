/-! THE REFERENCE: walks 1 -/
set_option maxRecDepth 100000
section
variable {p : Program} {l : Launch} {e : Env} {R : Room} {s : State} {m : MethodId} {args : Array Value} {below : List Frame} {meth : Method} {c : Code}
variable {G : z_E} {A : Nat → Prop} {T T0 : z_T} {I I0 : z_I} {Q Q0 : z_Q} {o : Nat} {b : Nat → Nat} {M : z_M}
/-! X5_thrown -/
theorem ww_X5_thrown_0 {M : z_M} {Qk : Int32 → Prop} (X : z_XM l G A p R s m args meth c cX5_thrown 1 "thrown" (some .int) 8 120) {H : Heap} {locs : List Loc} {ls : Array Slot} (hB : z_MB G z_P1c A s.heap T I0 Q o b M H locs) (hl : lv_has ls 1 [(0, .ref o)]) (h : wb_X5_thrown_0 M Qk) : W p l e R s m args below meth c H locs 0 0 (z_MQ below G z_P1c A T I0 Q (z_mi (fun r M1 => Qk r ∧ M1 = M) T Q o b) z_no args s 0 0) (F0 m 0 ls []) := by
  obtain ⟨hx, hb, -⟩ := id X
  unfold wb_X5_thrown_0 at h
  refine lv_aload_n hx hb dX5_thrown_0 rfl (lv_at hl 0 rfl) ?_
  refine z_mgets (j := 0) X hB q3210 rfl (Nat.le_of_ble_eq_true rfl) rfl rfl dX5_thrown_1 ?_
  obtain ⟨hL, I, hB, hM⟩ := hB
  exact z_iret X hB ⟨_, rfl, ⟨h, hM⟩, rfl, rfl⟩ (Nat.le_refl 0) (Nat.le_refl 0) dX5_thrown_4
theorem pk_X5_thrown : z_PV RX5 yX5_thrown cX5_thrown 1 (some .int) 0 := ⟨q3401, q3402, q131, q3403, by decide +kernel⟩
theorem met_X5_thrown {l : Launch} {G : z_E} {T : z_T} {I : z_I} {Q : z_Q} {o : Nat} {b : Nat → Nat} {M : z_M} (hL : z_lie T Q o b) (hM : z_of I o b = M) (Qk : Int32 → Prop) (h : wp_X5_thrown M Qk) : z_GM l G yX5_thrown (ws_ yX5_thrown cX5_thrown 1 (some .int)) 8 120 0 0 [.ref o] z_P1c T I Q (z_mi (fun r M1 => Qk r ∧ M1 = M) T Q o b) z_no := by
  refine z_body (own := RX5) (nm := "thrown") (by decide +kernel) rfl rfl (Nat.le_of_ble_eq_true rfl) (fun p e R s m below meth c A ls X hB hl => ?_)
  exact ww_X5_thrown_0 X ⟨hL, I, hB, hM⟩ hl h
/-! X5_has -/
theorem ww_X5_has_14 {Qk : Int32 → Prop} (X : z_X l G A p R s m args meth c cX5_has 2 RX5 "has" (some .boolean) 0 0 8 120) {s0 : Int32} {H : Heap} {locs : List Loc} {ls : Array Slot} (hB : z_HB G z_none A s.heap T I Q T I Q H locs) (hl : lv_has ls 2 []) (h : wb_X5_has_14 Qk s0) : W p l e R s m args below meth c H locs 0 0 (z_MQ below G z_none A T I Q (z_pz Qk T I Q) z_no args s 0 0) (F0 m 14 ls [.int s0]) := by
  obtain ⟨hx, hb, -⟩ := id X
  unfold wb_X5_has_14 at h
  obtain ⟨hz, h⟩ := h
  exact z_zret X hB hz ⟨_, rfl, hz, h, rfl, rfl, rfl⟩ (Nat.le_refl 0) (Nat.le_refl 0) dX5_has_14
theorem ww_X5_has_0 {Qk : Int32 → Prop} (X : z_X l G A p R s m args meth c cX5_has 2 RX5 "has" (some .boolean) 0 0 8 120) {x0 : Int32} {x1 : Int32} {H : Heap} {locs : List Loc} {ls : Array Slot} (hB : z_HB G z_none A s.heap T I Q T I Q H locs) (hl : lv_has ls 2 [(0, .int x0), (1, .int x1)]) (h : wb_X5_has_0 Qk x0 x1) : W p l e R s m args below meth c H locs 0 0 (z_MQ below G z_none A T I Q (z_pz Qk T I Q) z_no args s 0 0) (F0 m 0 ls []) := by
  obtain ⟨hx, hb, -⟩ := id X
  unfold wb_X5_has_0 at h
  refine lv_iload_n hx hb dX5_has_0 rfl (lv_at hl 0 rfl) ?_
  refine lv_iload_n hx hb dX5_has_1 rfl (lv_at hl 1 rfl) ?_
  refine lv_ishr hx hb dX5_has_2 ?_
  refine lv_iconst (v := 1) hx hb dX5_has_3 (by decide) ?_
  refine lv_iand hx hb dX5_has_4 ?_
  refine lv_iconst (v := 1) hx hb dX5_has_5 (by decide) ?_
  refine lv_icmp_ne (tgt := 13) hx hb dX5_has_6 (by decide) (fun c1 => ?_) (fun c1 => ?_)
  · have h := h.1 c1
    refine lv_iconst (v := 0) hx hb dX5_has_13 (by decide) ?_
    exact ww_X5_has_14 X  hB (lv_sub hl [] rfl) h
  · have h := h.2 c1
    refine lv_iconst (v := 1) hx hb dX5_has_9 (by decide) ?_
    refine lv_goto (tgt := 14) hx hb dX5_has_10 (by decide) ?_
    exact ww_X5_has_14 X  hB (lv_sub hl [] rfl) h
theorem pk_X5_has : z_PS yX5_has cX5_has 2 (some .boolean) 2 := ⟨q3435, q131, q3436, by decide +kernel⟩
theorem met_X5_has {l : Launch} {G : z_E} {T : z_T} {I : z_I} {Q : z_Q} (x0 : Int32) (x1 : Int32) (Qk : Int32 → Prop) (h : wp_X5_has x0 x1 Qk) : z_GM l G yX5_has (ws_ yX5_has cX5_has 2 (some .boolean)) 8 120 0 0 [.int x0, .int x1] z_none T I Q (z_pz Qk T I Q) z_no := by
  refine z_body (own := RX5) (nm := "has") (by decide +kernel) rfl rfl (Nat.le_of_ble_eq_true rfl) (fun p e R s m below meth c A ls X hB hl => ?_)
  exact ww_X5_has_0 X hB hl h
/-! X5_locks -/
theorem ww_X5_locks_69 {Qk : z_M → Prop} (X : z_XM l G A p R s m args meth c cX5_locks 4 "locks" none 8 120) {M : z_M} {s0 : Nat} {s1 : Int32} {s2 : Int32} {H : Heap} {locs : List Loc} {ls : Array Slot} (hf_s0 : z_ln s0 ≠ 0) (hB : z_MB G z_P1c A s.heap T I0 Q o b M H locs) (hl : lv_has ls 4 []) (h : wb_X5_locks_69 Qk M s0 s1 s2) : W p l e R s m args below meth c H locs 0 0 (z_MQ below G z_P1c A T I0 Q (z_mv_ Qk T Q o b) z_no args s 0 0) (F0 m 69 ls [.int s2, .int s1, .ref (b s0)]) := by
  obtain ⟨hx, hb, -⟩ := id X
  unfold wb_X5_locks_69 at h
  obtain ⟨h1, h⟩ := h
  obtain ⟨M4, eM4⟩ : ∃ z, z = z_up M s0 s1.toNatClampNeg s2 := ⟨_, rfl⟩
  have h := h M4 eM4
  refine z_mast (P := z_P1c) (f := s0) rfl X hB hf_s0 h1 dX5_locks_69 (fun H locs hB => ?_)
  rw [← eM4] at hB
  obtain ⟨hL, I, hB, hM⟩ := hB
  exact z_vret X hB ⟨rfl, (by rw [hM]; exact h), rfl, rfl⟩ (Nat.le_refl 0) (Nat.le_refl 0) dX5_locks_70
theorem ww_X5_locks_34 {Qk : z_M → Prop} (X : z_XM l G A p R s m args meth c cX5_locks 4 "locks" none 8 120) {M : z_M} {x1 : Int32} {x2 : Int32} {x3 : Int32} {s0 : Nat} {s1 : Int32} {s2 : Int32} {H : Heap} {locs : List Loc} {ls : Array Slot} (hf_s0 : z_ln s0 ≠ 0) (hB : z_MB G z_P1c A s.heap T I0 Q o b M H locs) (hl : lv_has ls 4 [(0, .ref o), (1, .int x1), (2, .int x2), (3, .int x3)]) (h : wb_X5_locks_34 Qk M x1 x2 x3 s0 s1 s2) : W p l e R s m args below meth c H locs 0 0 (z_MQ below G z_P1c A T I0 Q (z_mv_ Qk T Q o b) z_no args s 0 0) (F0 m 34 ls [.int s2, .int s1, .ref (b s0)]) := by
  obtain ⟨hx, hb, -⟩ := id X
  unfold wb_X5_locks_34 at h
  obtain ⟨h1, h⟩ := h
  obtain ⟨M2, eM2⟩ : ∃ z, z = z_up M s0 s1.toNatClampNeg s2 := ⟨_, rfl⟩
  have h := h M2 eM2
  refine z_mast (P := z_P1c) (f := s0) rfl X hB hf_s0 h1 dX5_locks_34 (fun H locs hB => ?_)
  rw [← eM2] at hB
  refine lv_aload_n hx hb dX5_locks_35 rfl (lv_at hl 0 rfl) ?_
  refine z_mgeta (j := 1) X hB q3211 rfl (Nat.le_of_ble_eq_true rfl) rfl (by decide) dX5_locks_36 ?_
  refine lv_iload_n hx hb dX5_locks_39 rfl (lv_at hl 2 rfl) ?_
  refine lv_iload_n hx hb dX5_locks_40 rfl (lv_at hl 3 rfl) ?_
  refine lv_if_eq (tgt := 57) hx hb dX5_locks_41 (by decide) (fun c3 => ?_) (fun c3 => ?_)
  · have h := h.1 c3
    refine lv_aload_n hx hb dX5_locks_57 rfl (lv_at hl 0 rfl) ?_
    refine z_mgeta (j := 1) X hB q3211 rfl (Nat.le_of_ble_eq_true rfl) rfl (by decide) dX5_locks_58 ?_
    refine lv_iload_n hx hb dX5_locks_61 rfl (lv_at hl 2 rfl) ?_
    obtain ⟨h1, h⟩ := h
    refine z_mald (f := 1) X hB (by decide) h1 dX5_locks_62 ?_
    refine lv_iconst (v := 1) hx hb dX5_locks_63 (by decide) ?_
    refine lv_iload_n hx hb dX5_locks_64 rfl (lv_at hl 1 rfl) ?_
    refine lv_ishl hx hb dX5_locks_65 ?_
    refine lv_iconst (v := (-1)) hx hb dX5_locks_66 (by decide) ?_
    refine lv_ixor hx hb dX5_locks_67 ?_
    refine lv_iand hx hb dX5_locks_68 ?_
    exact ww_X5_locks_69 X  (by decide) hB (lv_sub hl [] rfl) h
  · have h := h.2 c3
    refine lv_aload_n hx hb dX5_locks_44 rfl (lv_at hl 0 rfl) ?_
    refine z_mgeta (j := 1) X hB q3211 rfl (Nat.le_of_ble_eq_true rfl) rfl (by decide) dX5_locks_45 ?_
    refine lv_iload_n hx hb dX5_locks_48 rfl (lv_at hl 2 rfl) ?_
    obtain ⟨h1, h⟩ := h
    refine z_mald (f := 1) X hB (by decide) h1 dX5_locks_49 ?_
    refine lv_iconst (v := 1) hx hb dX5_locks_50 (by decide) ?_
    refine lv_iload_n hx hb dX5_locks_51 rfl (lv_at hl 1 rfl) ?_
    refine lv_ishl hx hb dX5_locks_52 ?_
    refine lv_ior hx hb dX5_locks_53 ?_
    refine lv_goto (tgt := 69) hx hb dX5_locks_54 (by decide) ?_
    exact ww_X5_locks_69 X  (by decide) hB (lv_sub hl [] rfl) h
theorem ww_X5_locks_0 {Qk : z_M → Prop} (X : z_XM l G A p R s m args meth c cX5_locks 4 "locks" none 8 120) {M : z_M} {x1 : Int32} {x2 : Int32} {x3 : Int32} {H : Heap} {locs : List Loc} {ls : Array Slot} (hB : z_MB G z_P1c A s.heap T I0 Q o b M H locs) (hl : lv_has ls 4 [(0, .ref o), (1, .int x1), (2, .int x2), (3, .int x3)]) (h : wb_X5_locks_0 Qk M x1 x2 x3) : W p l e R s m args below meth c H locs 0 0 (z_MQ below G z_P1c A T I0 Q (z_mv_ Qk T Q o b) z_no args s 0 0) (F0 m 0 ls []) := by
  obtain ⟨hx, hb, -⟩ := id X
  unfold wb_X5_locks_0 at h
  refine lv_aload_n hx hb dX5_locks_0 rfl (lv_at hl 0 rfl) ?_
  refine z_mgeta (j := 1) X hB q3211 rfl (Nat.le_of_ble_eq_true rfl) rfl (by decide) dX5_locks_1 ?_
  refine lv_iload_n hx hb dX5_locks_4 rfl (lv_at hl 1 rfl) ?_
  refine lv_iload_n hx hb dX5_locks_5 rfl (lv_at hl 3 rfl) ?_
  refine lv_if_eq (tgt := 22) hx hb dX5_locks_6 (by decide) (fun c1 => ?_) (fun c1 => ?_)
  · have h := h.1 c1
    refine lv_aload_n hx hb dX5_locks_22 rfl (lv_at hl 0 rfl) ?_
    refine z_mgeta (j := 1) X hB q3211 rfl (Nat.le_of_ble_eq_true rfl) rfl (by decide) dX5_locks_23 ?_
    refine lv_iload_n hx hb dX5_locks_26 rfl (lv_at hl 1 rfl) ?_
    obtain ⟨h1, h⟩ := h
    refine z_mald (f := 1) X hB (by decide) h1 dX5_locks_27 ?_
    refine lv_iconst (v := 1) hx hb dX5_locks_28 (by decide) ?_
    refine lv_iload_n hx hb dX5_locks_29 rfl (lv_at hl 2 rfl) ?_
    refine lv_ishl hx hb dX5_locks_30 ?_
    refine lv_iconst (v := (-1)) hx hb dX5_locks_31 (by decide) ?_
    refine lv_ixor hx hb dX5_locks_32 ?_
    refine lv_iand hx hb dX5_locks_33 ?_
    exact ww_X5_locks_34 X  (by decide) hB (lv_sub hl [0, 1, 2, 3] rfl) h
  · have h := h.2 c1
    refine lv_aload_n hx hb dX5_locks_9 rfl (lv_at hl 0 rfl) ?_
    refine z_mgeta (j := 1) X hB q3211 rfl (Nat.le_of_ble_eq_true rfl) rfl (by decide) dX5_locks_10 ?_
    refine lv_iload_n hx hb dX5_locks_13 rfl (lv_at hl 1 rfl) ?_
    obtain ⟨h1, h⟩ := h
    refine z_mald (f := 1) X hB (by decide) h1 dX5_locks_14 ?_
    refine lv_iconst (v := 1) hx hb dX5_locks_15 (by decide) ?_
    refine lv_iload_n hx hb dX5_locks_16 rfl (lv_at hl 2 rfl) ?_
    refine lv_ishl hx hb dX5_locks_17 ?_
    refine lv_ior hx hb dX5_locks_18 ?_
    refine lv_goto (tgt := 34) hx hb dX5_locks_19 (by decide) ?_
    exact ww_X5_locks_34 X  (by decide) hB (lv_sub hl [0, 1, 2, 3] rfl) h
theorem pk_X5_locks : z_PV RX5 yX5_locks cX5_locks 4 none 3 := ⟨q3463, qs58, q131, q3464, by decide +kernel⟩
theorem met_X5_locks {l : Launch} {G : z_E} {T : z_T} {I : z_I} {Q : z_Q} {o : Nat} {b : Nat → Nat} {M : z_M} (hL : z_lie T Q o b) (hM : z_of I o b = M) (x1 : Int32) (x2 : Int32) (x3 : Int32) (Qk : z_M → Prop) (h : wp_X5_locks M x1 x2 x3 Qk) : z_GM l G yX5_locks (ws_ yX5_locks cX5_locks 4 none) 8 120 0 0 [.ref o, .int x1, .int x2, .int x3] z_P1c T I Q (z_mv_ Qk T Q o b) z_no := by
  refine z_body (own := RX5) (nm := "locks") (by decide +kernel) rfl rfl (Nat.le_of_ble_eq_true rfl) (fun p e R s m below meth c A ls X hB hl => ?_)
  exact ww_X5_locks_0 X ⟨hL, I, hB, hM⟩ hl h
/-! X5_zoneAt -/
theorem wv_X5_zoneAt_17 {M : z_M} {Qk : Int32 → Prop} (X : z_XM l G A p R s m args meth c cX5_zoneAt 5 "zoneAt" (some .int) 8 120) : ∀ (n : Nat) {x2 : Int32} {x3 : Int32} {x4 : Int32} {H : Heap} {locs : List Loc} {ls : Array Slot}, z_MB G z_P1c A s.heap T I0 Q o b M H locs → lv_has ls 5 [(2, .int x2), (3, .int x3), (4, .int x4)] → wl_X5_zoneAt_17 M Qk n x2 x3 x4 → W p l e R s m args below meth c H locs 0 0 (z_MQ below G z_P1c A T I0 Q (z_mi (fun r M1 => Qk r ∧ M1 = M) T Q o b) z_no args s 0 0) (F0 m 17 ls []) := by
  intro n
  induction n with
  | zero =>
    intro x2 x3 x4 H locs ls hB hl h
    exact h.elim
  | succ n ih =>
    intro x2 x3 x4 H locs ls hB hl h
    obtain ⟨hx, hb, -⟩ := id X
    unfold wl_X5_zoneAt_17 at h
    refine lv_iload hx hb dX5_zoneAt_17 (lv_at hl 2 rfl) ?_
    refine lv_iload_n hx hb dX5_zoneAt_19 rfl (lv_at hl 0 rfl) ?_
    refine lv_icmp_le (tgt := 34) hx hb dX5_zoneAt_20 (by decide) (fun c3 => ?_) (fun c3 => ?_)
    · have h := h.1 c3
      refine lv_iload_n hx hb dX5_zoneAt_34 rfl (lv_at hl 1 rfl) ?_
      refine lv_bipush (v := 10) hx hb dX5_zoneAt_35 (by decide) ?_
      refine lv_irem hx hb dX5_zoneAt_37 (by decide) ?_
      refine lv_iconst (v := 1) hx hb dX5_zoneAt_38 (by decide) ?_
      refine lv_isub hx hb dX5_zoneAt_39 ?_
      obtain ⟨hL, I, hB, hM⟩ := hB
      exact z_iret X hB ⟨_, rfl, ⟨h, hM⟩, rfl, rfl⟩ (Nat.le_refl 0) (Nat.le_refl 0) dX5_zoneAt_40
    · have h := h.2 c3
      refine lv_iload_n hx hb dX5_zoneAt_23 rfl (lv_at hl 1 rfl) ?_
      refine lv_bipush (v := 10) hx hb dX5_zoneAt_24 (by decide) ?_
      refine lv_idiv hx hb dX5_zoneAt_26 (by decide) ?_
      refine lv_topi (fun y4 ey4 => ?_)
      have h := h y4 ey4
      refine lv_istore_n (lv' := [(3, .int y4), (2, .int x2), (4, .int x4)]) hx hb dX5_zoneAt_27 rfl hl (by decide) rfl (fun ls hl => ?_)
      obtain ⟨y5, ey5⟩ : ∃ z : Int32, z = x4 + (-1) := ⟨_, rfl⟩
      have h := h y5 ey5
      refine lv_iinc (v := y5) (lv' := [(4, .int y5), (3, .int y4), (2, .int x2)]) hx hb dX5_zoneAt_28 hl (k := 2) rfl (by rw [ey5]; rfl) (by decide) rfl (fun ls hl => ?_)
      refine lv_goto (tgt := 17) hx hb dX5_zoneAt_31 (by decide) ?_
      exact ih hB (lv_sub hl [2, 1, 0] rfl) h
theorem ww_X5_zoneAt_0 {M : z_M} {Qk : Int32 → Prop} (X : z_XM l G A p R s m args meth c cX5_zoneAt 5 "zoneAt" (some .int) 8 120) {x1 : Int32} {x2 : Int32} {H : Heap} {locs : List Loc} {ls : Array Slot} (hB : z_MB G z_P1c A s.heap T I0 Q o b M H locs) (hl : lv_has ls 5 [(0, .ref o), (1, .int x1), (2, .int x2)]) (h : wb_X5_zoneAt_0 M Qk x1 x2) : W p l e R s m args below meth c H locs 0 0 (z_MQ below G z_P1c A T I0 Q (z_mi (fun r M1 => Qk r ∧ M1 = M) T Q o b) z_no args s 0 0) (F0 m 0 ls []) := by
  obtain ⟨hx, hb, -⟩ := id X
  unfold wb_X5_zoneAt_0 at h
  refine lv_aload_n hx hb dX5_zoneAt_0 rfl (lv_at hl 0 rfl) ?_
  refine z_mgeta (j := 23) X hB q3233 rfl (Nat.le_of_ble_eq_true rfl) rfl (by decide) dX5_zoneAt_1 ?_
  refine lv_iload_n hx hb dX5_zoneAt_4 rfl (lv_at hl 1 rfl) ?_
  obtain ⟨h1, h⟩ := h
  refine z_mald (f := 23) X hB (by decide) h1 dX5_zoneAt_5 ?_
  refine lv_topi (fun y1 ey1 => ?_)
  have h := h y1 ey1
  refine lv_istore_n (lv' := [(3, .int y1), (0, .ref o), (1, .int x1), (2, .int x2)]) hx hb dX5_zoneAt_6 rfl hl (by decide) rfl (fun ls hl => ?_)
  refine lv_aload_n hx hb dX5_zoneAt_7 rfl (lv_at hl 1 rfl) ?_
  refine z_mgeta (j := 24) X hB q3234 rfl (Nat.le_of_ble_eq_true rfl) rfl (by decide) dX5_zoneAt_8 ?_
  refine lv_iload_n hx hb dX5_zoneAt_11 rfl (lv_at hl 2 rfl) ?_
  obtain ⟨h1, h⟩ := h
  refine z_mald (f := 24) X hB (by decide) h1 dX5_zoneAt_12 ?_
  refine lv_iconst (v := 1) hx hb dX5_zoneAt_13 (by decide) ?_
  refine lv_isub hx hb dX5_zoneAt_14 ?_
  refine lv_topi (fun y2 ey2 => ?_)
  have h := h y2 ey2
  refine lv_istore (lv' := [(4, .int y2), (3, .int y1), (0, .ref o), (1, .int x1), (2, .int x2)]) hx hb dX5_zoneAt_15 hl (by decide) rfl (fun ls hl => ?_)
  obtain ⟨w, h⟩ := h
  exact wv_X5_zoneAt_17 X  w hB (lv_sub hl [4, 1, 0] rfl) h
theorem pk_X5_zoneAt : z_PV RX5 yX5_zoneAt cX5_zoneAt 5 (some .int) 2 := ⟨q3432, qs51, q131, q3433, by decide +kernel⟩
theorem met_X5_zoneAt {l : Launch} {G : z_E} {T : z_T} {I : z_I} {Q : z_Q} {o : Nat} {b : Nat → Nat} {M : z_M} (hL : z_lie T Q o b) (hM : z_of I o b = M) (x1 : Int32) (x2 : Int32) (Qk : Int32 → Prop) (h : wp_X5_zoneAt M x1 x2 Qk) : z_GM l G yX5_zoneAt (ws_ yX5_zoneAt cX5_zoneAt 5 (some .int)) 8 120 0 0 [.ref o, .int x1, .int x2] z_P1c T I Q (z_mi (fun r M1 => Qk r ∧ M1 = M) T Q o b) z_no := by
  refine z_body (own := RX5) (nm := "zoneAt") (by decide +kernel) rfl rfl (Nat.le_of_ble_eq_true rfl) (fun p e R s m below meth c A ls X hB hl => ?_)
  exact ww_X5_zoneAt_0 X ⟨hL, I, hB, hM⟩ hl h
/-! X5_zoneOf -/
theorem ww_X5_zoneOf_0 {M : z_M} {Qk : Int32 → Prop} (X : z_XM l G A p R s m args meth c cX5_zoneOf 2 "zoneOf" (some .int) 9 144) {x1 : Int32} {H : Heap} {locs : List Loc} {ls : Array Slot} (hB : z_MB G z_P1c A s.heap T I0 Q o b M H locs) (hl : lv_has ls 2 [(0, .ref o), (1, .int x1)]) (h : wb_X5_zoneOf_0 M Qk x1) : W p l e R s m args below meth c H locs 0 0 (z_MQ below G z_P1c A T I0 Q (z_mi (fun r M1 => Qk r ∧ M1 = M) T Q o b) z_no args s 0 0) (F0 m 0 ls []) := by
  obtain ⟨hx, hb, -⟩ := id X
  unfold wb_X5_zoneOf_0 at h
  refine lv_aload_n hx hb dX5_zoneOf_0 rfl (lv_at hl 0 rfl) ?_
  refine lv_aload_n hx hb dX5_zoneOf_1 rfl (lv_at hl 0 rfl) ?_
  refine z_mgeta (j := 13) X hB q3223 rfl (Nat.le_of_ble_eq_true rfl) rfl (by decide) dX5_zoneOf_2 ?_
  refine lv_iload_n hx hb dX5_zoneOf_5 rfl (lv_at hl 1 rfl) ?_
  obtain ⟨h1, h⟩ := h
  refine z_mald (f := 13) X hB (by decide) h1 dX5_zoneOf_6 ?_
  refine lv_aload_n hx hb dX5_zoneOf_7 rfl (lv_at hl 0 rfl) ?_
  refine z_mgeta (j := 15) X hB q3225 rfl (Nat.le_of_ble_eq_true rfl) rfl (by decide) dX5_zoneOf_8 ?_
  refine lv_iload_n hx hb dX5_zoneOf_11 rfl (lv_at hl 1 rfl) ?_
  obtain ⟨h1, h⟩ := h
  refine z_mald (f := 15) X hB (by decide) h1 dX5_zoneOf_12 ?_
  refine z_mcalli (fun _ h => h) (fun I1 hB1 hM => z_runV (rest := []) [.int (M 13 x1.toNatClampNeg), .int (M 15 x1.toNatClampNeg)] pk_X5_zoneAt (met_X5_zoneAt hB.1 hM (M 13 x1.toNatClampNeg) (M 15 x1.toNatClampNeg) _ h) X hB1 (by decide) q3430 kc_X5 (by decide) (by rw [hB.1.1]) rfl hl.1 (Nat.le_of_ble_eq_true rfl) dX5_zoneOf_13 (Nat.le_refl 0) (Nat.le_refl 0) (by decide) (by decide)) hB (fun r1 M2 H locs h hB => ?_)
  obtain ⟨h, eM2⟩ := h
  rw [eM2] at hB
  obtain ⟨hL, I, hB, hM⟩ := hB
  exact z_iret X hB ⟨_, rfl, ⟨h, hM⟩, rfl, rfl⟩ (Nat.le_refl 0) (Nat.le_refl 0) dX5_zoneOf_16
theorem pk_X5_zoneOf : z_PV RX5 yX5_zoneOf cX5_zoneOf 2 (some .int) 1 := ⟨q3428, qs50, q131, q3429, by decide +kernel⟩
theorem met_X5_zoneOf {l : Launch} {G : z_E} {T : z_T} {I : z_I} {Q : z_Q} {o : Nat} {b : Nat → Nat} {M : z_M} (hL : z_lie T Q o b) (hM : z_of I o b = M) (x1 : Int32) (Qk : Int32 → Prop) (h : wp_X5_zoneOf M x1 Qk) : z_GM l G yX5_zoneOf (ws_ yX5_zoneOf cX5_zoneOf 2 (some .int)) 9 144 0 0 [.ref o, .int x1] z_P1c T I Q (z_mi (fun r M1 => Qk r ∧ M1 = M) T Q o b) z_no := by
  refine z_body (own := RX5) (nm := "zoneOf") (by decide +kernel) rfl rfl (Nat.le_of_ble_eq_true rfl) (fun p e R s m below meth c A ls X hB hl => ?_)
  exact ww_X5_zoneOf_0 X ⟨hL, I, hB, hM⟩ hl h
/-! X5_holds -/
theorem ww_X5_holds_55 {M : z_M} {Qk : Int32 → Prop} (X : z_XM l G A p R s m args meth c cX5_holds 3 "holds" (some .int) 10 165) {s0 : Int32} {H : Heap} {locs : List Loc} {ls : Array Slot} (hB : z_MB G z_P1c A s.heap T I0 Q o b M H locs) (hl : lv_has ls 3 []) (h : wb_X5_holds_55 M Qk s0) : W p l e R s m args below meth c H locs 0 0 (z_MQ below G z_P1c A T I0 Q (z_mi (fun r M1 => Qk r ∧ M1 = M) T Q o b) z_no args s 0 0) (F0 m 55 ls [.int s0]) := by
  obtain ⟨hx, hb, -⟩ := id X
  unfold wb_X5_holds_55 at h
  obtain ⟨hL, I, hB, hM⟩ := hB
  exact z_iret X hB ⟨_, rfl, ⟨h, hM⟩, rfl, rfl⟩ (Nat.le_refl 0) (Nat.le_refl 0) dX5_holds_55
theorem ww_X5_holds_0 {M : z_M} {Qk : Int32 → Prop} (X : z_XM l G A p R s m args meth c cX5_holds 3 "holds" (some .int) 10 165) {x1 : Int32} {H : Heap} {locs : List Loc} {ls : Array Slot} (hB : z_MB G z_P1c A s.heap T I0 Q o b M H locs) (hl : lv_has ls 3 [(0, .ref o), (1, .int x1)]) (h : wb_X5_holds_0 M Qk x1) : W p l e R s m args below meth c H locs 0 0 (z_MQ below G z_P1c A T I0 Q (z_mi (fun r M1 => Qk r ∧ M1 = M) T Q o b) z_no args s 0 0) (F0 m 0 ls []) := by
  obtain ⟨hx, hb, -⟩ := id X
  unfold wb_X5_holds_0 at h
  refine lv_aload_n hx hb dX5_holds_0 rfl (lv_at hl 0 rfl) ?_
  refine z_mgeta (j := 14) X hB q3224 rfl (Nat.le_of_ble_eq_true rfl) rfl (by decide) dX5_holds_1 ?_
  refine lv_iload_n hx hb dX5_holds_4 rfl (lv_at hl 1 rfl) ?_
  obtain ⟨h1, h⟩ := h
  refine z_mald (f := 14) X hB (by decide) h1 dX5_holds_5 ?_
  refine lv_if_ne (tgt := 11) hx hb dX5_holds_6 (by decide) (fun c1 => ?_) (fun c1 => ?_)
  · have h := h.1 c1
    refine lv_iconst (v := 1) hx hb dX5_holds_11 (by decide) ?_
    refine lv_aload_n hx hb dX5_holds_12 rfl (lv_at hl 0 rfl) ?_
    refine lv_iload_n hx hb dX5_holds_13 rfl (lv_at hl 1 rfl) ?_
    refine z_mcalli (fun _ h => h) (fun I1 hB1 hM => z_runV (rest := [.int 1]) [.int x1] pk_X5_zoneOf (met_X5_zoneOf hB.1 hM x1 _ h) X hB1 (by decide) q3426 kc_X5 (by decide) (by rw [hB.1.1]) rfl hl.1 (Nat.le_of_ble_eq_true rfl) dX5_holds_14 (Nat.le_refl 0) (Nat.le_refl 0) (by decide) (by decide)) hB (fun r2 M3 H locs h hB => ?_)
    obtain ⟨h, eM3⟩ := h
    rw [eM3] at hB
    refine lv_ishl hx hb dX5_holds_17 ?_
    refine lv_topi (fun y4 ey4 => ?_)
    have h := h y4 ey4
    refine lv_istore_n (lv' := [(2, .int y4), (0, .ref o), (1, .int x1)]) hx hb dX5_holds_18 rfl hl (by decide) rfl (fun ls hl => ?_)
    refine lv_aload_n hx hb dX5_holds_19 rfl (lv_at hl 1 rfl) ?_
    refine z_mgeta (j := 14) X hB q3224 rfl (Nat.le_of_ble_eq_true rfl) rfl (by decide) dX5_holds_20 ?_
    refine lv_iload_n hx hb dX5_holds_23 rfl (lv_at hl 2 rfl) ?_
    obtain ⟨h1, h⟩ := h
    refine z_mald (f := 14) X hB (by decide) h1 dX5_holds_24 ?_
    refine lv_iconst (v := 2) hx hb dX5_holds_25 (by decide) ?_
    refine lv_icmp_ne (tgt := 54) hx hb dX5_holds_26 (by decide) (fun c5 => ?_) (fun c5 => ?_)
    · have h := h.1 c5
      refine lv_iload_n hx hb dX5_holds_54 rfl (lv_at hl 0 rfl) ?_
      exact ww_X5_holds_55 X  hB (lv_sub hl [] rfl) h
    · have h := h.2 c5
      refine lv_iload_n hx hb dX5_holds_29 rfl (lv_at hl 0 rfl) ?_
      refine lv_iconst (v := 1) hx hb dX5_holds_30 (by decide) ?_
      refine lv_aload_n hx hb dX5_holds_31 rfl (lv_at hl 1 rfl) ?_
      refine lv_aload_n hx hb dX5_holds_32 rfl (lv_at hl 1 rfl) ?_
      refine z_mgeta (j := 13) X hB q3223 rfl (Nat.le_of_ble_eq_true rfl) rfl (by decide) dX5_holds_33 ?_
      refine lv_iload_n hx hb dX5_holds_36 rfl (lv_at hl 2 rfl) ?_
      obtain ⟨h1, h⟩ := h
      refine z_mald (f := 13) X hB (by decide) h1 dX5_holds_37 ?_
      refine lv_aload_n hx hb dX5_holds_38 rfl (lv_at hl 1 rfl) ?_
      refine z_mgeta (j := 15) X hB q3225 rfl (Nat.le_of_ble_eq_true rfl) rfl (by decide) dX5_holds_39 ?_
      refine lv_iload_n hx hb dX5_holds_42 rfl (lv_at hl 2 rfl) ?_
      obtain ⟨h1, h⟩ := h
      refine z_mald (f := 15) X hB (by decide) h1 dX5_holds_43 ?_
      refine lv_iconst (v := 1) hx hb dX5_holds_44 (by decide) ?_
      refine lv_iadd hx hb dX5_holds_45 ?_
      refine z_mcalli (fun _ h => h) (fun I1 hB1 hM => z_runV (rest := [.int 1, .int y4]) [.int (M 13 x1.toNatClampNeg), .int ((M 15 x1.toNatClampNeg) + 1)] pk_X5_zoneAt (met_X5_zoneAt hB.1 hM (M 13 x1.toNatClampNeg) ((M 15 x1.toNatClampNeg) + 1) _ h) X hB1 (by decide) q3430 kc_X5 (by decide) (by rw [hB.1.1]) rfl hl.1 (Nat.le_of_ble_eq_true rfl) dX5_holds_46 (Nat.le_refl 0) (Nat.le_refl 0) (by decide) (by decide)) hB (fun r6 M7 H locs h hB => ?_)
      obtain ⟨h, eM7⟩ := h
      rw [eM7] at hB
      refine lv_ishl hx hb dX5_holds_49 ?_
      refine lv_ior hx hb dX5_holds_50 ?_
      refine lv_goto (tgt := 55) hx hb dX5_holds_51 (by decide) ?_
      exact ww_X5_holds_55 X  hB (lv_sub hl [] rfl) h
  · have h := h.2 c1
    refine lv_iconst (v := 0) hx hb dX5_holds_9 (by decide) ?_
    obtain ⟨hL, I, hB, hM⟩ := hB
    exact z_iret X hB ⟨_, rfl, ⟨h, hM⟩, rfl, rfl⟩ (Nat.le_refl 0) (Nat.le_refl 0) dX5_holds_10
theorem pk_X5_holds : z_PV RX5 yX5_holds cX5_holds 3 (some .int) 1 := ⟨q3424, qs49, q131, q3425, by decide +kernel⟩
theorem met_X5_holds {l : Launch} {G : z_E} {T : z_T} {I : z_I} {Q : z_Q} {o : Nat} {b : Nat → Nat} {M : z_M} (hL : z_lie T Q o b) (hM : z_of I o b = M) (x1 : Int32) (Qk : Int32 → Prop) (h : wp_X5_holds M x1 Qk) : z_GM l G yX5_holds (ws_ yX5_holds cX5_holds 3 (some .int)) 10 165 0 0 [.ref o, .int x1] z_P1c T I Q (z_mi (fun r M1 => Qk r ∧ M1 = M) T Q o b) z_no := by
  refine z_body (own := RX5) (nm := "holds") (by decide +kernel) rfl rfl (Nat.le_of_ble_eq_true rfl) (fun p e R s m below meth c A ls X hB hl => ?_)
  exact ww_X5_holds_0 X ⟨hL, I, hB, hM⟩ hl h
/-! X5_holderOf -/
theorem wv_X5_holderOf_2 {M : z_M} {Qk : Int32 → Prop} (X : z_XM l G A p R s m args meth c cX5_holderOf 3 "holderOf" (some .int) 11 187) : ∀ (n : Nat) {x1 : Int32} {x2 : Int32} {H : Heap} {locs : List Loc} {ls : Array Slot}, z_MB G z_P1c A s.heap T I0 Q o b M H locs → lv_has ls 3 [(0, .ref o), (1, .int x1), (2, .int x2)] → wl_X5_holderOf_2 M Qk n x1 x2 → W p l e R s m args below meth c H locs 0 0 (z_MQ below G z_P1c A T I0 Q (z_mi (fun r M1 => Qk r ∧ M1 = M) T Q o b) z_no args s 0 0) (F0 m 2 ls []) := by
  intro n
  induction n with
  | zero =>
    intro x1 x2 H locs ls hB hl h
    exact h.elim
  | succ n ih =>
    intro x1 x2 H locs ls hB hl h
    obtain ⟨hx, hb, -⟩ := id X
    unfold wl_X5_holderOf_2 at h
    refine lv_iload_n hx hb dX5_holderOf_2 rfl (lv_at hl 2 rfl) ?_
    refine lv_iconst (v := 3) hx hb dX5_holderOf_3 (by decide) ?_
    refine lv_icmp_ge (tgt := 27) hx hb dX5_holderOf_4 (by decide) (fun c1 => ?_) (fun c1 => ?_)
    · have h := h.1 c1
      refine lv_iconst (v := (-1)) hx hb dX5_holderOf_27 (by decide) ?_
      obtain ⟨hL, I, hB, hM⟩ := hB
      exact z_iret X hB ⟨_, rfl, ⟨h, hM⟩, rfl, rfl⟩ (Nat.le_refl 0) (Nat.le_refl 0) dX5_holderOf_28
    · have h := h.2 c1
      refine lv_aload_n hx hb dX5_holderOf_7 rfl (lv_at hl 0 rfl) ?_
      refine lv_iload_n hx hb dX5_holderOf_8 rfl (lv_at hl 2 rfl) ?_
      refine z_mcalli (fun _ h => h) (fun I1 hB1 hM => z_runV (rest := []) [.int x2] pk_X5_holds (met_X5_holds hB.1 hM x2 _ h) X hB1 (by decide) q3422 kc_X5 (by decide) (by rw [hB.1.1]) rfl hl.1 (Nat.le_of_ble_eq_true rfl) dX5_holderOf_9 (Nat.le_refl 0) (Nat.le_refl 0) (by decide) (by decide)) hB (fun r2 M3 H locs h hB => ?_)
      obtain ⟨h, eM3⟩ := h
      rw [eM3] at hB
      refine lv_iload_n hx hb dX5_holderOf_12 rfl (lv_at hl 1 rfl) ?_
      refine z_mcallzp (fun I1 hB1 hM => z_runS (rest := []) [.int r2, .int x1] pk_X5_has (met_X5_has r2 x1 _ h) X hB1 (fun h => h) q3434 rfl hl.1 (Nat.le_of_ble_eq_true rfl) dX5_holderOf_13 (Nat.le_refl 0) (Nat.le_refl 0) (by decide) (by decide)) hB (fun r4 H locs hz h hB => ?_)
      have h := h hz
      refine lv_if_eq (tgt := 21) hx hb dX5_holderOf_16 (by decide) (fun c5 => ?_) (fun c5 => ?_)
      · have h := h.1 c5
        obtain ⟨y6, ey6⟩ : ∃ z : Int32, z = x2 + 1 := ⟨_, rfl⟩
        have h := h y6 ey6
        refine lv_iinc (v := y6) (lv' := [(2, .int y6), (0, .ref o), (1, .int x1)]) hx hb dX5_holderOf_21 hl (k := 2) rfl (by rw [ey6]; rfl) (by decide) rfl (fun ls hl => ?_)
        refine lv_goto (tgt := 2) hx hb dX5_holderOf_24 (by decide) ?_
        exact ih hB (lv_sub hl [1, 2, 0] rfl) h
      · have h := h.2 c5
        refine lv_iload_n hx hb dX5_holderOf_19 rfl (lv_at hl 2 rfl) ?_
        obtain ⟨hL, I, hB, hM⟩ := hB
        exact z_iret X hB ⟨_, rfl, ⟨h, hM⟩, rfl, rfl⟩ (Nat.le_refl 0) (Nat.le_refl 0) dX5_holderOf_20
theorem ww_X5_holderOf_0 {M : z_M} {Qk : Int32 → Prop} (X : z_XM l G A p R s m args meth c cX5_holderOf 3 "holderOf" (some .int) 11 187) {x1 : Int32} {H : Heap} {locs : List Loc} {ls : Array Slot} (hB : z_MB G z_P1c A s.heap T I0 Q o b M H locs) (hl : lv_has ls 3 [(0, .ref o), (1, .int x1)]) (h : wb_X5_holderOf_0 M Qk x1) : W p l e R s m args below meth c H locs 0 0 (z_MQ below G z_P1c A T I0 Q (z_mi (fun r M1 => Qk r ∧ M1 = M) T Q o b) z_no args s 0 0) (F0 m 0 ls []) := by
  obtain ⟨hx, hb, -⟩ := id X
  unfold wb_X5_holderOf_0 at h
  refine lv_iconst (v := 0) hx hb dX5_holderOf_0 (by decide) ?_
  refine lv_istore_n (lv' := [(2, .int 0), (0, .ref o), (1, .int x1)]) hx hb dX5_holderOf_1 rfl hl (by decide) rfl (fun ls hl => ?_)
  obtain ⟨w, h⟩ := h
  exact wv_X5_holderOf_2 X  w hB (lv_sub hl [1, 2, 0] rfl) h
theorem pk_X5_holderOf : z_PV RX5 yX5_holderOf cX5_holderOf 3 (some .int) 1 := ⟨q3420, qs48, q131, q3421, by decide +kernel⟩
theorem met_X5_holderOf {l : Launch} {G : z_E} {T : z_T} {I : z_I} {Q : z_Q} {o : Nat} {b : Nat → Nat} {M : z_M} (hL : z_lie T Q o b) (hM : z_of I o b = M) (x1 : Int32) (Qk : Int32 → Prop) (h : wp_X5_holderOf M x1 Qk) : z_GM l G yX5_holderOf (ws_ yX5_holderOf cX5_holderOf 3 (some .int)) 11 187 0 0 [.ref o, .int x1] z_P1c T I Q (z_mi (fun r M1 => Qk r ∧ M1 = M) T Q o b) z_no := by
  refine z_body (own := RX5) (nm := "holderOf") (by decide +kernel) rfl rfl (Nat.le_of_ble_eq_true rfl) (fun p e R s m below meth c A ls X hB hl => ?_)
  exact ww_X5_holderOf_0 X ⟨hL, I, hB, hM⟩ hl h
/-! X5_isBetween -/
theorem ww_X5_isBetween_15 {Qk : Int32 → Prop} (X : z_X l G A p R s m args meth c cX5_isBetween 3 RX5 "isBetween" (some .boolean) 0 0 8 120) {s0 : Int32} {H : Heap} {locs : List Loc} {ls : Array Slot} (hB : z_HB G z_none A s.heap T I Q T I Q H locs) (hl : lv_has ls 3 []) (h : wb_X5_isBetween_15 Qk s0) : W p l e R s m args below meth c H locs 0 0 (z_MQ below G z_none A T I Q (z_pz Qk T I Q) z_no args s 0 0) (F0 m 15 ls [.int s0]) := by
  obtain ⟨hx, hb, -⟩ := id X
  unfold wb_X5_isBetween_15 at h
  obtain ⟨hz, h⟩ := h
  exact z_zret X hB hz ⟨_, rfl, hz, h, rfl, rfl, rfl⟩ (Nat.le_refl 0) (Nat.le_refl 0) dX5_isBetween_15
theorem ww_X5_isBetween_14 {Qk : Int32 → Prop} (X : z_X l G A p R s m args meth c cX5_isBetween 3 RX5 "isBetween" (some .boolean) 0 0 8 120) {H : Heap} {locs : List Loc} {ls : Array Slot} (hB : z_HB G z_none A s.heap T I Q T I Q H locs) (hl : lv_has ls 3 []) (h : wb_X5_isBetween_14 Qk) : W p l e R s m args below meth c H locs 0 0 (z_MQ below G z_none A T I Q (z_pz Qk T I Q) z_no args s 0 0) (F0 m 14 ls []) := by
  obtain ⟨hx, hb, -⟩ := id X
  unfold wb_X5_isBetween_14 at h
  refine lv_iconst (v := 0) hx hb dX5_isBetween_14 (by decide) ?_
  exact ww_X5_isBetween_15 X  hB (lv_sub hl [] rfl) h
theorem ww_X5_isBetween_0 {Qk : Int32 → Prop} (X : z_X l G A p R s m args meth c cX5_isBetween 3 RX5 "isBetween" (some .boolean) 0 0 8 120) {x0 : Int32} {x1 : Int32} {x2 : Int32} {H : Heap} {locs : List Loc} {ls : Array Slot} (hB : z_HB G z_none A s.heap T I Q T I Q H locs) (hl : lv_has ls 3 [(0, .int x0), (1, .int x1), (2, .int x2)]) (h : wb_X5_isBetween_0 Qk x0 x1 x2) : W p l e R s m args below meth c H locs 0 0 (z_MQ below G z_none A T I Q (z_pz Qk T I Q) z_no args s 0 0) (F0 m 0 ls []) := by
  obtain ⟨hx, hb, -⟩ := id X
  unfold wb_X5_isBetween_0 at h
  refine lv_iload_n hx hb dX5_isBetween_0 rfl (lv_at hl 0 rfl) ?_
  refine lv_iload_n hx hb dX5_isBetween_1 rfl (lv_at hl 1 rfl) ?_
  refine lv_icmp_lt (tgt := 14) hx hb dX5_isBetween_2 (by decide) (fun c1 => ?_) (fun c1 => ?_)
  · have h := h.1 c1
    exact ww_X5_isBetween_14 X  hB (lv_sub hl [] rfl) h
  · have h := h.2 c1
    refine lv_iload_n hx hb dX5_isBetween_5 rfl (lv_at hl 0 rfl) ?_
    refine lv_iload_n hx hb dX5_isBetween_6 rfl (lv_at hl 2 rfl) ?_
    refine lv_icmp_gt (tgt := 14) hx hb dX5_isBetween_7 (by decide) (fun c2 => ?_) (fun c2 => ?_)
    · have h := h.1 c2
      exact ww_X5_isBetween_14 X  hB (lv_sub hl [] rfl) h
    · have h := h.2 c2
      refine lv_iconst (v := 1) hx hb dX5_isBetween_10 (by decide) ?_
      refine lv_goto (tgt := 15) hx hb dX5_isBetween_11 (by decide) ?_
      exact ww_X5_isBetween_15 X  hB (lv_sub hl [] rfl) h
theorem pk_X5_isBetween : z_PS yX5_isBetween cX5_isBetween 3 (some .boolean) 3 := ⟨q3416, q131, q3417, by decide +kernel⟩
theorem met_X5_isBetween {l : Launch} {G : z_E} {T : z_T} {I : z_I} {Q : z_Q} (x0 : Int32) (x1 : Int32) (x2 : Int32) (Qk : Int32 → Prop) (h : wp_X5_isBetween x0 x1 x2 Qk) : z_GM l G yX5_isBetween (ws_ yX5_isBetween cX5_isBetween 3 (some .boolean)) 8 120 0 0 [.int x0, .int x1, .int x2] z_none T I Q (z_pz Qk T I Q) z_no := by
  refine z_body (own := RX5) (nm := "isBetween") (by decide +kernel) rfl rfl (Nat.le_of_ble_eq_true rfl) (fun p e R s m below meth c A ls X hB hl => ?_)
  exact ww_X5_isBetween_0 X hB hl h
/-! X5_isZone -/
theorem ww_X5_isZone_0 {Qk : Int32 → Prop} (X : z_X l G A p R s m args meth c cX5_isZone 1 RX5 "isZone" (some .boolean) 0 0 9 142) {x0 : Int32} {H : Heap} {locs : List Loc} {ls : Array Slot} (hB : z_HB G z_none A s.heap T I Q T I Q H locs) (hl : lv_has ls 1 [(0, .int x0)]) (h : wb_X5_isZone_0 Qk x0) : W p l e R s m args below meth c H locs 0 0 (z_MQ below G z_none A T I Q (z_pz Qk T I Q) z_no args s 0 0) (F0 m 0 ls []) := by
  obtain ⟨hx, hb, -⟩ := id X
  unfold wb_X5_isZone_0 at h
  refine lv_iload_n hx hb dX5_isZone_0 rfl (lv_at hl 0 rfl) ?_
  refine lv_iconst (v := 0) hx hb dX5_isZone_1 (by decide) ?_
  refine lv_bipush (v := 7) hx hb dX5_isZone_2 (by decide) ?_
  refine z_callzp (z_runS (rest := []) [.int x0, .int 0, .int 7] pk_X5_isBetween (met_X5_isBetween x0 0 7 _ h) X hB (fun h => h) q3415 rfl hl.1 (Nat.le_of_ble_eq_true rfl) dX5_isZone_4 (Nat.le_refl 0) (Nat.le_refl 0) (by decide) (by decide)) hB (fun r1 H locs hz h hB => ?_)
  have h := h hz
  obtain ⟨hz, h⟩ := h
  exact z_zret X hB hz ⟨_, rfl, hz, h, rfl, rfl, rfl⟩ (Nat.le_refl 0) (Nat.le_refl 0) dX5_isZone_7
theorem pk_X5_isZone : z_PS yX5_isZone cX5_isZone 1 (some .boolean) 1 := ⟨q3413, q131, q3414, by decide +kernel⟩
theorem met_X5_isZone {l : Launch} {G : z_E} {T : z_T} {I : z_I} {Q : z_Q} (x0 : Int32) (Qk : Int32 → Prop) (h : wp_X5_isZone x0 Qk) : z_GM l G yX5_isZone (ws_ yX5_isZone cX5_isZone 1 (some .boolean)) 9 142 0 0 [.int x0] z_none T I Q (z_pz Qk T I Q) z_no := by
  refine z_body (own := RX5) (nm := "isZone") (by decide +kernel) rfl rfl (Nat.le_of_ble_eq_true rfl) (fun p e R s m below meth c A ls X hB hl => ?_)
  exact ww_X5_isZone_0 X hB hl h
/-! X5_notLocked -/
theorem ww_X5_notLocked_14 {M : z_M} {Qk : Int32 → Prop} (X : z_XM l G A p R s m args meth c cX5_notLocked 6 "notLocked" (some .int) 12 209) {H : Heap} {locs : List Loc} {ls : Array Slot} (hB : z_MB G z_P1c A s.heap T I0 Q o b M H locs) (hl : lv_has ls 6 []) (h : wb_X5_notLocked_14 M Qk) : W p l e R s m args below meth c H locs 0 0 (z_MQ below G z_P1c A T I0 Q (z_mi (fun r M1 => Qk r ∧ M1 = M) T Q o b) z_no args s 0 0) (F0 m 14 ls []) := by
  obtain ⟨hx, hb, -⟩ := id X
  unfold wb_X5_notLocked_14 at h
  refine lv_iconst (v := 1) hx hb dX5_notLocked_14 (by decide) ?_
  obtain ⟨hL, I, hB, hM⟩ := hB
  exact z_iret X hB ⟨_, rfl, ⟨h, hM⟩, rfl, rfl⟩ (Nat.le_refl 0) (Nat.le_refl 0) dX5_notLocked_15
theorem ww_X5_notLocked_76 {M : z_M} {Qk : Int32 → Prop} (X : z_XM l G A p R s m args meth c cX5_notLocked 6 "notLocked" (some .int) 12 209) {s0 : Int32} {H : Heap} {locs : List Loc} {ls : Array Slot} (hB : z_MB G z_P1c A s.heap T I0 Q o b M H locs) (hl : lv_has ls 6 []) (h : wb_X5_notLocked_76 M Qk s0) : W p l e R s m args below meth c H locs 0 0 (z_MQ below G z_P1c A T I0 Q (z_mi (fun r M1 => Qk r ∧ M1 = M) T Q o b) z_no args s 0 0) (F0 m 76 ls [.int s0]) := by
  obtain ⟨hx, hb, -⟩ := id X
  unfold wb_X5_notLocked_76 at h
  obtain ⟨hL, I, hB, hM⟩ := hB
  exact z_iret X hB ⟨_, rfl, ⟨h, hM⟩, rfl, rfl⟩ (Nat.le_refl 0) (Nat.le_refl 0) dX5_notLocked_76
theorem ww_X5_notLocked_75 {M : z_M} {Qk : Int32 → Prop} (X : z_XM l G A p R s m args meth c cX5_notLocked 6 "notLocked" (some .int) 12 209) {H : Heap} {locs : List Loc} {ls : Array Slot} (hB : z_MB G z_P1c A s.heap T I0 Q o b M H locs) (hl : lv_has ls 6 []) (h : wb_X5_notLocked_75 M Qk) : W p l e R s m args below meth c H locs 0 0 (z_MQ below G z_P1c A T I0 Q (z_mi (fun r M1 => Qk r ∧ M1 = M) T Q o b) z_no args s 0 0) (F0 m 75 ls []) := by
  obtain ⟨hx, hb, -⟩ := id X
  unfold wb_X5_notLocked_75 at h
  refine lv_iconst (v := 0) hx hb dX5_notLocked_75 (by decide) ?_
  exact ww_X5_notLocked_76 X  hB (lv_sub hl [] rfl) h
theorem ww_X5_notLocked_0 {M : z_M} {Qk : Int32 → Prop} (X : z_XM l G A p R s m args meth c cX5_notLocked 6 "notLocked" (some .int) 12 209) {x1 : Int32} {x2 : Int32} {x3 : Int32} {H : Heap} {locs : List Loc} {ls : Array Slot} (hB : z_MB G z_P1c A s.heap T I0 Q o b M H locs) (hl : lv_has ls 6 [(0, .ref o), (1, .int x1), (2, .int x2), (3, .int x3)]) (h : wb_X5_notLocked_0 M Qk x1 x2 x3) : W p l e R s m args below meth c H locs 0 0 (z_MQ below G z_P1c A T I0 Q (z_mi (fun r M1 => Qk r ∧ M1 = M) T Q o b) z_no args s 0 0) (F0 m 0 ls []) := by
  obtain ⟨hx, hb, -⟩ := id X
  unfold wb_X5_notLocked_0 at h
  refine lv_iload_n hx hb dX5_notLocked_0 rfl (lv_at hl 1 rfl) ?_
  refine z_mcallzp (fun I1 hB1 hM => z_runS (rest := []) [.int x1] pk_X5_isZone (met_X5_isZone x1 _ h) X hB1 (fun h => h) q3412 rfl hl.1 (Nat.le_of_ble_eq_true rfl) dX5_notLocked_1 (Nat.le_refl 0) (Nat.le_refl 0) (by decide) (by decide)) hB (fun r1 H locs hz h hB => ?_)
  have h := h hz
  refine lv_if_eq (tgt := 14) hx hb dX5_notLocked_4 (by decide) (fun c2 => ?_) (fun c2 => ?_)
  · have h := h.1 c2
    exact ww_X5_notLocked_14 X  hB (lv_sub hl [] rfl) h
  · have h := h.2 c2
    refine lv_iload_n hx hb dX5_notLocked_7 rfl (lv_at hl 2 rfl) ?_
    refine z_mcallzp (fun I1 hB1 hM => z_runS (rest := []) [.int x2] pk_X5_isZone (met_X5_isZone x2 _ h) X hB1 (fun h => h) q3412 rfl hl.1 (Nat.le_of_ble_eq_true rfl) dX5_notLocked_8 (Nat.le_refl 0) (Nat.le_refl 0) (by decide) (by decide)) hB (fun r3 H locs hz h hB => ?_)
    have h := h hz
    refine lv_if_ne (tgt := 16) hx hb dX5_notLocked_11 (by decide) (fun c4 => ?_) (fun c4 => ?_)
    · have h := h.1 c4
      refine lv_iload_n hx hb dX5_notLocked_16 rfl (lv_at hl 1 rfl) ?_
      refine lv_iload_n hx hb dX5_notLocked_17 rfl (lv_at hl 2 rfl) ?_
      refine lv_icmp_ne (tgt := 23) hx hb dX5_notLocked_18 (by decide) (fun c5 => ?_) (fun c5 => ?_)
      · have h := h.1 c5
        refine lv_aload_n hx hb dX5_notLocked_23 rfl (lv_at hl 0 rfl) ?_
        refine lv_iload_n hx hb dX5_notLocked_24 rfl (lv_at hl 1 rfl) ?_
        refine z_mcalli (fun _ h => h) (fun I1 hB1 hM => z_runV (rest := []) [.int x1] pk_X5_holderOf (met_X5_holderOf hB.1 hM x1 _ h) X hB1 (by decide) q3418 kc_X5 (by decide) (by rw [hB.1.1]) rfl hl.1 (Nat.le_of_ble_eq_true rfl) dX5_notLocked_25 (Nat.le_refl 0) (Nat.le_refl 0) (by decide) (by decide)) hB (fun r6 M7 H locs h hB => ?_)
        obtain ⟨h, eM7⟩ := h
        rw [eM7] at hB
        refine lv_istore (lv' := [(4, .int r6), (0, .ref o), (1, .int x1), (2, .int x2), (3, .int x3)]) hx hb dX5_notLocked_28 hl (by decide) rfl (fun ls hl => ?_)
        refine lv_aload_n hx hb dX5_notLocked_30 rfl (lv_at hl 1 rfl) ?_
        refine lv_iload_n hx hb dX5_notLocked_31 rfl (lv_at hl 3 rfl) ?_
        refine z_mcalli (fun _ h => h) (fun I1 hB1 hM => z_runV (rest := []) [.int x2] pk_X5_holderOf (met_X5_holderOf hB.1 hM x2 _ h) X hB1 (by decide) q3418 kc_X5 (by decide) (by rw [hB.1.1]) rfl hl.1 (Nat.le_of_ble_eq_true rfl) dX5_notLocked_32 (Nat.le_refl 0) (Nat.le_refl 0) (by decide) (by decide)) hB (fun r8 M9 H locs h hB => ?_)
        obtain ⟨h, eM9⟩ := h
        rw [eM9] at hB
        refine lv_istore (lv' := [(5, .int r8), (4, .int r6), (0, .ref o), (1, .int x1), (2, .int x2), (3, .int x3)]) hx hb dX5_notLocked_35 hl (by decide) rfl (fun ls hl => ?_)
        refine lv_iload_n hx hb dX5_notLocked_37 rfl (lv_at hl 5 rfl) ?_
        refine lv_if_eq (tgt := 75) hx hb dX5_notLocked_38 (by decide) (fun c10 => ?_) (fun c10 => ?_)
        · have h := h.1 c10
          exact ww_X5_notLocked_75 X  hB (lv_sub hl [] rfl) h
        · have h := h.2 c10
          refine lv_aload_n hx hb dX5_notLocked_41 rfl (lv_at hl 2 rfl) ?_
          refine z_mgeta (j := 1) X hB q3211 rfl (Nat.le_of_ble_eq_true rfl) rfl (by decide) dX5_notLocked_42 ?_
          refine lv_iload_n hx hb dX5_notLocked_45 rfl (lv_at hl 3 rfl) ?_
          obtain ⟨h1, h⟩ := h
          refine z_mald (f := 1) X hB (by decide) h1 dX5_notLocked_46 ?_
          refine lv_iload_n hx hb dX5_notLocked_47 rfl (lv_at hl 4 rfl) ?_
          refine z_mcallzp (fun I1 hB1 hM => z_runS (rest := []) [.int (M 1 x1.toNatClampNeg), .int x2] pk_X5_has (met_X5_has (M 1 x1.toNatClampNeg) x2 _ h) X hB1 (fun h => h) q3434 rfl hl.1 (Nat.le_of_ble_eq_true rfl) dX5_notLocked_48 (Nat.le_refl 0) (Nat.le_refl 0) (by decide) (by decide)) hB (fun r11 H locs hz h hB => ?_)
          have h := h hz
          refine lv_if_ne (tgt := 75) hx hb dX5_notLocked_51 (by decide) (fun c12 => ?_) (fun c12 => ?_)
          · have h := h.1 c12
            exact ww_X5_notLocked_75 X  hB (lv_sub hl [] rfl) h
          · have h := h.2 c12
            refine lv_iload hx hb dX5_notLocked_54 (lv_at hl 1 rfl) ?_
            refine lv_if_lt (tgt := 75) hx hb dX5_notLocked_56 (by decide) (fun c13 => ?_) (fun c13 => ?_)
            · have h := h.1 c13
              exact ww_X5_notLocked_75 X  hB (lv_sub hl [] rfl) h
            · have h := h.2 c13
              refine lv_iload hx hb dX5_notLocked_59 (lv_at hl 0 rfl) ?_
              refine lv_if_lt (tgt := 75) hx hb dX5_notLocked_61 (by decide) (fun c14 => ?_) (fun c14 => ?_)
              · have h := h.1 c14
                exact ww_X5_notLocked_75 X  hB (lv_sub hl [] rfl) h
              · have h := h.2 c14
                refine lv_iload hx hb dX5_notLocked_64 (lv_at hl 1 rfl) ?_
                refine lv_iload hx hb dX5_notLocked_66 (lv_at hl 0 rfl) ?_
                refine lv_icmp_eq (tgt := 75) hx hb dX5_notLocked_68 (by decide) (fun c15 => ?_) (fun c15 => ?_)
                · have h := h.1 c15
                  exact ww_X5_notLocked_75 X  hB (lv_sub hl [] rfl) h
                · have h := h.2 c15
                  refine lv_iconst (v := 3) hx hb dX5_notLocked_71 (by decide) ?_
                  refine lv_goto (tgt := 76) hx hb dX5_notLocked_72 (by decide) ?_
                  exact ww_X5_notLocked_76 X  hB (lv_sub hl [] rfl) h
      · have h := h.2 c5
        refine lv_iconst (v := 2) hx hb dX5_notLocked_21 (by decide) ?_
        obtain ⟨hL, I, hB, hM⟩ := hB
        exact z_iret X hB ⟨_, rfl, ⟨h, hM⟩, rfl, rfl⟩ (Nat.le_refl 0) (Nat.le_refl 0) dX5_notLocked_22
    · have h := h.2 c4
      exact ww_X5_notLocked_14 X  hB (lv_sub hl [] rfl) h
theorem pk_X5_notLocked : z_PV RX5 yX5_notLocked cX5_notLocked 6 (some .int) 3 := ⟨q3410, qs47, q131, q3411, by decide +kernel⟩
theorem met_X5_notLocked {l : Launch} {G : z_E} {T : z_T} {I : z_I} {Q : z_Q} {o : Nat} {b : Nat → Nat} {M : z_M} (hL : z_lie T Q o b) (hM : z_of I o b = M) (x1 : Int32) (x2 : Int32) (x3 : Int32) (Qk : Int32 → Prop) (h : wp_X5_notLocked M x1 x2 x3 Qk) : z_GM l G yX5_notLocked (ws_ yX5_notLocked cX5_notLocked 6 (some .int)) 12 209 0 0 [.ref o, .int x1, .int x2, .int x3] z_P1c T I Q (z_mi (fun r M1 => Qk r ∧ M1 = M) T Q o b) z_no := by
  refine z_body (own := RX5) (nm := "notLocked") (by decide +kernel) rfl rfl (Nat.le_of_ble_eq_true rfl) (fun p e R s m below meth c A ls X hB hl => ?_)
  exact ww_X5_notLocked_0 X ⟨hL, I, hB, hM⟩ hl h
/-! X5_pass -/
theorem ww_X5_pass_17 {Qk : Int32 → z_M → Prop} (X : z_XM l G A p R s m args meth c cX5_pass 4 "pass" (some .int) 8 120) {M : z_M} {x2 : Nat} {s0 : Int32} {H : Heap} {locs : List Loc} {ls : Array Slot} (hf_x2 : z_ln x2 ≠ 0) (hB : z_MB G z_P1c A s.heap T I0 Q o b M H locs) (hl : lv_has ls 4 [(0, .ref o), (2, .ref (b x2))]) (h : wb_X5_pass_17 Qk M x2 s0) : W p l e R s m args below meth c H locs 0 0 (z_MQ below G z_P1c A T I0 Q (z_mi Qk T Q o b) z_no args s 0 0) (F0 m 17 ls [.int s0]) := by
  obtain ⟨hx, hb, -⟩ := id X
  unfold wb_X5_pass_17 at h
  refine lv_istore_n (lv' := [(3, .int s0), (0, .ref o), (2, .ref (b x2))]) hx hb dX5_pass_17 rfl hl (by decide) rfl (fun ls hl => ?_)
  refine lv_aload_n hx hb dX5_pass_18 rfl (lv_at hl 2 rfl) ?_
  refine lv_aload_n hx hb dX5_pass_19 rfl (lv_at hl 1 rfl) ?_
  refine z_mgets (j := 60) X hB q3270 rfl (Nat.le_of_ble_eq_true rfl) rfl rfl dX5_pass_20 ?_
  refine lv_iload_n hx hb dX5_pass_23 rfl (lv_at hl 0 rfl) ?_
  obtain ⟨h1, h⟩ := h
  obtain ⟨M2, eM2⟩ : ∃ z, z = z_up M x2 (M 60 0).toNatClampNeg s0 := ⟨_, rfl⟩
  have h := h M2 eM2
  refine z_mast (P := z_P1c) (f := x2) rfl X hB hf_x2 h1 dX5_pass_24 (fun H locs hB => ?_)
  rw [← eM2] at hB
  refine lv_aload_n hx hb dX5_pass_25 rfl (lv_at hl 1 rfl) ?_
  refine lv_dup hx hb dX5_pass_26 rfl ?_
  refine z_mgets (j := 60) X hB q3270 rfl (Nat.le_of_ble_eq_true rfl) rfl rfl dX5_pass_27 ?_
  refine lv_iconst (v := 1) hx hb dX5_pass_30 (by decide) ?_
  refine lv_iadd hx hb dX5_pass_31 ?_
  obtain ⟨M3, eM3⟩ : ∃ z, z = z_us M2 60 ((M2 60 0) + 1) := ⟨_, rfl⟩
  have h := h M3 eM3
  refine z_mputs (j := 60) (ty := .int) X hB q3270 rfl (Nat.le_of_ble_eq_true rfl) rfl rfl rfl rfl (Or.inl rfl) rfl dX5_pass_32 (fun H locs hB => ?_)
  rw [← eM3] at hB
  refine lv_iload_n hx hb dX5_pass_35 rfl (lv_at hl 0 rfl) ?_
  obtain ⟨hL, I, hB, hM⟩ := hB
  exact z_iret X hB ⟨_, rfl, (by rw [hM]; exact h), rfl, rfl⟩ (Nat.le_refl 0) (Nat.le_refl 0) dX5_pass_36
theorem ww_X5_pass_0 {Qk : Int32 → z_M → Prop} (X : z_XM l G A p R s m args meth c cX5_pass 4 "pass" (some .int) 8 120) {M : z_M} {x1 : Int32} {x2 : Nat} {H : Heap} {locs : List Loc} {ls : Array Slot} (hf_x2 : z_ln x2 ≠ 0) (hB : z_MB G z_P1c A s.heap T I0 Q o b M H locs) (hl : lv_has ls 4 [(0, .ref o), (1, .int x1), (2, .ref (b x2))]) (h : wb_X5_pass_0 Qk M x1 x2) : W p l e R s m args below meth c H locs 0 0 (z_MQ below G z_P1c A T I0 Q (z_mi Qk T Q o b) z_no args s 0 0) (F0 m 0 ls []) := by
  obtain ⟨hx, hb, -⟩ := id X
  unfold wb_X5_pass_0 at h
  refine lv_aload_n hx hb dX5_pass_0 rfl (lv_at hl 0 rfl) ?_
  refine z_mgets (j := 62) X hB q3272 rfl (Nat.le_of_ble_eq_true rfl) rfl rfl dX5_pass_1 ?_
  refine lv_if_eq (tgt := 11) hx hb dX5_pass_4 (by decide) (fun c1 => ?_) (fun c1 => ?_)
  · have h := h.1 c1
    refine lv_aload_n hx hb dX5_pass_11 rfl (lv_at hl 2 rfl) ?_
    refine lv_aload_n hx hb dX5_pass_12 rfl (lv_at hl 0 rfl) ?_
    refine z_mgets (j := 60) X hB q3270 rfl (Nat.le_of_ble_eq_true rfl) rfl rfl dX5_pass_13 ?_
    obtain ⟨h1, h⟩ := h
    refine z_mald (f := x2) X hB hf_x2 h1 dX5_pass_16 ?_
    exact ww_X5_pass_17 X  hf_x2 hB (lv_sub hl [0, 2] rfl) h
  · have h := h.2 c1
    refine lv_iload_n hx hb dX5_pass_7 rfl (lv_at hl 1 rfl) ?_
    refine lv_goto (tgt := 17) hx hb dX5_pass_8 (by decide) ?_
    exact ww_X5_pass_17 X  hf_x2 hB (lv_sub hl [0, 2] rfl) h
theorem pk_X5_pass : z_PV RX5 yX5_pass cX5_pass 4 (some .int) 2 := ⟨q3459, qs57, q131, q3460, by decide +kernel⟩
theorem met_X5_pass {l : Launch} {G : z_E} {T : z_T} {I : z_I} {Q : z_Q} {o : Nat} {b : Nat → Nat} {M : z_M} (hL : z_lie T Q o b) (hM : z_of I o b = M) {x2 : Nat} (hf_x2 : z_ln x2 ≠ 0) (x1 : Int32) (Qk : Int32 → z_M → Prop) (h : wp_X5_pass M x1 x2 Qk) : z_GM l G yX5_pass (ws_ yX5_pass cX5_pass 4 (some .int)) 8 120 0 0 [.ref o, .int x1, .ref (b x2)] z_P1c T I Q (z_mi Qk T Q o b) z_no := by
  refine z_body (own := RX5) (nm := "pass") (by decide +kernel) rfl rfl (Nat.le_of_ble_eq_true rfl) (fun p e R s m below meth c A ls X hB hl => ?_)
  exact ww_X5_pass_0 X hf_x2 ⟨hL, I, hB, hM⟩ hl h
/-! X5_passes -/
theorem ww_X5_passes_36 {k2 : z_M → Nat → Nat → Int32 → Prop} {Qk : z_M → Prop} (X : z_XM l G A p R s m args meth c cX5_passes 4 "passes" none 8 120) (hk2 : ∀ {M : z_M} {x1 : Nat} {x2 : Nat} {x3 : Int32} {H : Heap} {locs : List Loc} {ls : Array Slot}, z_ln x1 ≠ 0 → z_ln x2 ≠ 0 → z_MB G z_P1c A s.heap T I0 Q o b M H locs → lv_has ls 4 [(0, .ref o), (1, .ref (b x1)), (2, .ref (b x2)), (3, .int x3)] → k2 M x1 x2 x3 → W p l e R s m args below meth c H locs 0 0 (z_MQ below G z_P1c A T I0 Q (z_mv_ Qk T Q o b) z_no args s 0 0) (F0 m 2 ls [])) {M : z_M} {x1 : Nat} {x2 : Nat} {x3 : Int32} {H : Heap} {locs : List Loc} {ls : Array Slot} (hf_x1 : z_ln x1 ≠ 0) (hf_x2 : z_ln x2 ≠ 0) (hB : z_MB G z_P1c A s.heap T I0 Q o b M H locs) (hl : lv_has ls 4 [(0, .ref o), (1, .ref (b x1)), (2, .ref (b x2)), (3, .int x3)]) (h : wb_X5_passes_36 k2 Qk M x1 x2 x3) : W p l e R s m args below meth c H locs 0 0 (z_MQ below G z_P1c A T I0 Q (z_mv_ Qk T Q o b) z_no args s 0 0) (F0 m 36 ls []) := by
  obtain ⟨hx, hb, -⟩ := id X
  unfold wb_X5_passes_36 at h
  refine lv_aload_n hx hb dX5_passes_36 rfl (lv_at hl 0 rfl) ?_
  refine lv_dup hx hb dX5_passes_37 rfl ?_
  refine z_mgets (j := 60) X hB q3270 rfl (Nat.le_of_ble_eq_true rfl) rfl rfl dX5_passes_38 ?_
  refine lv_iconst (v := 1) hx hb dX5_passes_41 (by decide) ?_
  refine lv_iadd hx hb dX5_passes_42 ?_
  obtain ⟨M5, eM5⟩ : ∃ z, z = z_us M 60 ((M 60 0) + 1) := ⟨_, rfl⟩
  have h := h M5 eM5
  refine z_mputs (j := 60) (ty := .int) X hB q3270 rfl (Nat.le_of_ble_eq_true rfl) rfl rfl rfl rfl (Or.inl rfl) rfl dX5_passes_43 (fun H locs hB => ?_)
  rw [← eM5] at hB
  obtain ⟨y6, ey6⟩ : ∃ z : Int32, z = x3 + 1 := ⟨_, rfl⟩
  have h := h y6 ey6
  refine lv_iinc (v := y6) (lv' := [(3, .int y6), (0, .ref o), (1, .ref (b x1)), (2, .ref (b x2))]) hx hb dX5_passes_46 hl (k := 3) rfl (by rw [ey6]; rfl) (by decide) rfl (fun ls hl => ?_)
  refine lv_goto (tgt := 2) hx hb dX5_passes_49 (by decide) ?_
  exact hk2 hf_x1 hf_x2 hB (lv_sub hl [1, 2, 3, 0] rfl) h
theorem wv_X5_passes_2 {Qk : z_M → Prop} (X : z_XM l G A p R s m args meth c cX5_passes 4 "passes" none 8 120) : ∀ (n : Nat) {M : z_M} {x1 : Nat} {x2 : Nat} {x3 : Int32} {H : Heap} {locs : List Loc} {ls : Array Slot}, z_ln x1 ≠ 0 → z_ln x2 ≠ 0 → z_MB G z_P1c A s.heap T I0 Q o b M H locs → lv_has ls 4 [(0, .ref o), (1, .ref (b x1)), (2, .ref (b x2)), (3, .int x3)] → wl_X5_passes_2 Qk n M x1 x2 x3 → W p l e R s m args below meth c H locs 0 0 (z_MQ below G z_P1c A T I0 Q (z_mv_ Qk T Q o b) z_no args s 0 0) (F0 m 2 ls []) := by
  intro n
  induction n with
  | zero =>
    intro M x1 x2 x3 H locs ls hf_x1 hf_x2 hB hl h
    exact h.elim
  | succ n ih =>
    intro M x1 x2 x3 H locs ls hf_x1 hf_x2 hB hl h
    obtain ⟨hx, hb, -⟩ := id X
    unfold wl_X5_passes_2 at h
    refine lv_iload_n hx hb dX5_passes_2 rfl (lv_at hl 3 rfl) ?_
    refine lv_aload_n hx hb dX5_passes_3 rfl (lv_at hl 1 rfl) ?_
    refine z_malen (f := x1) X hB hf_x1 dX5_passes_4 ?_
    refine lv_icmp_ge (tgt := 52) hx hb dX5_passes_5 (by decide) (fun c1 => ?_) (fun c1 => ?_)
    · have h := h.1 c1
      obtain ⟨hL, I, hB, hM⟩ := hB
      exact z_vret X hB ⟨rfl, (by rw [hM]; exact h), rfl, rfl⟩ (Nat.le_refl 0) (Nat.le_refl 0) dX5_passes_52
    · have h := h.2 c1
      refine lv_aload_n hx hb dX5_passes_8 rfl (lv_at hl 0 rfl) ?_
      refine z_mgets (j := 62) X hB q3272 rfl (Nat.le_of_ble_eq_true rfl) rfl rfl dX5_passes_9 ?_
      refine lv_if_eq (tgt := 27) hx hb dX5_passes_12 (by decide) (fun c2 => ?_) (fun c2 => ?_)
      · have h := h.1 c2
        refine lv_aload_n hx hb dX5_passes_27 rfl (lv_at hl 1 rfl) ?_
        refine lv_iload_n hx hb dX5_passes_28 rfl (lv_at hl 3 rfl) ?_
        refine lv_aload_n hx hb dX5_passes_29 rfl (lv_at hl 2 rfl) ?_
        refine lv_aload_n hx hb dX5_passes_30 rfl (lv_at hl 0 rfl) ?_
        refine z_mgets (j := 60) X hB q3270 rfl (Nat.le_of_ble_eq_true rfl) rfl rfl dX5_passes_31 ?_
        obtain ⟨h1, h⟩ := h
        refine z_mald (f := x2) X hB hf_x2 h1 dX5_passes_34 ?_
        obtain ⟨h1, h⟩ := h
        obtain ⟨M3, eM3⟩ : ∃ z, z = z_up M x1 x3.toNatClampNeg (M x2 (M 60 0).toNatClampNeg) := ⟨_, rfl⟩
        have h := h M3 eM3
        refine z_mast (P := z_P1c) (f := x1) rfl X hB hf_x1 h1 dX5_passes_35 (fun H locs hB => ?_)
        rw [← eM3] at hB
        exact ww_X5_passes_36 X (fun hf_x1 hf_x2 hB hl h => ih hf_x1 hf_x2 hB hl h) hf_x1 hf_x2 hB (lv_sub hl [0, 1, 2, 3] rfl) h
      · have h := h.2 c2
        refine lv_aload_n hx hb dX5_passes_15 rfl (lv_at hl 2 rfl) ?_
        refine lv_aload_n hx hb dX5_passes_16 rfl (lv_at hl 0 rfl) ?_
        refine z_mgets (j := 60) X hB q3270 rfl (Nat.le_of_ble_eq_true rfl) rfl rfl dX5_passes_17 ?_
        refine lv_aload_n hx hb dX5_passes_20 rfl (lv_at hl 1 rfl) ?_
        refine lv_iload_n hx hb dX5_passes_21 rfl (lv_at hl 3 rfl) ?_
        obtain ⟨h1, h⟩ := h
        refine z_mald (f := x1) X hB hf_x1 h1 dX5_passes_22 ?_
        obtain ⟨h1, h⟩ := h
        obtain ⟨M4, eM4⟩ : ∃ z, z = z_up M x2 (M 60 0).toNatClampNeg (M x1 x3.toNatClampNeg) := ⟨_, rfl⟩
        have h := h M4 eM4
        refine z_mast (P := z_P1c) (f := x2) rfl X hB hf_x2 h1 dX5_passes_23 (fun H locs hB => ?_)
        rw [← eM4] at hB
        refine lv_goto (tgt := 36) hx hb dX5_passes_24 (by decide) ?_
        exact ww_X5_passes_36 X (fun hf_x1 hf_x2 hB hl h => ih hf_x1 hf_x2 hB hl h) hf_x1 hf_x2 hB (lv_sub hl [0, 1, 2, 3] rfl) h
theorem ww_X5_passes_0 {Qk : z_M → Prop} (X : z_XM l G A p R s m args meth c cX5_passes 4 "passes" none 8 120) {M : z_M} {x1 : Nat} {x2 : Nat} {H : Heap} {locs : List Loc} {ls : Array Slot} (hf_x1 : z_ln x1 ≠ 0) (hf_x2 : z_ln x2 ≠ 0) (hB : z_MB G z_P1c A s.heap T I0 Q o b M H locs) (hl : lv_has ls 4 [(0, .ref o), (1, .ref (b x1)), (2, .ref (b x2))]) (h : wb_X5_passes_0 Qk M x1 x2) : W p l e R s m args below meth c H locs 0 0 (z_MQ below G z_P1c A T I0 Q (z_mv_ Qk T Q o b) z_no args s 0 0) (F0 m 0 ls []) := by
  obtain ⟨hx, hb, -⟩ := id X
  unfold wb_X5_passes_0 at h
  refine lv_iconst (v := 0) hx hb dX5_passes_0 (by decide) ?_
  refine lv_istore_n (lv' := [(3, .int 0), (0, .ref o), (1, .ref (b x1)), (2, .ref (b x2))]) hx hb dX5_passes_1 rfl hl (by decide) rfl (fun ls hl => ?_)
  obtain ⟨w, h⟩ := h
  exact wv_X5_passes_2 X  w hf_x1 hf_x2 hB (lv_sub hl [1, 2, 3, 0] rfl) h
theorem pk_X5_passes : z_PV RX5 yX5_passes cX5_passes 4 none 2 := ⟨q3447, qs54, q131, q3448, by decide +kernel⟩
theorem met_X5_passes {l : Launch} {G : z_E} {T : z_T} {I : z_I} {Q : z_Q} {o : Nat} {b : Nat → Nat} {M : z_M} (hL : z_lie T Q o b) (hM : z_of I o b = M) {x1 : Nat} {x2 : Nat} (hf_x1 : z_ln x1 ≠ 0) (hf_x2 : z_ln x2 ≠ 0) (Qk : z_M → Prop) (h : wp_X5_passes M x1 x2 Qk) : z_GM l G yX5_passes (ws_ yX5_passes cX5_passes 4 none) 8 120 0 0 [.ref o, .ref (b x1), .ref (b x2)] z_P1c T I Q (z_mv_ Qk T Q o b) z_no := by
  refine z_body (own := RX5) (nm := "passes") (by decide +kernel) rfl rfl (Nat.le_of_ble_eq_true rfl) (fun p e R s m below meth c A ls X hB hl => ?_)
  exact ww_X5_passes_0 X hf_x1 hf_x2 ⟨hL, I, hB, hM⟩ hl h
/-! X5_passArms -/
theorem ww_X5_passArms_0 {Qk : z_M → Prop} (X : z_XM l G A p R s m args meth c cX5_passArms 2 "passArms" none 9 143) {M : z_M} {x1 : Nat} {H : Heap} {locs : List Loc} {ls : Array Slot} (hf_x1 : z_ln x1 ≠ 0) (hB : z_MB G z_P1c A s.heap T I0 Q o b M H locs) (hl : lv_has ls 2 [(0, .ref o), (1, .ref (b x1))]) (h : wb_X5_passArms_0 Qk M x1) : W p l e R s m args below meth c H locs 0 0 (z_MQ below G z_P1c A T I0 Q (z_mv_ Qk T Q o b) z_no args s 0 0) (F0 m 0 ls []) := by
  obtain ⟨hx, hb, -⟩ := id X
  unfold wb_X5_passArms_0 at h
  refine lv_aload_n hx hb dX5_passArms_0 rfl (lv_at hl 0 rfl) ?_
  refine lv_aload_n hx hb dX5_passArms_1 rfl (lv_at hl 0 rfl) ?_
  refine z_mgeta (j := 10) X hB q3220 rfl (Nat.le_of_ble_eq_true rfl) rfl (by decide) dX5_passArms_2 ?_
  refine lv_aload_n hx hb dX5_passArms_5 rfl (lv_at hl 1 rfl) ?_
  refine z_mcallv (fun _ h => h) (fun I1 hB1 hM => z_runV (rest := []) [.ref (b 10), .ref (b x1)] pk_X5_passes (met_X5_passes hB.1 hM (by decide) hf_x1 _ h) X hB1 (by decide) q3445 kc_X5 (by decide) (by rw [hB.1.1]) rfl hl.1 (Nat.le_of_ble_eq_true rfl) dX5_passArms_6 (Nat.le_refl 0) (Nat.le_refl 0) (by decide) (by decide)) hB (fun M2 H locs h hB => ?_)
  refine lv_aload_n hx hb dX5_passArms_9 rfl (lv_at hl 0 rfl) ?_
  refine lv_aload_n hx hb dX5_passArms_10 rfl (lv_at hl 0 rfl) ?_
  refine z_mgeta (j := 11) X hB q3221 rfl (Nat.le_of_ble_eq_true rfl) rfl (by decide) dX5_passArms_11 ?_
  refine lv_aload_n hx hb dX5_passArms_14 rfl (lv_at hl 1 rfl) ?_
  refine z_mcallv (fun _ h => h) (fun I1 hB1 hM => z_runV (rest := []) [.ref (b 11), .ref (b x1)] pk_X5_passes (met_X5_passes hB.1 hM (by decide) hf_x1 _ h) X hB1 (by decide) q3445 kc_X5 (by decide) (by rw [hB.1.1]) rfl hl.1 (Nat.le_of_ble_eq_true rfl) dX5_passArms_15 (Nat.le_refl 0) (Nat.le_refl 0) (by decide) (by decide)) hB (fun M4 H locs h hB => ?_)
  refine lv_aload_n hx hb dX5_passArms_18 rfl (lv_at hl 0 rfl) ?_
  refine lv_aload_n hx hb dX5_passArms_19 rfl (lv_at hl 0 rfl) ?_
  refine z_mgeta (j := 12) X hB q3222 rfl (Nat.le_of_ble_eq_true rfl) rfl (by decide) dX5_passArms_20 ?_
  refine lv_aload_n hx hb dX5_passArms_23 rfl (lv_at hl 1 rfl) ?_
  refine z_mcallv (fun _ h => h) (fun I1 hB1 hM => z_runV (rest := []) [.ref (b 12), .ref (b x1)] pk_X5_passes (met_X5_passes hB.1 hM (by decide) hf_x1 _ h) X hB1 (by decide) q3445 kc_X5 (by decide) (by rw [hB.1.1]) rfl hl.1 (Nat.le_of_ble_eq_true rfl) dX5_passArms_24 (Nat.le_refl 0) (Nat.le_refl 0) (by decide) (by decide)) hB (fun M6 H locs h hB => ?_)
  refine lv_aload_n hx hb dX5_passArms_27 rfl (lv_at hl 0 rfl) ?_
  refine lv_aload_n hx hb dX5_passArms_28 rfl (lv_at hl 0 rfl) ?_
  refine z_mgeta (j := 13) X hB q3223 rfl (Nat.le_of_ble_eq_true rfl) rfl (by decide) dX5_passArms_29 ?_
  refine lv_aload_n hx hb dX5_passArms_32 rfl (lv_at hl 1 rfl) ?_
  refine z_mcallv (fun _ h => h) (fun I1 hB1 hM => z_runV (rest := []) [.ref (b 13), .ref (b x1)] pk_X5_passes (met_X5_passes hB.1 hM (by decide) hf_x1 _ h) X hB1 (by decide) q3445 kc_X5 (by decide) (by rw [hB.1.1]) rfl hl.1 (Nat.le_of_ble_eq_true rfl) dX5_passArms_33 (Nat.le_refl 0) (Nat.le_refl 0) (by decide) (by decide)) hB (fun M8 H locs h hB => ?_)
  refine lv_aload_n hx hb dX5_passArms_36 rfl (lv_at hl 0 rfl) ?_
  refine lv_aload_n hx hb dX5_passArms_37 rfl (lv_at hl 0 rfl) ?_
  refine z_mgeta (j := 14) X hB q3224 rfl (Nat.le_of_ble_eq_true rfl) rfl (by decide) dX5_passArms_38 ?_
  refine lv_aload_n hx hb dX5_passArms_41 rfl (lv_at hl 1 rfl) ?_
  refine z_mcallv (fun _ h => h) (fun I1 hB1 hM => z_runV (rest := []) [.ref (b 14), .ref (b x1)] pk_X5_passes (met_X5_passes hB.1 hM (by decide) hf_x1 _ h) X hB1 (by decide) q3445 kc_X5 (by decide) (by rw [hB.1.1]) rfl hl.1 (Nat.le_of_ble_eq_true rfl) dX5_passArms_42 (Nat.le_refl 0) (Nat.le_refl 0) (by decide) (by decide)) hB (fun M10 H locs h hB => ?_)
  refine lv_aload_n hx hb dX5_passArms_45 rfl (lv_at hl 0 rfl) ?_
  refine lv_aload_n hx hb dX5_passArms_46 rfl (lv_at hl 0 rfl) ?_
  refine z_mgeta (j := 15) X hB q3225 rfl (Nat.le_of_ble_eq_true rfl) rfl (by decide) dX5_passArms_47 ?_
  refine lv_aload_n hx hb dX5_passArms_50 rfl (lv_at hl 1 rfl) ?_
  refine z_mcallv (fun _ h => h) (fun I1 hB1 hM => z_runV (rest := []) [.ref (b 15), .ref (b x1)] pk_X5_passes (met_X5_passes hB.1 hM (by decide) hf_x1 _ h) X hB1 (by decide) q3445 kc_X5 (by decide) (by rw [hB.1.1]) rfl hl.1 (Nat.le_of_ble_eq_true rfl) dX5_passArms_51 (Nat.le_refl 0) (Nat.le_refl 0) (by decide) (by decide)) hB (fun M12 H locs h hB => ?_)
  refine lv_aload_n hx hb dX5_passArms_54 rfl (lv_at hl 0 rfl) ?_
  refine lv_aload_n hx hb dX5_passArms_55 rfl (lv_at hl 0 rfl) ?_
  refine z_mgeta (j := 16) X hB q3226 rfl (Nat.le_of_ble_eq_true rfl) rfl (by decide) dX5_passArms_56 ?_
  refine lv_aload_n hx hb dX5_passArms_59 rfl (lv_at hl 1 rfl) ?_
  refine z_mcallv (fun _ h => h) (fun I1 hB1 hM => z_runV (rest := []) [.ref (b 16), .ref (b x1)] pk_X5_passes (met_X5_passes hB.1 hM (by decide) hf_x1 _ h) X hB1 (by decide) q3445 kc_X5 (by decide) (by rw [hB.1.1]) rfl hl.1 (Nat.le_of_ble_eq_true rfl) dX5_passArms_60 (Nat.le_refl 0) (Nat.le_refl 0) (by decide) (by decide)) hB (fun M14 H locs h hB => ?_)
  refine lv_aload_n hx hb dX5_passArms_63 rfl (lv_at hl 0 rfl) ?_
  refine lv_aload_n hx hb dX5_passArms_64 rfl (lv_at hl 0 rfl) ?_
  refine z_mgeta (j := 17) X hB q3227 rfl (Nat.le_of_ble_eq_true rfl) rfl (by decide) dX5_passArms_65 ?_
  refine lv_aload_n hx hb dX5_passArms_68 rfl (lv_at hl 1 rfl) ?_
  refine z_mcallv (fun _ h => h) (fun I1 hB1 hM => z_runV (rest := []) [.ref (b 17), .ref (b x1)] pk_X5_passes (met_X5_passes hB.1 hM (by decide) hf_x1 _ h) X hB1 (by decide) q3445 kc_X5 (by decide) (by rw [hB.1.1]) rfl hl.1 (Nat.le_of_ble_eq_true rfl) dX5_passArms_69 (Nat.le_refl 0) (Nat.le_refl 0) (by decide) (by decide)) hB (fun M16 H locs h hB => ?_)
  refine lv_aload_n hx hb dX5_passArms_72 rfl (lv_at hl 0 rfl) ?_
  refine lv_aload_n hx hb dX5_passArms_73 rfl (lv_at hl 0 rfl) ?_
  refine z_mgeta (j := 18) X hB q3228 rfl (Nat.le_of_ble_eq_true rfl) rfl (by decide) dX5_passArms_74 ?_
  refine lv_aload_n hx hb dX5_passArms_77 rfl (lv_at hl 1 rfl) ?_
  refine z_mcallv (fun _ h => h) (fun I1 hB1 hM => z_runV (rest := []) [.ref (b 18), .ref (b x1)] pk_X5_passes (met_X5_passes hB.1 hM (by decide) hf_x1 _ h) X hB1 (by decide) q3445 kc_X5 (by decide) (by rw [hB.1.1]) rfl hl.1 (Nat.le_of_ble_eq_true rfl) dX5_passArms_78 (Nat.le_refl 0) (Nat.le_refl 0) (by decide) (by decide)) hB (fun M18 H locs h hB => ?_)
  refine lv_aload_n hx hb dX5_passArms_81 rfl (lv_at hl 0 rfl) ?_
  refine lv_aload_n hx hb dX5_passArms_82 rfl (lv_at hl 0 rfl) ?_
  refine z_mgeta (j := 19) X hB q3229 rfl (Nat.le_of_ble_eq_true rfl) rfl (by decide) dX5_passArms_83 ?_
  refine lv_aload_n hx hb dX5_passArms_86 rfl (lv_at hl 1 rfl) ?_
  refine z_mcallv (fun _ h => h) (fun I1 hB1 hM => z_runV (rest := []) [.ref (b 19), .ref (b x1)] pk_X5_passes (met_X5_passes hB.1 hM (by decide) hf_x1 _ h) X hB1 (by decide) q3445 kc_X5 (by decide) (by rw [hB.1.1]) rfl hl.1 (Nat.le_of_ble_eq_true rfl) dX5_passArms_87 (Nat.le_refl 0) (Nat.le_refl 0) (by decide) (by decide)) hB (fun M20 H locs h hB => ?_)
  refine lv_aload_n hx hb dX5_passArms_90 rfl (lv_at hl 0 rfl) ?_
  refine lv_aload_n hx hb dX5_passArms_91 rfl (lv_at hl 0 rfl) ?_
  refine z_mgeta (j := 20) X hB q3230 rfl (Nat.le_of_ble_eq_true rfl) rfl (by decide) dX5_passArms_92 ?_
  refine lv_aload_n hx hb dX5_passArms_95 rfl (lv_at hl 1 rfl) ?_
  refine z_mcallv (fun _ h => h) (fun I1 hB1 hM => z_runV (rest := []) [.ref (b 20), .ref (b x1)] pk_X5_passes (met_X5_passes hB.1 hM (by decide) hf_x1 _ h) X hB1 (by decide) q3445 kc_X5 (by decide) (by rw [hB.1.1]) rfl hl.1 (Nat.le_of_ble_eq_true rfl) dX5_passArms_96 (Nat.le_refl 0) (Nat.le_refl 0) (by decide) (by decide)) hB (fun M22 H locs h hB => ?_)
  refine lv_aload_n hx hb dX5_passArms_99 rfl (lv_at hl 0 rfl) ?_
  refine lv_aload_n hx hb dX5_passArms_100 rfl (lv_at hl 0 rfl) ?_
  refine z_mgeta (j := 21) X hB q3231 rfl (Nat.le_of_ble_eq_true rfl) rfl (by decide) dX5_passArms_101 ?_
  refine lv_aload_n hx hb dX5_passArms_104 rfl (lv_at hl 1 rfl) ?_
  refine z_mcallv (fun _ h => h) (fun I1 hB1 hM => z_runV (rest := []) [.ref (b 21), .ref (b x1)] pk_X5_passes (met_X5_passes hB.1 hM (by decide) hf_x1 _ h) X hB1 (by decide) q3445 kc_X5 (by decide) (by rw [hB.1.1]) rfl hl.1 (Nat.le_of_ble_eq_true rfl) dX5_passArms_105 (Nat.le_refl 0) (Nat.le_refl 0) (by decide) (by decide)) hB (fun M24 H locs h hB => ?_)
  obtain ⟨hL, I, hB, hM⟩ := hB
  exact z_vret X hB ⟨rfl, (by rw [hM]; exact h), rfl, rfl⟩ (Nat.le_refl 0) (Nat.le_refl 0) dX5_passArms_108
theorem pk_X5_passArms : z_PV RX5 yX5_passArms cX5_passArms 2 none 1 := ⟨q3451, qs55, q131, q3452, by decide +kernel⟩
theorem met_X5_passArms {l : Launch} {G : z_E} {T : z_T} {I : z_I} {Q : z_Q} {o : Nat} {b : Nat → Nat} {M : z_M} (hL : z_lie T Q o b) (hM : z_of I o b = M) {x1 : Nat} (hf_x1 : z_ln x1 ≠ 0) (Qk : z_M → Prop) (h : wp_X5_passArms M x1 Qk) : z_GM l G yX5_passArms (ws_ yX5_passArms cX5_passArms 2 none) 9 143 0 0 [.ref o, .ref (b x1)] z_P1c T I Q (z_mv_ Qk T Q o b) z_no := by
  refine z_body (own := RX5) (nm := "passArms") (by decide +kernel) rfl rfl (Nat.le_of_ble_eq_true rfl) (fun p e R s m below meth c A ls X hB hl => ?_)
  exact ww_X5_passArms_0 X hf_x1 ⟨hL, I, hB, hM⟩ hl h
/-! X5_passJobs -/
theorem ww_X5_passJobs_0 {Qk : z_M → Prop} (X : z_XM l G A p R s m args meth c cX5_passJobs 2 "passJobs" none 9 143) {M : z_M} {x1 : Nat} {H : Heap} {locs : List Loc} {ls : Array Slot} (hf_x1 : z_ln x1 ≠ 0) (hB : z_MB G z_P1c A s.heap T I0 Q o b M H locs) (hl : lv_has ls 2 [(0, .ref o), (1, .ref (b x1))]) (h : wb_X5_passJobs_0 Qk M x1) : W p l e R s m args below meth c H locs 0 0 (z_MQ below G z_P1c A T I0 Q (z_mv_ Qk T Q o b) z_no args s 0 0) (F0 m 0 ls []) := by
  obtain ⟨hx, hb, -⟩ := id X
  unfold wb_X5_passJobs_0 at h
  refine lv_aload_n hx hb dX5_passJobs_0 rfl (lv_at hl 0 rfl) ?_
  refine lv_aload_n hx hb dX5_passJobs_1 rfl (lv_at hl 0 rfl) ?_
  refine z_mgeta (j := 22) X hB q3232 rfl (Nat.le_of_ble_eq_true rfl) rfl (by decide) dX5_passJobs_2 ?_
  refine lv_aload_n hx hb dX5_passJobs_5 rfl (lv_at hl 1 rfl) ?_
  refine z_mcallv (fun _ h => h) (fun I1 hB1 hM => z_runV (rest := []) [.ref (b 22), .ref (b x1)] pk_X5_passes (met_X5_passes hB.1 hM (by decide) hf_x1 _ h) X hB1 (by decide) q3445 kc_X5 (by decide) (by rw [hB.1.1]) rfl hl.1 (Nat.le_of_ble_eq_true rfl) dX5_passJobs_6 (Nat.le_refl 0) (Nat.le_refl 0) (by decide) (by decide)) hB (fun M2 H locs h hB => ?_)
  refine lv_aload_n hx hb dX5_passJobs_9 rfl (lv_at hl 0 rfl) ?_
  refine lv_aload_n hx hb dX5_passJobs_10 rfl (lv_at hl 0 rfl) ?_
  refine z_mgeta (j := 23) X hB q3233 rfl (Nat.le_of_ble_eq_true rfl) rfl (by decide) dX5_passJobs_11 ?_
  refine lv_aload_n hx hb dX5_passJobs_14 rfl (lv_at hl 1 rfl) ?_
  refine z_mcallv (fun _ h => h) (fun I1 hB1 hM => z_runV (rest := []) [.ref (b 23), .ref (b x1)] pk_X5_passes (met_X5_passes hB.1 hM (by decide) hf_x1 _ h) X hB1 (by decide) q3445 kc_X5 (by decide) (by rw [hB.1.1]) rfl hl.1 (Nat.le_of_ble_eq_true rfl) dX5_passJobs_15 (Nat.le_refl 0) (Nat.le_refl 0) (by decide) (by decide)) hB (fun M4 H locs h hB => ?_)
  refine lv_aload_n hx hb dX5_passJobs_18 rfl (lv_at hl 0 rfl) ?_
  refine lv_aload_n hx hb dX5_passJobs_19 rfl (lv_at hl 0 rfl) ?_
  refine z_mgeta (j := 24) X hB q3234 rfl (Nat.le_of_ble_eq_true rfl) rfl (by decide) dX5_passJobs_20 ?_
  refine lv_aload_n hx hb dX5_passJobs_23 rfl (lv_at hl 1 rfl) ?_
  refine z_mcallv (fun _ h => h) (fun I1 hB1 hM => z_runV (rest := []) [.ref (b 24), .ref (b x1)] pk_X5_passes (met_X5_passes hB.1 hM (by decide) hf_x1 _ h) X hB1 (by decide) q3445 kc_X5 (by decide) (by rw [hB.1.1]) rfl hl.1 (Nat.le_of_ble_eq_true rfl) dX5_passJobs_24 (Nat.le_refl 0) (Nat.le_refl 0) (by decide) (by decide)) hB (fun M6 H locs h hB => ?_)
  refine lv_aload_n hx hb dX5_passJobs_27 rfl (lv_at hl 0 rfl) ?_
  refine lv_aload_n hx hb dX5_passJobs_28 rfl (lv_at hl 0 rfl) ?_
  refine z_mgeta (j := 25) X hB q3235 rfl (Nat.le_of_ble_eq_true rfl) rfl (by decide) dX5_passJobs_29 ?_
  refine lv_aload_n hx hb dX5_passJobs_32 rfl (lv_at hl 1 rfl) ?_
  refine z_mcallv (fun _ h => h) (fun I1 hB1 hM => z_runV (rest := []) [.ref (b 25), .ref (b x1)] pk_X5_passes (met_X5_passes hB.1 hM (by decide) hf_x1 _ h) X hB1 (by decide) q3445 kc_X5 (by decide) (by rw [hB.1.1]) rfl hl.1 (Nat.le_of_ble_eq_true rfl) dX5_passJobs_33 (Nat.le_refl 0) (Nat.le_refl 0) (by decide) (by decide)) hB (fun M8 H locs h hB => ?_)
  refine lv_aload_n hx hb dX5_passJobs_36 rfl (lv_at hl 0 rfl) ?_
  refine lv_aload_n hx hb dX5_passJobs_37 rfl (lv_at hl 0 rfl) ?_
  refine z_mgeta (j := 26) X hB q3236 rfl (Nat.le_of_ble_eq_true rfl) rfl (by decide) dX5_passJobs_38 ?_
  refine lv_aload_n hx hb dX5_passJobs_41 rfl (lv_at hl 1 rfl) ?_
  refine z_mcallv (fun _ h => h) (fun I1 hB1 hM => z_runV (rest := []) [.ref (b 26), .ref (b x1)] pk_X5_passes (met_X5_passes hB.1 hM (by decide) hf_x1 _ h) X hB1 (by decide) q3445 kc_X5 (by decide) (by rw [hB.1.1]) rfl hl.1 (Nat.le_of_ble_eq_true rfl) dX5_passJobs_42 (Nat.le_refl 0) (Nat.le_refl 0) (by decide) (by decide)) hB (fun M10 H locs h hB => ?_)
  refine lv_aload_n hx hb dX5_passJobs_45 rfl (lv_at hl 0 rfl) ?_
  refine lv_aload_n hx hb dX5_passJobs_46 rfl (lv_at hl 0 rfl) ?_
  refine z_mgeta (j := 27) X hB q3237 rfl (Nat.le_of_ble_eq_true rfl) rfl (by decide) dX5_passJobs_47 ?_
  refine lv_aload_n hx hb dX5_passJobs_50 rfl (lv_at hl 1 rfl) ?_
  refine z_mcallv (fun _ h => h) (fun I1 hB1 hM => z_runV (rest := []) [.ref (b 27), .ref (b x1)] pk_X5_passes (met_X5_passes hB.1 hM (by decide) hf_x1 _ h) X hB1 (by decide) q3445 kc_X5 (by decide) (by rw [hB.1.1]) rfl hl.1 (Nat.le_of_ble_eq_true rfl) dX5_passJobs_51 (Nat.le_refl 0) (Nat.le_refl 0) (by decide) (by decide)) hB (fun M12 H locs h hB => ?_)
  refine lv_aload_n hx hb dX5_passJobs_54 rfl (lv_at hl 0 rfl) ?_
  refine lv_aload_n hx hb dX5_passJobs_55 rfl (lv_at hl 0 rfl) ?_
  refine z_mgeta (j := 28) X hB q3238 rfl (Nat.le_of_ble_eq_true rfl) rfl (by decide) dX5_passJobs_56 ?_
  refine lv_aload_n hx hb dX5_passJobs_59 rfl (lv_at hl 1 rfl) ?_
  refine z_mcallv (fun _ h => h) (fun I1 hB1 hM => z_runV (rest := []) [.ref (b 28), .ref (b x1)] pk_X5_passes (met_X5_passes hB.1 hM (by decide) hf_x1 _ h) X hB1 (by decide) q3445 kc_X5 (by decide) (by rw [hB.1.1]) rfl hl.1 (Nat.le_of_ble_eq_true rfl) dX5_passJobs_60 (Nat.le_refl 0) (Nat.le_refl 0) (by decide) (by decide)) hB (fun M14 H locs h hB => ?_)
  refine lv_aload_n hx hb dX5_passJobs_63 rfl (lv_at hl 0 rfl) ?_
  refine lv_aload_n hx hb dX5_passJobs_64 rfl (lv_at hl 0 rfl) ?_
  refine z_mgeta (j := 29) X hB q3239 rfl (Nat.le_of_ble_eq_true rfl) rfl (by decide) dX5_passJobs_65 ?_
  refine lv_aload_n hx hb dX5_passJobs_68 rfl (lv_at hl 1 rfl) ?_
  refine z_mcallv (fun _ h => h) (fun I1 hB1 hM => z_runV (rest := []) [.ref (b 29), .ref (b x1)] pk_X5_passes (met_X5_passes hB.1 hM (by decide) hf_x1 _ h) X hB1 (by decide) q3445 kc_X5 (by decide) (by rw [hB.1.1]) rfl hl.1 (Nat.le_of_ble_eq_true rfl) dX5_passJobs_69 (Nat.le_refl 0) (Nat.le_refl 0) (by decide) (by decide)) hB (fun M16 H locs h hB => ?_)
  refine lv_aload_n hx hb dX5_passJobs_72 rfl (lv_at hl 0 rfl) ?_
  refine lv_aload_n hx hb dX5_passJobs_73 rfl (lv_at hl 0 rfl) ?_
  refine z_mgeta (j := 30) X hB q3240 rfl (Nat.le_of_ble_eq_true rfl) rfl (by decide) dX5_passJobs_74 ?_
  refine lv_aload_n hx hb dX5_passJobs_77 rfl (lv_at hl 1 rfl) ?_
  refine z_mcallv (fun _ h => h) (fun I1 hB1 hM => z_runV (rest := []) [.ref (b 30), .ref (b x1)] pk_X5_passes (met_X5_passes hB.1 hM (by decide) hf_x1 _ h) X hB1 (by decide) q3445 kc_X5 (by decide) (by rw [hB.1.1]) rfl hl.1 (Nat.le_of_ble_eq_true rfl) dX5_passJobs_78 (Nat.le_refl 0) (Nat.le_refl 0) (by decide) (by decide)) hB (fun M18 H locs h hB => ?_)
  refine lv_aload_n hx hb dX5_passJobs_81 rfl (lv_at hl 0 rfl) ?_
  refine lv_aload_n hx hb dX5_passJobs_82 rfl (lv_at hl 0 rfl) ?_
  refine z_mgeta (j := 31) X hB q3241 rfl (Nat.le_of_ble_eq_true rfl) rfl (by decide) dX5_passJobs_83 ?_
  refine lv_aload_n hx hb dX5_passJobs_86 rfl (lv_at hl 1 rfl) ?_
  refine z_mcallv (fun _ h => h) (fun I1 hB1 hM => z_runV (rest := []) [.ref (b 31), .ref (b x1)] pk_X5_passes (met_X5_passes hB.1 hM (by decide) hf_x1 _ h) X hB1 (by decide) q3445 kc_X5 (by decide) (by rw [hB.1.1]) rfl hl.1 (Nat.le_of_ble_eq_true rfl) dX5_passJobs_87 (Nat.le_refl 0) (Nat.le_refl 0) (by decide) (by decide)) hB (fun M20 H locs h hB => ?_)
  obtain ⟨hL, I, hB, hM⟩ := hB
  exact z_vret X hB ⟨rfl, (by rw [hM]; exact h), rfl, rfl⟩ (Nat.le_refl 0) (Nat.le_refl 0) dX5_passJobs_90
theorem pk_X5_passJobs : z_PV RX5 yX5_passJobs cX5_passJobs 2 none 1 := ⟨q3455, qs56, q131, q3456, by decide +kernel⟩
theorem met_X5_passJobs {l : Launch} {G : z_E} {T : z_T} {I : z_I} {Q : z_Q} {o : Nat} {b : Nat → Nat} {M : z_M} (hL : z_lie T Q o b) (hM : z_of I o b = M) {x1 : Nat} (hf_x1 : z_ln x1 ≠ 0) (Qk : z_M → Prop) (h : wp_X5_passJobs M x1 Qk) : z_GM l G yX5_passJobs (ws_ yX5_passJobs cX5_passJobs 2 none) 9 143 0 0 [.ref o, .ref (b x1)] z_P1c T I Q (z_mv_ Qk T Q o b) z_no := by
  refine z_body (own := RX5) (nm := "passJobs") (by decide +kernel) rfl rfl (Nat.le_of_ble_eq_true rfl) (fun p e R s m below meth c A ls X hB hl => ?_)
  exact ww_X5_passJobs_0 X hf_x1 ⟨hL, I, hB, hM⟩ hl h
/-! X5_passAll -/
theorem ww_X5_passAll_0 {Qk : z_M → Prop} (X : z_XM l G A p R s m args meth c cX5_passAll 4 "passAll" none 10 164) {M : z_M} {x1 : Nat} {x2 : Int32} {x3 : Int32} {H : Heap} {locs : List Loc} {ls : Array Slot} (hf_x1 : z_ln x1 ≠ 0) (hB : z_MB G z_P1c A s.heap T I0 Q o b M H locs) (hl : lv_has ls 4 [(0, .ref o), (1, .ref (b x1)), (2, .int x2), (3, .int x3)]) (h : wb_X5_passAll_0 Qk M x1 x2 x3) : W p l e R s m args below meth c H locs 0 0 (z_MQ below G z_P1c A T I0 Q (z_mv_ Qk T Q o b) z_no args s 0 0) (F0 m 0 ls []) := by
  obtain ⟨hx, hb, -⟩ := id X
  unfold wb_X5_passAll_0 at h
  refine lv_aload_n hx hb dX5_passAll_0 rfl (lv_at hl 0 rfl) ?_
  refine lv_iload_n hx hb dX5_passAll_1 rfl (lv_at hl 3 rfl) ?_
  obtain ⟨hz, h⟩ := h
  obtain ⟨M1, eM1⟩ : ∃ z, z = z_us M 62 x3 := ⟨_, rfl⟩
  have h := h M1 eM1
  refine z_mputs (j := 62) (ty := .boolean) X hB q3272 rfl (Nat.le_of_ble_eq_true rfl) rfl rfl rfl rfl (Or.inr ⟨rfl, hz⟩) rfl dX5_passAll_2 (fun H locs hB => ?_)
  rw [← eM1] at hB
  refine lv_aload_n hx hb dX5_passAll_5 rfl (lv_at hl 0 rfl) ?_
  refine lv_iload_n hx hb dX5_passAll_6 rfl (lv_at hl 2 rfl) ?_
  obtain ⟨M2, eM2⟩ : ∃ z, z = z_us M1 60 x2 := ⟨_, rfl⟩
  have h := h M2 eM2
  refine z_mputs (j := 60) (ty := .int) X hB q3270 rfl (Nat.le_of_ble_eq_true rfl) rfl rfl rfl rfl (Or.inl rfl) rfl dX5_passAll_7 (fun H locs hB => ?_)
  rw [← eM2] at hB
  refine lv_aload_n hx hb dX5_passAll_10 rfl (lv_at hl 0 rfl) ?_
  refine lv_aload_n hx hb dX5_passAll_11 rfl (lv_at hl 0 rfl) ?_
  refine z_mgeta (j := 1) X hB q3211 rfl (Nat.le_of_ble_eq_true rfl) rfl (by decide) dX5_passAll_12 ?_
  refine lv_aload_n hx hb dX5_passAll_15 rfl (lv_at hl 1 rfl) ?_
  refine z_mcallv (fun _ h => h) (fun I1 hB1 hM => z_runV (rest := []) [.ref (b 1), .ref (b x1)] pk_X5_passes (met_X5_passes hB.1 hM (by decide) hf_x1 _ h) X hB1 (by decide) q3445 kc_X5 (by decide) (by rw [hB.1.1]) rfl hl.1 (Nat.le_of_ble_eq_true rfl) dX5_passAll_16 (Nat.le_refl 0) (Nat.le_refl 0) (by decide) (by decide)) hB (fun M4 H locs h hB => ?_)
  refine lv_aload_n hx hb dX5_passAll_19 rfl (lv_at hl 0 rfl) ?_
  refine lv_aload_n hx hb dX5_passAll_20 rfl (lv_at hl 0 rfl) ?_
  refine z_mgeta (j := 2) X hB q3212 rfl (Nat.le_of_ble_eq_true rfl) rfl (by decide) dX5_passAll_21 ?_
  refine lv_aload_n hx hb dX5_passAll_24 rfl (lv_at hl 1 rfl) ?_
  refine z_mcallv (fun _ h => h) (fun I1 hB1 hM => z_runV (rest := []) [.ref (b 2), .ref (b x1)] pk_X5_passes (met_X5_passes hB.1 hM (by decide) hf_x1 _ h) X hB1 (by decide) q3445 kc_X5 (by decide) (by rw [hB.1.1]) rfl hl.1 (Nat.le_of_ble_eq_true rfl) dX5_passAll_25 (Nat.le_refl 0) (Nat.le_refl 0) (by decide) (by decide)) hB (fun M6 H locs h hB => ?_)
  refine lv_aload_n hx hb dX5_passAll_28 rfl (lv_at hl 0 rfl) ?_
  refine lv_aload_n hx hb dX5_passAll_29 rfl (lv_at hl 0 rfl) ?_
  refine z_mgeta (j := 3) X hB q3213 rfl (Nat.le_of_ble_eq_true rfl) rfl (by decide) dX5_passAll_30 ?_
  refine lv_aload_n hx hb dX5_passAll_33 rfl (lv_at hl 1 rfl) ?_
  refine z_mcallv (fun _ h => h) (fun I1 hB1 hM => z_runV (rest := []) [.ref (b 3), .ref (b x1)] pk_X5_passes (met_X5_passes hB.1 hM (by decide) hf_x1 _ h) X hB1 (by decide) q3445 kc_X5 (by decide) (by rw [hB.1.1]) rfl hl.1 (Nat.le_of_ble_eq_true rfl) dX5_passAll_34 (Nat.le_refl 0) (Nat.le_refl 0) (by decide) (by decide)) hB (fun M8 H locs h hB => ?_)
  refine lv_aload_n hx hb dX5_passAll_37 rfl (lv_at hl 0 rfl) ?_
  refine lv_aload_n hx hb dX5_passAll_38 rfl (lv_at hl 0 rfl) ?_
  refine z_mgeta (j := 4) X hB q3214 rfl (Nat.le_of_ble_eq_true rfl) rfl (by decide) dX5_passAll_39 ?_
  refine lv_aload_n hx hb dX5_passAll_42 rfl (lv_at hl 1 rfl) ?_
  refine z_mcallv (fun _ h => h) (fun I1 hB1 hM => z_runV (rest := []) [.ref (b 4), .ref (b x1)] pk_X5_passes (met_X5_passes hB.1 hM (by decide) hf_x1 _ h) X hB1 (by decide) q3445 kc_X5 (by decide) (by rw [hB.1.1]) rfl hl.1 (Nat.le_of_ble_eq_true rfl) dX5_passAll_43 (Nat.le_refl 0) (Nat.le_refl 0) (by decide) (by decide)) hB (fun M10 H locs h hB => ?_)
  refine lv_aload_n hx hb dX5_passAll_46 rfl (lv_at hl 0 rfl) ?_
  refine lv_aload_n hx hb dX5_passAll_47 rfl (lv_at hl 0 rfl) ?_
  refine z_mgeta (j := 5) X hB q3215 rfl (Nat.le_of_ble_eq_true rfl) rfl (by decide) dX5_passAll_48 ?_
  refine lv_aload_n hx hb dX5_passAll_51 rfl (lv_at hl 1 rfl) ?_
  refine z_mcallv (fun _ h => h) (fun I1 hB1 hM => z_runV (rest := []) [.ref (b 5), .ref (b x1)] pk_X5_passes (met_X5_passes hB.1 hM (by decide) hf_x1 _ h) X hB1 (by decide) q3445 kc_X5 (by decide) (by rw [hB.1.1]) rfl hl.1 (Nat.le_of_ble_eq_true rfl) dX5_passAll_52 (Nat.le_refl 0) (Nat.le_refl 0) (by decide) (by decide)) hB (fun M12 H locs h hB => ?_)
  refine lv_aload_n hx hb dX5_passAll_55 rfl (lv_at hl 0 rfl) ?_
  refine lv_aload_n hx hb dX5_passAll_56 rfl (lv_at hl 0 rfl) ?_
  refine z_mgeta (j := 6) X hB q3216 rfl (Nat.le_of_ble_eq_true rfl) rfl (by decide) dX5_passAll_57 ?_
  refine lv_aload_n hx hb dX5_passAll_60 rfl (lv_at hl 1 rfl) ?_
  refine z_mcallv (fun _ h => h) (fun I1 hB1 hM => z_runV (rest := []) [.ref (b 6), .ref (b x1)] pk_X5_passes (met_X5_passes hB.1 hM (by decide) hf_x1 _ h) X hB1 (by decide) q3445 kc_X5 (by decide) (by rw [hB.1.1]) rfl hl.1 (Nat.le_of_ble_eq_true rfl) dX5_passAll_61 (Nat.le_refl 0) (Nat.le_refl 0) (by decide) (by decide)) hB (fun M14 H locs h hB => ?_)
  refine lv_aload_n hx hb dX5_passAll_64 rfl (lv_at hl 0 rfl) ?_
  refine lv_aload_n hx hb dX5_passAll_65 rfl (lv_at hl 0 rfl) ?_
  refine z_mgeta (j := 7) X hB q3217 rfl (Nat.le_of_ble_eq_true rfl) rfl (by decide) dX5_passAll_66 ?_
  refine lv_aload_n hx hb dX5_passAll_69 rfl (lv_at hl 1 rfl) ?_
  refine z_mcallv (fun _ h => h) (fun I1 hB1 hM => z_runV (rest := []) [.ref (b 7), .ref (b x1)] pk_X5_passes (met_X5_passes hB.1 hM (by decide) hf_x1 _ h) X hB1 (by decide) q3445 kc_X5 (by decide) (by rw [hB.1.1]) rfl hl.1 (Nat.le_of_ble_eq_true rfl) dX5_passAll_70 (Nat.le_refl 0) (Nat.le_refl 0) (by decide) (by decide)) hB (fun M16 H locs h hB => ?_)
  refine lv_aload_n hx hb dX5_passAll_73 rfl (lv_at hl 0 rfl) ?_
  refine lv_aload_n hx hb dX5_passAll_74 rfl (lv_at hl 0 rfl) ?_
  refine z_mgeta (j := 8) X hB q3218 rfl (Nat.le_of_ble_eq_true rfl) rfl (by decide) dX5_passAll_75 ?_
  refine lv_aload_n hx hb dX5_passAll_78 rfl (lv_at hl 1 rfl) ?_
  refine z_mcallv (fun _ h => h) (fun I1 hB1 hM => z_runV (rest := []) [.ref (b 8), .ref (b x1)] pk_X5_passes (met_X5_passes hB.1 hM (by decide) hf_x1 _ h) X hB1 (by decide) q3445 kc_X5 (by decide) (by rw [hB.1.1]) rfl hl.1 (Nat.le_of_ble_eq_true rfl) dX5_passAll_79 (Nat.le_refl 0) (Nat.le_refl 0) (by decide) (by decide)) hB (fun M18 H locs h hB => ?_)
  refine lv_aload_n hx hb dX5_passAll_82 rfl (lv_at hl 0 rfl) ?_
  refine lv_aload_n hx hb dX5_passAll_83 rfl (lv_at hl 0 rfl) ?_
  refine z_mgeta (j := 9) X hB q3219 rfl (Nat.le_of_ble_eq_true rfl) rfl (by decide) dX5_passAll_84 ?_
  refine lv_aload_n hx hb dX5_passAll_87 rfl (lv_at hl 1 rfl) ?_
  refine z_mcallv (fun _ h => h) (fun I1 hB1 hM => z_runV (rest := []) [.ref (b 9), .ref (b x1)] pk_X5_passes (met_X5_passes hB.1 hM (by decide) hf_x1 _ h) X hB1 (by decide) q3445 kc_X5 (by decide) (by rw [hB.1.1]) rfl hl.1 (Nat.le_of_ble_eq_true rfl) dX5_passAll_88 (Nat.le_refl 0) (Nat.le_refl 0) (by decide) (by decide)) hB (fun M20 H locs h hB => ?_)
  refine lv_aload_n hx hb dX5_passAll_91 rfl (lv_at hl 0 rfl) ?_
  refine lv_aload_n hx hb dX5_passAll_92 rfl (lv_at hl 1 rfl) ?_
  refine z_mcallv (fun _ h => h) (fun I1 hB1 hM => z_runV (rest := []) [.ref (b x1)] pk_X5_passArms (met_X5_passArms hB.1 hM hf_x1 _ h) X hB1 (by decide) q3449 kc_X5 (by decide) (by rw [hB.1.1]) rfl hl.1 (Nat.le_of_ble_eq_true rfl) dX5_passAll_93 (Nat.le_refl 0) (Nat.le_refl 0) (by decide) (by decide)) hB (fun M22 H locs h hB => ?_)
  refine lv_aload_n hx hb dX5_passAll_96 rfl (lv_at hl 0 rfl) ?_
  refine lv_aload_n hx hb dX5_passAll_97 rfl (lv_at hl 1 rfl) ?_
  refine z_mcallv (fun _ h => h) (fun I1 hB1 hM => z_runV (rest := []) [.ref (b x1)] pk_X5_passJobs (met_X5_passJobs hB.1 hM hf_x1 _ h) X hB1 (by decide) q3453 kc_X5 (by decide) (by rw [hB.1.1]) rfl hl.1 (Nat.le_of_ble_eq_true rfl) dX5_passAll_98 (Nat.le_refl 0) (Nat.le_refl 0) (by decide) (by decide)) hB (fun M24 H locs h hB => ?_)
  refine lv_aload_n hx hb dX5_passAll_101 rfl (lv_at hl 0 rfl) ?_
  refine lv_aload_n hx hb dX5_passAll_102 rfl (lv_at hl 0 rfl) ?_
  refine z_mgeta (j := 32) X hB q3242 rfl (Nat.le_of_ble_eq_true rfl) rfl (by decide) dX5_passAll_103 ?_
  refine lv_aload_n hx hb dX5_passAll_106 rfl (lv_at hl 1 rfl) ?_
  refine z_mcallv (fun _ h => h) (fun I1 hB1 hM => z_runV (rest := []) [.ref (b 32), .ref (b x1)] pk_X5_passes (met_X5_passes hB.1 hM (by decide) hf_x1 _ h) X hB1 (by decide) q3445 kc_X5 (by decide) (by rw [hB.1.1]) rfl hl.1 (Nat.le_of_ble_eq_true rfl) dX5_passAll_107 (Nat.le_refl 0) (Nat.le_refl 0) (by decide) (by decide)) hB (fun M26 H locs h hB => ?_)
  refine lv_aload_n hx hb dX5_passAll_110 rfl (lv_at hl 0 rfl) ?_
  refine lv_aload_n hx hb dX5_passAll_111 rfl (lv_at hl 0 rfl) ?_
  refine lv_aload_n hx hb dX5_passAll_112 rfl (lv_at hl 0 rfl) ?_
  refine z_mgets (j := 33) X hB q3243 rfl (Nat.le_of_ble_eq_true rfl) rfl rfl dX5_passAll_113 ?_
  refine lv_aload_n hx hb dX5_passAll_116 rfl (lv_at hl 1 rfl) ?_
  refine z_mcalli (fun _ h => h) (fun I1 hB1 hM => z_runV (rest := [.ref o]) [.int (M26 33 0), .ref (b x1)] pk_X5_pass (met_X5_pass hB.1 hM hf_x1 (M26 33 0) _ h) X hB1 (by decide) q3457 kc_X5 (by decide) (by rw [hB.1.1]) rfl hl.1 (Nat.le_of_ble_eq_true rfl) dX5_passAll_117 (Nat.le_refl 0) (Nat.le_refl 0) (by decide) (by decide)) hB (fun r27 M28 H locs h hB => ?_)
  obtain ⟨M29, eM29⟩ : ∃ z, z = z_us M28 33 r27 := ⟨_, rfl⟩
  have h := h M29 eM29
  refine z_mputs (j := 33) (ty := .int) X hB q3243 rfl (Nat.le_of_ble_eq_true rfl) rfl rfl rfl rfl (Or.inl rfl) rfl dX5_passAll_120 (fun H locs hB => ?_)
  rw [← eM29] at hB
  refine lv_aload_n hx hb dX5_passAll_123 rfl (lv_at hl 0 rfl) ?_
  refine lv_aload_n hx hb dX5_passAll_124 rfl (lv_at hl 0 rfl) ?_
  refine lv_aload_n hx hb dX5_passAll_125 rfl (lv_at hl 0 rfl) ?_
  refine z_mgets (j := 34) X hB q3244 rfl (Nat.le_of_ble_eq_true rfl) rfl rfl dX5_passAll_126 ?_
  refine lv_aload_n hx hb dX5_passAll_129 rfl (lv_at hl 1 rfl) ?_
  refine z_mcalli (fun _ h => h) (fun I1 hB1 hM => z_runV (rest := [.ref o]) [.int (M29 34 0), .ref (b x1)] pk_X5_pass (met_X5_pass hB.1 hM hf_x1 (M29 34 0) _ h) X hB1 (by decide) q3457 kc_X5 (by decide) (by rw [hB.1.1]) rfl hl.1 (Nat.le_of_ble_eq_true rfl) dX5_passAll_130 (Nat.le_refl 0) (Nat.le_refl 0) (by decide) (by decide)) hB (fun r30 M31 H locs h hB => ?_)
  obtain ⟨M32, eM32⟩ : ∃ z, z = z_us M31 34 r30 := ⟨_, rfl⟩
  have h := h M32 eM32
  refine z_mputs (j := 34) (ty := .int) X hB q3244 rfl (Nat.le_of_ble_eq_true rfl) rfl rfl rfl rfl (Or.inl rfl) rfl dX5_passAll_133 (fun H locs hB => ?_)
  rw [← eM32] at hB
  refine lv_aload_n hx hb dX5_passAll_136 rfl (lv_at hl 0 rfl) ?_
  refine lv_aload_n hx hb dX5_passAll_137 rfl (lv_at hl 0 rfl) ?_
  refine lv_aload_n hx hb dX5_passAll_138 rfl (lv_at hl 0 rfl) ?_
  refine z_mgets (j := 35) X hB q3245 rfl (Nat.le_of_ble_eq_true rfl) rfl rfl dX5_passAll_139 ?_
  refine lv_aload_n hx hb dX5_passAll_142 rfl (lv_at hl 1 rfl) ?_
  refine z_mcalli (fun _ h => h) (fun I1 hB1 hM => z_runV (rest := [.ref o]) [.int (M32 35 0), .ref (b x1)] pk_X5_pass (met_X5_pass hB.1 hM hf_x1 (M32 35 0) _ h) X hB1 (by decide) q3457 kc_X5 (by decide) (by rw [hB.1.1]) rfl hl.1 (Nat.le_of_ble_eq_true rfl) dX5_passAll_143 (Nat.le_refl 0) (Nat.le_refl 0) (by decide) (by decide)) hB (fun r33 M34 H locs h hB => ?_)
  obtain ⟨M35, eM35⟩ : ∃ z, z = z_us M34 35 r33 := ⟨_, rfl⟩
  have h := h M35 eM35
  refine z_mputs (j := 35) (ty := .int) X hB q3245 rfl (Nat.le_of_ble_eq_true rfl) rfl rfl rfl rfl (Or.inl rfl) rfl dX5_passAll_146 (fun H locs hB => ?_)
  rw [← eM35] at hB
  refine lv_aload_n hx hb dX5_passAll_149 rfl (lv_at hl 0 rfl) ?_
  refine lv_aload_n hx hb dX5_passAll_150 rfl (lv_at hl 0 rfl) ?_
  refine lv_aload_n hx hb dX5_passAll_151 rfl (lv_at hl 0 rfl) ?_
  refine z_mgets (j := 36) X hB q3246 rfl (Nat.le_of_ble_eq_true rfl) rfl rfl dX5_passAll_152 ?_
  refine lv_aload_n hx hb dX5_passAll_155 rfl (lv_at hl 1 rfl) ?_
  refine z_mcalli (fun _ h => h) (fun I1 hB1 hM => z_runV (rest := [.ref o]) [.int (M35 36 0), .ref (b x1)] pk_X5_pass (met_X5_pass hB.1 hM hf_x1 (M35 36 0) _ h) X hB1 (by decide) q3457 kc_X5 (by decide) (by rw [hB.1.1]) rfl hl.1 (Nat.le_of_ble_eq_true rfl) dX5_passAll_156 (Nat.le_refl 0) (Nat.le_refl 0) (by decide) (by decide)) hB (fun r36 M37 H locs h hB => ?_)
  obtain ⟨M38, eM38⟩ : ∃ z, z = z_us M37 36 r36 := ⟨_, rfl⟩
  have h := h M38 eM38
  refine z_mputs (j := 36) (ty := .int) X hB q3246 rfl (Nat.le_of_ble_eq_true rfl) rfl rfl rfl rfl (Or.inl rfl) rfl dX5_passAll_159 (fun H locs hB => ?_)
  rw [← eM38] at hB
  refine lv_aload_n hx hb dX5_passAll_162 rfl (lv_at hl 0 rfl) ?_
  refine lv_aload_n hx hb dX5_passAll_163 rfl (lv_at hl 0 rfl) ?_
  refine lv_aload_n hx hb dX5_passAll_164 rfl (lv_at hl 0 rfl) ?_
  refine z_mgets (j := 37) X hB q3247 rfl (Nat.le_of_ble_eq_true rfl) rfl rfl dX5_passAll_165 ?_
  refine lv_aload_n hx hb dX5_passAll_168 rfl (lv_at hl 1 rfl) ?_
  refine z_mcalli (fun _ h => h) (fun I1 hB1 hM => z_runV (rest := [.ref o]) [.int (M38 37 0), .ref (b x1)] pk_X5_pass (met_X5_pass hB.1 hM hf_x1 (M38 37 0) _ h) X hB1 (by decide) q3457 kc_X5 (by decide) (by rw [hB.1.1]) rfl hl.1 (Nat.le_of_ble_eq_true rfl) dX5_passAll_169 (Nat.le_refl 0) (Nat.le_refl 0) (by decide) (by decide)) hB (fun r39 M40 H locs h hB => ?_)
  obtain ⟨M41, eM41⟩ : ∃ z, z = z_us M40 37 r39 := ⟨_, rfl⟩
  have h := h M41 eM41
  refine z_mputs (j := 37) (ty := .int) X hB q3247 rfl (Nat.le_of_ble_eq_true rfl) rfl rfl rfl rfl (Or.inl rfl) rfl dX5_passAll_172 (fun H locs hB => ?_)
  rw [← eM41] at hB
  refine lv_aload_n hx hb dX5_passAll_175 rfl (lv_at hl 0 rfl) ?_
  refine lv_aload_n hx hb dX5_passAll_176 rfl (lv_at hl 0 rfl) ?_
  refine lv_aload_n hx hb dX5_passAll_177 rfl (lv_at hl 0 rfl) ?_
  refine z_mgets (j := 38) X hB q3248 rfl (Nat.le_of_ble_eq_true rfl) rfl rfl dX5_passAll_178 ?_
  refine lv_aload_n hx hb dX5_passAll_181 rfl (lv_at hl 1 rfl) ?_
  refine z_mcalli (fun _ h => h) (fun I1 hB1 hM => z_runV (rest := [.ref o]) [.int (M41 38 0), .ref (b x1)] pk_X5_pass (met_X5_pass hB.1 hM hf_x1 (M41 38 0) _ h) X hB1 (by decide) q3457 kc_X5 (by decide) (by rw [hB.1.1]) rfl hl.1 (Nat.le_of_ble_eq_true rfl) dX5_passAll_182 (Nat.le_refl 0) (Nat.le_refl 0) (by decide) (by decide)) hB (fun r42 M43 H locs h hB => ?_)
  obtain ⟨M44, eM44⟩ : ∃ z, z = z_us M43 38 r42 := ⟨_, rfl⟩
  have h := h M44 eM44
  refine z_mputs (j := 38) (ty := .int) X hB q3248 rfl (Nat.le_of_ble_eq_true rfl) rfl rfl rfl rfl (Or.inl rfl) rfl dX5_passAll_185 (fun H locs hB => ?_)
  rw [← eM44] at hB
  refine lv_aload_n hx hb dX5_passAll_188 rfl (lv_at hl 0 rfl) ?_
  refine lv_aload_n hx hb dX5_passAll_189 rfl (lv_at hl 0 rfl) ?_
  refine lv_aload_n hx hb dX5_passAll_190 rfl (lv_at hl 0 rfl) ?_
  refine z_mgets (j := 39) X hB q3249 rfl (Nat.le_of_ble_eq_true rfl) rfl rfl dX5_passAll_191 ?_
  refine lv_aload_n hx hb dX5_passAll_194 rfl (lv_at hl 1 rfl) ?_
  refine z_mcalli (fun _ h => h) (fun I1 hB1 hM => z_runV (rest := [.ref o]) [.int (M44 39 0), .ref (b x1)] pk_X5_pass (met_X5_pass hB.1 hM hf_x1 (M44 39 0) _ h) X hB1 (by decide) q3457 kc_X5 (by decide) (by rw [hB.1.1]) rfl hl.1 (Nat.le_of_ble_eq_true rfl) dX5_passAll_195 (Nat.le_refl 0) (Nat.le_refl 0) (by decide) (by decide)) hB (fun r45 M46 H locs h hB => ?_)
  obtain ⟨M47, eM47⟩ : ∃ z, z = z_us M46 39 r45 := ⟨_, rfl⟩
  have h := h M47 eM47
  refine z_mputs (j := 39) (ty := .int) X hB q3249 rfl (Nat.le_of_ble_eq_true rfl) rfl rfl rfl rfl (Or.inl rfl) rfl dX5_passAll_198 (fun H locs hB => ?_)
  rw [← eM47] at hB
  refine lv_aload_n hx hb dX5_passAll_201 rfl (lv_at hl 0 rfl) ?_
  refine lv_aload_n hx hb dX5_passAll_202 rfl (lv_at hl 0 rfl) ?_
  refine lv_aload_n hx hb dX5_passAll_203 rfl (lv_at hl 0 rfl) ?_
  refine z_mgets (j := 40) X hB q3250 rfl (Nat.le_of_ble_eq_true rfl) rfl rfl dX5_passAll_204 ?_
  refine lv_aload_n hx hb dX5_passAll_207 rfl (lv_at hl 1 rfl) ?_
  refine z_mcalli (fun _ h => h) (fun I1 hB1 hM => z_runV (rest := [.ref o]) [.int (M47 40 0), .ref (b x1)] pk_X5_pass (met_X5_pass hB.1 hM hf_x1 (M47 40 0) _ h) X hB1 (by decide) q3457 kc_X5 (by decide) (by rw [hB.1.1]) rfl hl.1 (Nat.le_of_ble_eq_true rfl) dX5_passAll_208 (Nat.le_refl 0) (Nat.le_refl 0) (by decide) (by decide)) hB (fun r48 M49 H locs h hB => ?_)
  obtain ⟨M50, eM50⟩ : ∃ z, z = z_us M49 40 r48 := ⟨_, rfl⟩
  have h := h M50 eM50
  refine z_mputs (j := 40) (ty := .int) X hB q3250 rfl (Nat.le_of_ble_eq_true rfl) rfl rfl rfl rfl (Or.inl rfl) rfl dX5_passAll_211 (fun H locs hB => ?_)
  rw [← eM50] at hB
  obtain ⟨hL, I, hB, hM⟩ := hB
  exact z_vret X hB ⟨rfl, (by rw [hM]; exact h), rfl, rfl⟩ (Nat.le_refl 0) (Nat.le_refl 0) dX5_passAll_214
theorem pk_X5_passAll : z_PV RX5 yX5_passAll cX5_passAll 4 none 3 := ⟨q3443, qs53, q131, q3444, by decide +kernel⟩
theorem met_X5_passAll {l : Launch} {G : z_E} {T : z_T} {I : z_I} {Q : z_Q} {o : Nat} {b : Nat → Nat} {M : z_M} (hL : z_lie T Q o b) (hM : z_of I o b = M) {x1 : Nat} (hf_x1 : z_ln x1 ≠ 0) (x2 : Int32) (x3 : Int32) (Qk : z_M → Prop) (h : wp_X5_passAll M x1 x2 x3 Qk) : z_GM l G yX5_passAll (ws_ yX5_passAll cX5_passAll 4 none) 10 164 0 0 [.ref o, .ref (b x1), .int x2, .int x3] z_P1c T I Q (z_mv_ Qk T Q o b) z_no := by
  refine z_body (own := RX5) (nm := "passAll") (by decide +kernel) rfl rfl (Nat.le_of_ble_eq_true rfl) (fun p e R s m below meth c A ls X hB hl => ?_)
  exact ww_X5_passAll_0 X hf_x1 ⟨hL, I, hB, hM⟩ hl h
/-! X5_remembers -/
theorem ww_X5_remembers_50 {Qk : z_M → Prop} (X : z_XM l G A p R s m args meth c cX5_remembers 2 "remembers" none 11 187) {M : z_M} {H : Heap} {locs : List Loc} {ls : Array Slot} (hB : z_MB G z_P1c A s.heap T I0 Q o b M H locs) (hl : lv_has ls 2 [(0, .ref o)]) (h : wb_X5_remembers_50 Qk M) : W p l e R s m args below meth c H locs 0 0 (z_MQ below G z_P1c A T I0 Q (z_mv_ Qk T Q o b) z_no args s 0 0) (F0 m 50 ls []) := by
  obtain ⟨hx, hb, -⟩ := id X
  unfold wb_X5_remembers_50 at h
  refine lv_aload_n hx hb dX5_remembers_50 rfl (lv_at hl 0 rfl) ?_
  refine lv_aload_n hx hb dX5_remembers_51 rfl (lv_at hl 0 rfl) ?_
  refine z_mgeta (j := 55) X hB q3265 rfl (Nat.le_of_ble_eq_true rfl) rfl (by decide) dX5_remembers_52 ?_
  refine lv_sipush (v := 573) hx hb dX5_remembers_55 (by decide) ?_
  refine lv_aload_n hx hb dX5_remembers_58 rfl (lv_at hl 0 rfl) ?_
  refine z_mgets (j := 59) X hB q3269 rfl (Nat.le_of_ble_eq_true rfl) rfl rfl dX5_remembers_59 ?_
  refine lv_imul hx hb dX5_remembers_62 ?_
  refine lv_iconst (v := 1) hx hb dX5_remembers_63 (by decide) ?_
  refine z_mcallv (fun _ h => h) (fun I1 hB1 hM => z_runV (rest := []) [.ref (b 55), .int (573 * (M 59 0)), .int 1] pk_X5_passAll (met_X5_passAll hB.1 hM (by decide) (573 * (M 59 0)) 1 _ h) X hB1 (by decide) q3441 kc_X5 (by decide) (by rw [hB.1.1]) rfl hl.1 (Nat.le_of_ble_eq_true rfl) dX5_remembers_64 (Nat.le_refl 0) (Nat.le_refl 0) (by decide) (by decide)) hB (fun M7 H locs h hB => ?_)
  refine lv_aload_n hx hb dX5_remembers_67 rfl (lv_at hl 0 rfl) ?_
  refine lv_dup hx hb dX5_remembers_68 rfl ?_
  refine z_mgets (j := 59) X hB q3269 rfl (Nat.le_of_ble_eq_true rfl) rfl rfl dX5_remembers_69 ?_
  refine lv_iconst (v := 1) hx hb dX5_remembers_72 (by decide) ?_
  refine lv_iadd hx hb dX5_remembers_73 ?_
  obtain ⟨M8, eM8⟩ : ∃ z, z = z_us M7 59 ((M7 59 0) + 1) := ⟨_, rfl⟩
  have h := h M8 eM8
  refine z_mputs (j := 59) (ty := .int) X hB q3269 rfl (Nat.le_of_ble_eq_true rfl) rfl rfl rfl rfl (Or.inl rfl) rfl dX5_remembers_74 (fun H locs hB => ?_)
  rw [← eM8] at hB
  obtain ⟨hL, I, hB, hM⟩ := hB
  exact z_vret X hB ⟨rfl, (by rw [hM]; exact h), rfl, rfl⟩ (Nat.le_refl 0) (Nat.le_refl 0) dX5_remembers_77
theorem wv_X5_remembers_11 {Qk : z_M → Prop} (X : z_XM l G A p R s m args meth c cX5_remembers 2 "remembers" none 11 187) : ∀ (n : Nat) {M : z_M} {x1 : Int32} {H : Heap} {locs : List Loc} {ls : Array Slot}, z_MB G z_P1c A s.heap T I0 Q o b M H locs → lv_has ls 2 [(0, .ref o), (1, .int x1)] → wl_X5_remembers_11 Qk n M x1 → W p l e R s m args below meth c H locs 0 0 (z_MQ below G z_P1c A T I0 Q (z_mv_ Qk T Q o b) z_no args s 0 0) (F0 m 11 ls []) := by
  intro n
  induction n with
  | zero =>
    intro M x1 H locs ls hB hl h
    exact h.elim
  | succ n ih =>
    intro M x1 H locs ls hB hl h
    obtain ⟨hx, hb, -⟩ := id X
    unfold wl_X5_remembers_11 at h
    refine lv_iload_n hx hb dX5_remembers_11 rfl (lv_at hl 1 rfl) ?_
    refine lv_sipush (v := 2865) hx hb dX5_remembers_12 (by decide) ?_
    refine lv_icmp_ge (tgt := 40) hx hb dX5_remembers_15 (by decide) (fun c2 => ?_) (fun c2 => ?_)
    · have h := h.1 c2
      refine lv_aload_n hx hb dX5_remembers_40 rfl (lv_at hl 0 rfl) ?_
      refine lv_dup hx hb dX5_remembers_41 rfl ?_
      refine z_mgets (j := 59) X hB q3269 rfl (Nat.le_of_ble_eq_true rfl) rfl rfl dX5_remembers_42 ?_
      refine lv_iconst (v := 1) hx hb dX5_remembers_45 (by decide) ?_
      refine lv_isub hx hb dX5_remembers_46 ?_
      obtain ⟨M3, eM3⟩ : ∃ z, z = z_us M 59 ((M 59 0) - 1) := ⟨_, rfl⟩
      have h := h M3 eM3
      refine z_mputs (j := 59) (ty := .int) X hB q3269 rfl (Nat.le_of_ble_eq_true rfl) rfl rfl rfl rfl (Or.inl rfl) rfl dX5_remembers_47 (fun H locs hB => ?_)
      rw [← eM3] at hB
      exact ww_X5_remembers_50 X  hB (lv_sub hl [0] rfl) h
    · have h := h.2 c2
      refine lv_aload_n hx hb dX5_remembers_18 rfl (lv_at hl 0 rfl) ?_
      refine z_mgeta (j := 55) X hB q3265 rfl (Nat.le_of_ble_eq_true rfl) rfl (by decide) dX5_remembers_19 ?_
      refine lv_iload_n hx hb dX5_remembers_22 rfl (lv_at hl 1 rfl) ?_
      refine lv_aload_n hx hb dX5_remembers_23 rfl (lv_at hl 0 rfl) ?_
      refine z_mgeta (j := 55) X hB q3265 rfl (Nat.le_of_ble_eq_true rfl) rfl (by decide) dX5_remembers_24 ?_
      refine lv_iload_n hx hb dX5_remembers_27 rfl (lv_at hl 1 rfl) ?_
      refine lv_sipush (v := 573) hx hb dX5_remembers_28 (by decide) ?_
      refine lv_iadd hx hb dX5_remembers_31 ?_
      obtain ⟨h1, h⟩ := h
      refine z_mald (f := 55) X hB (by decide) h1 dX5_remembers_32 ?_
      obtain ⟨h1, h⟩ := h
      obtain ⟨M4, eM4⟩ : ∃ z, z = z_up M 55 x1.toNatClampNeg (M 55 (x1 + 573).toNatClampNeg) := ⟨_, rfl⟩
      have h := h M4 eM4
      refine z_mast (P := z_P1c) (f := 55) rfl X hB (by decide) h1 dX5_remembers_33 (fun H locs hB => ?_)
      rw [← eM4] at hB
      obtain ⟨y5, ey5⟩ : ∃ z : Int32, z = x1 + 1 := ⟨_, rfl⟩
      have h := h y5 ey5
      refine lv_iinc (v := y5) (lv' := [(1, .int y5), (0, .ref o)]) hx hb dX5_remembers_34 hl (k := 1) rfl (by rw [ey5]; rfl) (by decide) rfl (fun ls hl => ?_)
      refine lv_goto (tgt := 11) hx hb dX5_remembers_37 (by decide) ?_
      exact ih hB (lv_sub hl [1, 0] rfl) h
theorem ww_X5_remembers_0 {Qk : z_M → Prop} (X : z_XM l G A p R s m args meth c cX5_remembers 2 "remembers" none 11 187) {M : z_M} {H : Heap} {locs : List Loc} {ls : Array Slot} (hB : z_MB G z_P1c A s.heap T I0 Q o b M H locs) (hl : lv_has ls 2 [(0, .ref o)]) (h : wb_X5_remembers_0 Qk M) : W p l e R s m args below meth c H locs 0 0 (z_MQ below G z_P1c A T I0 Q (z_mv_ Qk T Q o b) z_no args s 0 0) (F0 m 0 ls []) := by
  obtain ⟨hx, hb, -⟩ := id X
  unfold wb_X5_remembers_0 at h
  refine lv_aload_n hx hb dX5_remembers_0 rfl (lv_at hl 0 rfl) ?_
  refine z_mgets (j := 59) X hB q3269 rfl (Nat.le_of_ble_eq_true rfl) rfl rfl dX5_remembers_1 ?_
  refine lv_bipush (v := 6) hx hb dX5_remembers_4 (by decide) ?_
  refine lv_icmp_ne (tgt := 50) hx hb dX5_remembers_6 (by decide) (fun c1 => ?_) (fun c1 => ?_)
  · have h := h.1 c1
    exact ww_X5_remembers_50 X  hB (lv_sub hl [0] rfl) h
  · have h := h.2 c1
    refine lv_iconst (v := 0) hx hb dX5_remembers_9 (by decide) ?_
    refine lv_istore_n (lv' := [(1, .int 0), (0, .ref o)]) hx hb dX5_remembers_10 rfl hl (by decide) rfl (fun ls hl => ?_)
    obtain ⟨w, h⟩ := h
    exact wv_X5_remembers_11 X  w hB (lv_sub hl [1, 0] rfl) h
theorem pk_X5_remembers : z_PV RX5 yX5_remembers cX5_remembers 2 none 0 := ⟨q3439, qs52, q131, q3440, by decide +kernel⟩
theorem met_X5_remembers {l : Launch} {G : z_E} {T : z_T} {I : z_I} {Q : z_Q} {o : Nat} {b : Nat → Nat} {M : z_M} (hL : z_lie T Q o b) (hM : z_of I o b = M) (Qk : z_M → Prop) (h : wp_X5_remembers M Qk) : z_GM l G yX5_remembers (ws_ yX5_remembers cX5_remembers 2 none) 11 187 0 0 [.ref o] z_P1c T I Q (z_mv_ Qk T Q o b) z_no := by
  refine z_body (own := RX5) (nm := "remembers") (by decide +kernel) rfl rfl (Nat.le_of_ble_eq_true rfl) (fun p e R s m below meth c A ls X hB hl => ?_)
  exact ww_X5_remembers_0 X ⟨hL, I, hB, hM⟩ hl h
/-! X5_setInterlock -/
theorem ww_X5_setInterlock_0 {Qk : Int32 → z_M → Prop} (X : z_XM l G A p R s m args meth c cX5_setInterlock 5 "setInterlock" (some .boolean) 13 234) {M : z_M} {x1 : Int32} {x2 : Int32} {x3 : Int32} {H : Heap} {locs : List Loc} {ls : Array Slot} (hB : z_MB G z_P1c A s.heap T I0 Q o b M H locs) (hl : lv_has ls 5 [(0, .ref o), (1, .int x1), (2, .int x2), (3, .int x3)]) (h : wb_X5_setInterlock_0 Qk M x1 x2 x3) : W p l e R s m args below meth c H locs 0 0 (z_MQ below G z_P1c A T I0 Q (z_mz Qk T Q o b) z_no args s 0 0) (F0 m 0 ls []) := by
  obtain ⟨hx, hb, -⟩ := id X
  unfold wb_X5_setInterlock_0 at h
  refine lv_aload_n hx hb dX5_setInterlock_0 rfl (lv_at hl 0 rfl) ?_
  refine lv_aload_n hx hb dX5_setInterlock_1 rfl (lv_at hl 0 rfl) ?_
  refine lv_iload_n hx hb dX5_setInterlock_2 rfl (lv_at hl 1 rfl) ?_
  refine lv_iload_n hx hb dX5_setInterlock_3 rfl (lv_at hl 2 rfl) ?_
  refine lv_iload_n hx hb dX5_setInterlock_4 rfl (lv_at hl 3 rfl) ?_
  refine z_mcalli (fun _ h => h) (fun I1 hB1 hM => z_runV (rest := [.ref o]) [.int x1, .int x2, .int x3] pk_X5_notLocked (met_X5_notLocked hB.1 hM x1 x2 x3 _ h) X hB1 (by decide) q3408 kc_X5 (by decide) (by rw [hB.1.1]) rfl hl.1 (Nat.le_of_ble_eq_true rfl) dX5_setInterlock_5 (Nat.le_refl 0) (Nat.le_refl 0) (by decide) (by decide)) hB (fun r1 M2 H locs h hB => ?_)
  obtain ⟨h, eM2⟩ := h
  rw [eM2] at hB
  obtain ⟨M3, eM3⟩ : ∃ z, z = z_us M 0 r1 := ⟨_, rfl⟩
  have h := h M3 eM3
  refine z_mputs (j := 0) (ty := .int) X hB q3210 rfl (Nat.le_of_ble_eq_true rfl) rfl rfl rfl rfl (Or.inl rfl) rfl dX5_setInterlock_8 (fun H locs hB => ?_)
  rw [← eM3] at hB
  refine lv_aload_n hx hb dX5_setInterlock_11 rfl (lv_at hl 0 rfl) ?_
  refine z_mgets (j := 0) X hB q3210 rfl (Nat.le_of_ble_eq_true rfl) rfl rfl dX5_setInterlock_12 ?_
  refine lv_if_le (tgt := 20) hx hb dX5_setInterlock_15 (by decide) (fun c4 => ?_) (fun c4 => ?_)
  · have h := h.1 c4
    refine lv_aload_n hx hb dX5_setInterlock_20 rfl (lv_at hl 0 rfl) ?_
    refine z_mgeta (j := 1) X hB q3211 rfl (Nat.le_of_ble_eq_true rfl) rfl (by decide) dX5_setInterlock_21 ?_
    refine lv_iload_n hx hb dX5_setInterlock_24 rfl (lv_at hl 1 rfl) ?_
    obtain ⟨h1, h⟩ := h
    refine z_mald (f := 1) X hB (by decide) h1 dX5_setInterlock_25 ?_
    refine lv_iload_n hx hb dX5_setInterlock_26 rfl (lv_at hl 2 rfl) ?_
    refine z_mcallzp (fun I1 hB1 hM => z_runS (rest := []) [.int (M3 1 x1.toNatClampNeg), .int x2] pk_X5_has (met_X5_has (M3 1 x1.toNatClampNeg) x2 _ h) X hB1 (fun h => h) q3434 rfl hl.1 (Nat.le_of_ble_eq_true rfl) dX5_setInterlock_27 (Nat.le_refl 0) (Nat.le_refl 0) (by decide) (by decide)) hB (fun r5 H locs hz h hB => ?_)
    have h := h hz
    refine lv_istore (lv' := [(4, .int r5), (0, .ref o), (1, .int x1), (2, .int x2), (3, .int x3)]) hx hb dX5_setInterlock_30 hl (by decide) rfl (fun ls hl => ?_)
    refine lv_aload_n hx hb dX5_setInterlock_32 rfl (lv_at hl 1 rfl) ?_
    refine z_mcallv (fun _ h => h) (fun I1 hB1 hM => z_runV (rest := []) [] pk_X5_remembers (met_X5_remembers hB.1 hM _ h) X hB1 (by decide) q3437 kc_X5 (by decide) (by rw [hB.1.1]) rfl hl.1 (Nat.le_of_ble_eq_true rfl) dX5_setInterlock_33 (Nat.le_refl 0) (Nat.le_refl 0) (by decide) (by decide)) hB (fun M7 H locs h hB => ?_)
    refine lv_aload_n hx hb dX5_setInterlock_36 rfl (lv_at hl 1 rfl) ?_
    refine lv_iload_n hx hb dX5_setInterlock_37 rfl (lv_at hl 2 rfl) ?_
    refine lv_iload_n hx hb dX5_setInterlock_38 rfl (lv_at hl 3 rfl) ?_
    refine lv_iload_n hx hb dX5_setInterlock_39 rfl (lv_at hl 4 rfl) ?_
    refine z_mcallv (fun _ h => h) (fun I1 hB1 hM => z_runV (rest := []) [.int x1, .int x2, .int x3] pk_X5_locks (met_X5_locks hB.1 hM x1 x2 x3 _ h) X hB1 (by decide) q3461 kc_X5 (by decide) (by rw [hB.1.1]) rfl hl.1 (Nat.le_of_ble_eq_true rfl) dX5_setInterlock_40 (Nat.le_refl 0) (Nat.le_refl 0) (by decide) (by decide)) hB (fun M9 H locs h hB => ?_)
    refine lv_iload hx hb dX5_setInterlock_43 (lv_at hl 0 rfl) ?_
    obtain ⟨hz, h⟩ := h
    obtain ⟨hL, I, hB, hM⟩ := hB
    exact z_zret X hB hz ⟨_, rfl, hz, (by rw [hM]; exact h), rfl, rfl⟩ (Nat.le_refl 0) (Nat.le_refl 0) dX5_setInterlock_45
  · have h := h.2 c4
    refine lv_iconst (v := 0) hx hb dX5_setInterlock_18 (by decide) ?_
    obtain ⟨hL, I, hB, hM⟩ := hB
    exact z_zret X hB (Or.inl rfl) ⟨_, rfl, (Or.inl rfl), (by rw [hM]; exact h), rfl, rfl⟩ (Nat.le_refl 0) (Nat.le_refl 0) dX5_setInterlock_19
theorem pk_X5_setInterlock : z_PV RX5 yX5_setInterlock cX5_setInterlock 5 (some .boolean) 3 := ⟨q3405, q3406, q131, q3407, by decide +kernel⟩
theorem met_X5_setInterlock {l : Launch} {G : z_E} {T : z_T} {I : z_I} {Q : z_Q} {o : Nat} {b : Nat → Nat} {M : z_M} (hL : z_lie T Q o b) (hM : z_of I o b = M) (x1 : Int32) (x2 : Int32) (x3 : Int32) (Qk : Int32 → z_M → Prop) (h : wp_X5_setInterlock M x1 x2 x3 Qk) : z_GM l G yX5_setInterlock (ws_ yX5_setInterlock cX5_setInterlock 5 (some .boolean)) 13 234 0 0 [.ref o, .int x1, .int x2, .int x3] z_P1c T I Q (z_mz Qk T Q o b) z_no := by
  refine z_body (own := RX5) (nm := "setInterlock") (by decide +kernel) rfl rfl (Nat.le_of_ble_eq_true rfl) (fun p e R s m below meth c A ls X hB hl => ?_)
  exact ww_X5_setInterlock_0 X ⟨hL, I, hB, hM⟩ hl h
/-! X5_fails -/
theorem ww_X5_fails_0 {Qk : Int32 → z_M → Prop} (X : z_XM l G A p R s m args meth c cX5_fails 2 "fails" (some .int) 8 120) {M : z_M} {x1 : Int32} {H : Heap} {locs : List Loc} {ls : Array Slot} (hB : z_MB G z_P1c A s.heap T I0 Q o b M H locs) (hl : lv_has ls 2 [(0, .ref o), (1, .int x1)]) (h : wb_X5_fails_0 Qk M x1) : W p l e R s m args below meth c H locs 0 0 (z_MQ below G z_P1c A T I0 Q (z_mi Qk T Q o b) z_no args s 0 0) (F0 m 0 ls []) := by
  obtain ⟨hx, hb, -⟩ := id X
  unfold wb_X5_fails_0 at h
  refine lv_aload_n hx hb dX5_fails_0 rfl (lv_at hl 0 rfl) ?_
  refine lv_iload_n hx hb dX5_fails_1 rfl (lv_at hl 1 rfl) ?_
  obtain ⟨M1, eM1⟩ : ∃ z, z = z_us M 0 x1 := ⟨_, rfl⟩
  have h := h M1 eM1
  refine z_mputs (j := 0) (ty := .int) X hB q3210 rfl (Nat.le_of_ble_eq_true rfl) rfl rfl rfl rfl (Or.inl rfl) rfl dX5_fails_2 (fun H locs hB => ?_)
  rw [← eM1] at hB
  refine lv_iconst (v := 0) hx hb dX5_fails_5 (by decide) ?_
  obtain ⟨hL, I, hB, hM⟩ := hB
  exact z_iret X hB ⟨_, rfl, (by rw [hM]; exact h), rfl, rfl⟩ (Nat.le_refl 0) (Nat.le_refl 0) dX5_fails_6
theorem pk_X5_fails : z_PV RX5 yX5_fails cX5_fails 2 (some .int) 1 := ⟨q3474, qs59, q131, q3475, by decide +kernel⟩
theorem met_X5_fails {l : Launch} {G : z_E} {T : z_T} {I : z_I} {Q : z_Q} {o : Nat} {b : Nat → Nat} {M : z_M} (hL : z_lie T Q o b) (hM : z_of I o b = M) (x1 : Int32) (Qk : Int32 → z_M → Prop) (h : wp_X5_fails M x1 Qk) : z_GM l G yX5_fails (ws_ yX5_fails cX5_fails 2 (some .int)) 8 120 0 0 [.ref o, .int x1] z_P1c T I Q (z_mi Qk T Q o b) z_no := by
  refine z_body (own := RX5) (nm := "fails") (by decide +kernel) rfl rfl (Nat.le_of_ble_eq_true rfl) (fun p e R s m below meth c A ls X hB hl => ?_)
  exact ww_X5_fails_0 X ⟨hL, I, hB, hM⟩ hl h
/-! X5_isArm -/
theorem ww_X5_isArm_0 {Qk : Int32 → Prop} (X : z_X l G A p R s m args meth c cX5_isArm 1 RX5 "isArm" (some .boolean) 0 0 9 142) {x0 : Int32} {H : Heap} {locs : List Loc} {ls : Array Slot} (hB : z_HB G z_none A s.heap T I Q T I Q H locs) (hl : lv_has ls 1 [(0, .int x0)]) (h : wb_X5_isArm_0 Qk x0) : W p l e R s m args below meth c H locs 0 0 (z_MQ below G z_none A T I Q (z_pz Qk T I Q) z_no args s 0 0) (F0 m 0 ls []) := by
  obtain ⟨hx, hb, -⟩ := id X
  unfold wb_X5_isArm_0 at h
  refine lv_iload_n hx hb dX5_isArm_0 rfl (lv_at hl 0 rfl) ?_
  refine lv_iconst (v := 0) hx hb dX5_isArm_1 (by decide) ?_
  refine lv_iconst (v := 2) hx hb dX5_isArm_2 (by decide) ?_
  refine z_callzp (z_runS (rest := []) [.int x0, .int 0, .int 2] pk_X5_isBetween (met_X5_isBetween x0 0 2 _ h) X hB (fun h => h) q3415 rfl hl.1 (Nat.le_of_ble_eq_true rfl) dX5_isArm_3 (Nat.le_refl 0) (Nat.le_refl 0) (by decide) (by decide)) hB (fun r1 H locs hz h hB => ?_)
  have h := h hz
  obtain ⟨hz, h⟩ := h
  exact z_zret X hB hz ⟨_, rfl, hz, h, rfl, rfl, rfl⟩ (Nat.le_refl 0) (Nat.le_refl 0) dX5_isArm_6
theorem pk_X5_isArm : z_PS yX5_isArm cX5_isArm 1 (some .boolean) 1 := ⟨q3470, q131, q3471, by decide +kernel⟩
theorem met_X5_isArm {l : Launch} {G : z_E} {T : z_T} {I : z_I} {Q : z_Q} (x0 : Int32) (Qk : Int32 → Prop) (h : wp_X5_isArm x0 Qk) : z_GM l G yX5_isArm (ws_ yX5_isArm cX5_isArm 1 (some .boolean)) 9 142 0 0 [.int x0] z_none T I Q (z_pz Qk T I Q) z_no := by
  refine z_body (own := RX5) (nm := "isArm") (by decide +kernel) rfl rfl (Nat.le_of_ble_eq_true rfl) (fun p e R s m below meth c A ls X hB hl => ?_)
  exact ww_X5_isArm_0 X hB hl h
/-! X5_setReach -/
theorem ww_X5_setReach_0 {Qk : Int32 → z_M → Prop} (X : z_XM l G A p R s m args meth c cX5_setReach 4 "setReach" (some .int) 12 208) {M : z_M} {x1 : Int32} {x2 : Int32} {H : Heap} {locs : List Loc} {ls : Array Slot} (hB : z_MB G z_P1c A s.heap T I0 Q o b M H locs) (hl : lv_has ls 4 [(0, .ref o), (1, .int x1), (2, .int x2)]) (h : wb_X5_setReach_0 Qk M x1 x2) : W p l e R s m args below meth c H locs 0 0 (z_MQ below G z_P1c A T I0 Q (z_mi Qk T Q o b) z_no args s 0 0) (F0 m 0 ls []) := by
  obtain ⟨hx, hb, -⟩ := id X
  unfold wb_X5_setReach_0 at h
  refine lv_iload_n hx hb dX5_setReach_0 rfl (lv_at hl 1 rfl) ?_
  refine z_mcallzp (fun I1 hB1 hM => z_runS (rest := []) [.int x1] pk_X5_isArm (met_X5_isArm x1 _ h) X hB1 (fun h => h) q3469 rfl hl.1 (Nat.le_of_ble_eq_true rfl) dX5_setReach_1 (Nat.le_refl 0) (Nat.le_refl 0) (by decide) (by decide)) hB (fun r1 H locs hz h hB => ?_)
  have h := h hz
  refine lv_if_ne (tgt := 13) hx hb dX5_setReach_4 (by decide) (fun c2 => ?_) (fun c2 => ?_)
  · have h := h.1 c2
    refine lv_iload_n hx hb dX5_setReach_13 rfl (lv_at hl 2 rfl) ?_
    refine lv_iconst (v := 0) hx hb dX5_setReach_14 (by decide) ?_
    refine lv_sipush (v := 255) hx hb dX5_setReach_15 (by decide) ?_
    refine z_mcallzp (fun I1 hB1 hM => z_runS (rest := []) [.int x2, .int 0, .int 255] pk_X5_isBetween (met_X5_isBetween x2 0 255 _ h) X hB1 (fun h => h) q3415 rfl hl.1 (Nat.le_of_ble_eq_true rfl) dX5_setReach_18 (Nat.le_refl 0) (Nat.le_refl 0) (by decide) (by decide)) hB (fun r3 H locs hz h hB => ?_)
    have h := h hz
    refine lv_if_ne (tgt := 30) hx hb dX5_setReach_21 (by decide) (fun c4 => ?_) (fun c4 => ?_)
    · have h := h.1 c4
      refine lv_aload_n hx hb dX5_setReach_30 rfl (lv_at hl 0 rfl) ?_
      refine lv_iconst (v := 0) hx hb dX5_setReach_31 (by decide) ?_
      obtain ⟨M5, eM5⟩ : ∃ z, z = z_us M 0 0 := ⟨_, rfl⟩
      have h := h M5 eM5
      refine z_mputs (j := 0) (ty := .int) X hB q3210 rfl (Nat.le_of_ble_eq_true rfl) rfl rfl rfl rfl (Or.inl rfl) rfl dX5_setReach_32 (fun H locs hB => ?_)
      rw [← eM5] at hB
      refine lv_aload_n hx hb dX5_setReach_35 rfl (lv_at hl 0 rfl) ?_
      refine z_mcallv (fun _ h => h) (fun I1 hB1 hM => z_runV (rest := []) [] pk_X5_remembers (met_X5_remembers hB.1 hM _ h) X hB1 (by decide) q3437 kc_X5 (by decide) (by rw [hB.1.1]) rfl hl.1 (Nat.le_of_ble_eq_true rfl) dX5_setReach_36 (Nat.le_refl 0) (Nat.le_refl 0) (by decide) (by decide)) hB (fun M7 H locs h hB => ?_)
      refine lv_aload_n hx hb dX5_setReach_39 rfl (lv_at hl 0 rfl) ?_
      refine z_mgeta (j := 10) X hB q3220 rfl (Nat.le_of_ble_eq_true rfl) rfl (by decide) dX5_setReach_40 ?_
      refine lv_iload_n hx hb dX5_setReach_43 rfl (lv_at hl 1 rfl) ?_
      obtain ⟨h1, h⟩ := h
      refine z_mald (f := 10) X hB (by decide) h1 dX5_setReach_44 ?_
      refine lv_topi (fun y8 ey8 => ?_)
      have h := h y8 ey8
      refine lv_istore_n (lv' := [(3, .int y8), (0, .ref o), (1, .int x1), (2, .int x2)]) hx hb dX5_setReach_45 rfl hl (by decide) rfl (fun ls hl => ?_)
      refine lv_aload_n hx hb dX5_setReach_46 rfl (lv_at hl 1 rfl) ?_
      refine z_mgeta (j := 10) X hB q3220 rfl (Nat.le_of_ble_eq_true rfl) rfl (by decide) dX5_setReach_47 ?_
      refine lv_iload_n hx hb dX5_setReach_50 rfl (lv_at hl 2 rfl) ?_
      refine lv_iload_n hx hb dX5_setReach_51 rfl (lv_at hl 3 rfl) ?_
      obtain ⟨h1, h⟩ := h
      obtain ⟨M9, eM9⟩ : ∃ z, z = z_up M7 10 x1.toNatClampNeg x2 := ⟨_, rfl⟩
      have h := h M9 eM9
      refine z_mast (P := z_P1c) (f := 10) rfl X hB (by decide) h1 dX5_setReach_52 (fun H locs hB => ?_)
      rw [← eM9] at hB
      refine lv_iload_n hx hb dX5_setReach_53 rfl (lv_at hl 0 rfl) ?_
      obtain ⟨hL, I, hB, hM⟩ := hB
      exact z_iret X hB ⟨_, rfl, (by rw [hM]; exact h), rfl, rfl⟩ (Nat.le_refl 0) (Nat.le_refl 0) dX5_setReach_54
    · have h := h.2 c4
      refine lv_aload_n hx hb dX5_setReach_24 rfl (lv_at hl 0 rfl) ?_
      refine lv_iconst (v := 2) hx hb dX5_setReach_25 (by decide) ?_
      refine z_mcalli (fun _ h => h) (fun I1 hB1 hM => z_runV (rest := []) [.int 2] pk_X5_fails (met_X5_fails hB.1 hM 2 _ h) X hB1 (by decide) q3472 kc_X5 (by decide) (by rw [hB.1.1]) rfl hl.1 (Nat.le_of_ble_eq_true rfl) dX5_setReach_26 (Nat.le_refl 0) (Nat.le_refl 0) (by decide) (by decide)) hB (fun r10 M11 H locs h hB => ?_)
      obtain ⟨hL, I, hB, hM⟩ := hB
      exact z_iret X hB ⟨_, rfl, (by rw [hM]; exact h), rfl, rfl⟩ (Nat.le_refl 0) (Nat.le_refl 0) dX5_setReach_29
  · have h := h.2 c2
    refine lv_aload_n hx hb dX5_setReach_7 rfl (lv_at hl 0 rfl) ?_
    refine lv_iconst (v := 1) hx hb dX5_setReach_8 (by decide) ?_
    refine z_mcalli (fun _ h => h) (fun I1 hB1 hM => z_runV (rest := []) [.int 1] pk_X5_fails (met_X5_fails hB.1 hM 1 _ h) X hB1 (by decide) q3472 kc_X5 (by decide) (by rw [hB.1.1]) rfl hl.1 (Nat.le_of_ble_eq_true rfl) dX5_setReach_9 (Nat.le_refl 0) (Nat.le_refl 0) (by decide) (by decide)) hB (fun r12 M13 H locs h hB => ?_)
    obtain ⟨hL, I, hB, hM⟩ := hB
    exact z_iret X hB ⟨_, rfl, (by rw [hM]; exact h), rfl, rfl⟩ (Nat.le_refl 0) (Nat.le_refl 0) dX5_setReach_12
theorem pk_X5_setReach : z_PV RX5 yX5_setReach cX5_setReach 4 (some .int) 2 := ⟨q3466, q3467, q131, q3468, by decide +kernel⟩
theorem met_X5_setReach {l : Launch} {G : z_E} {T : z_T} {I : z_I} {Q : z_Q} {o : Nat} {b : Nat → Nat} {M : z_M} (hL : z_lie T Q o b) (hM : z_of I o b = M) (x1 : Int32) (x2 : Int32) (Qk : Int32 → z_M → Prop) (h : wp_X5_setReach M x1 x2 Qk) : z_GM l G yX5_setReach (ws_ yX5_setReach cX5_setReach 4 (some .int)) 12 208 0 0 [.ref o, .int x1, .int x2] z_P1c T I Q (z_mi Qk T Q o b) z_no := by
  refine z_body (own := RX5) (nm := "setReach") (by decide +kernel) rfl rfl (Nat.le_of_ble_eq_true rfl) (fun p e R s m below meth c A ls X hB hl => ?_)
  exact ww_X5_setReach_0 X ⟨hL, I, hB, hM⟩ hl h
/-! X5_isBuffer -/
theorem ww_X5_isBuffer_0 {Qk : Int32 → Prop} (X : z_X l G A p R s m args meth c cX5_isBuffer 1 RX5 "isBuffer" (some .boolean) 0 0 9 142) {x0 : Int32} {H : Heap} {locs : List Loc} {ls : Array Slot} (hB : z_HB G z_none A s.heap T I Q T I Q H locs) (hl : lv_has ls 1 [(0, .int x0)]) (h : wb_X5_isBuffer_0 Qk x0) : W p l e R s m args below meth c H locs 0 0 (z_MQ below G z_none A T I Q (z_pz Qk T I Q) z_no args s 0 0) (F0 m 0 ls []) := by
  obtain ⟨hx, hb, -⟩ := id X
  unfold wb_X5_isBuffer_0 at h
  refine lv_iload_n hx hb dX5_isBuffer_0 rfl (lv_at hl 0 rfl) ?_
  refine lv_iconst (v := 0) hx hb dX5_isBuffer_1 (by decide) ?_
  refine lv_iconst (v := 2) hx hb dX5_isBuffer_2 (by decide) ?_
  refine z_callzp (z_runS (rest := []) [.int x0, .int 0, .int 2] pk_X5_isBetween (met_X5_isBetween x0 0 2 _ h) X hB (fun h => h) q3415 rfl hl.1 (Nat.le_of_ble_eq_true rfl) dX5_isBuffer_3 (Nat.le_refl 0) (Nat.le_refl 0) (by decide) (by decide)) hB (fun r1 H locs hz h hB => ?_)
  have h := h hz
  obtain ⟨hz, h⟩ := h
  exact z_zret X hB hz ⟨_, rfl, hz, h, rfl, rfl, rfl⟩ (Nat.le_refl 0) (Nat.le_refl 0) dX5_isBuffer_6
theorem pk_X5_isBuffer : z_PS yX5_isBuffer cX5_isBuffer 1 (some .boolean) 1 := ⟨q3481, q131, q3482, by decide +kernel⟩
theorem met_X5_isBuffer {l : Launch} {G : z_E} {T : z_T} {I : z_I} {Q : z_Q} (x0 : Int32) (Qk : Int32 → Prop) (h : wp_X5_isBuffer x0 Qk) : z_GM l G yX5_isBuffer (ws_ yX5_isBuffer cX5_isBuffer 1 (some .boolean)) 9 142 0 0 [.int x0] z_none T I Q (z_pz Qk T I Q) z_no := by
  refine z_body (own := RX5) (nm := "isBuffer") (by decide +kernel) rfl rfl (Nat.le_of_ble_eq_true rfl) (fun p e R s m below meth c A ls X hB hl => ?_)
  exact ww_X5_isBuffer_0 X hB hl h
/-! X5_setCapacity -/
theorem ww_X5_setCapacity_0 {Qk : Int32 → z_M → Prop} (X : z_XM l G A p R s m args meth c cX5_setCapacity 4 "setCapacity" (some .int) 12 208) {M : z_M} {x1 : Int32} {x2 : Int32} {H : Heap} {locs : List Loc} {ls : Array Slot} (hB : z_MB G z_P1c A s.heap T I0 Q o b M H locs) (hl : lv_has ls 4 [(0, .ref o), (1, .int x1), (2, .int x2)]) (h : wb_X5_setCapacity_0 Qk M x1 x2) : W p l e R s m args below meth c H locs 0 0 (z_MQ below G z_P1c A T I0 Q (z_mi Qk T Q o b) z_no args s 0 0) (F0 m 0 ls []) := by
  obtain ⟨hx, hb, -⟩ := id X
  unfold wb_X5_setCapacity_0 at h
  refine lv_iload_n hx hb dX5_setCapacity_0 rfl (lv_at hl 1 rfl) ?_
  refine z_mcallzp (fun I1 hB1 hM => z_runS (rest := []) [.int x1] pk_X5_isBuffer (met_X5_isBuffer x1 _ h) X hB1 (fun h => h) q3480 rfl hl.1 (Nat.le_of_ble_eq_true rfl) dX5_setCapacity_1 (Nat.le_refl 0) (Nat.le_refl 0) (by decide) (by decide)) hB (fun r1 H locs hz h hB => ?_)
  have h := h hz
  refine lv_if_ne (tgt := 13) hx hb dX5_setCapacity_4 (by decide) (fun c2 => ?_) (fun c2 => ?_)
  · have h := h.1 c2
    refine lv_iload_n hx hb dX5_setCapacity_13 rfl (lv_at hl 2 rfl) ?_
    refine lv_iconst (v := 1) hx hb dX5_setCapacity_14 (by decide) ?_
    refine lv_iconst (v := 4) hx hb dX5_setCapacity_15 (by decide) ?_
    refine z_mcallzp (fun I1 hB1 hM => z_runS (rest := []) [.int x2, .int 1, .int 4] pk_X5_isBetween (met_X5_isBetween x2 1 4 _ h) X hB1 (fun h => h) q3415 rfl hl.1 (Nat.le_of_ble_eq_true rfl) dX5_setCapacity_16 (Nat.le_refl 0) (Nat.le_refl 0) (by decide) (by decide)) hB (fun r3 H locs hz h hB => ?_)
    have h := h hz
    refine lv_if_ne (tgt := 28) hx hb dX5_setCapacity_19 (by decide) (fun c4 => ?_) (fun c4 => ?_)
    · have h := h.1 c4
      refine lv_aload_n hx hb dX5_setCapacity_28 rfl (lv_at hl 0 rfl) ?_
      refine z_mgeta (j := 4) X hB q3214 rfl (Nat.le_of_ble_eq_true rfl) rfl (by decide) dX5_setCapacity_29 ?_
      refine lv_iload_n hx hb dX5_setCapacity_32 rfl (lv_at hl 1 rfl) ?_
      obtain ⟨h1, h⟩ := h
      refine z_mald (f := 4) X hB (by decide) h1 dX5_setCapacity_33 ?_
      refine lv_aload_n hx hb dX5_setCapacity_34 rfl (lv_at hl 0 rfl) ?_
      refine z_mgeta (j := 6) X hB q3216 rfl (Nat.le_of_ble_eq_true rfl) rfl (by decide) dX5_setCapacity_35 ?_
      refine lv_iload_n hx hb dX5_setCapacity_38 rfl (lv_at hl 1 rfl) ?_
      obtain ⟨h1, h⟩ := h
      refine z_mald (f := 6) X hB (by decide) h1 dX5_setCapacity_39 ?_
      refine lv_iadd hx hb dX5_setCapacity_40 ?_
      refine lv_iload_n hx hb dX5_setCapacity_41 rfl (lv_at hl 2 rfl) ?_
      refine lv_icmp_le (tgt := 51) hx hb dX5_setCapacity_42 (by decide) (fun c5 => ?_) (fun c5 => ?_)
      · have h := h.1 c5
        refine lv_aload_n hx hb dX5_setCapacity_51 rfl (lv_at hl 0 rfl) ?_
        refine lv_iconst (v := 0) hx hb dX5_setCapacity_52 (by decide) ?_
        obtain ⟨M6, eM6⟩ : ∃ z, z = z_us M 0 0 := ⟨_, rfl⟩
        have h := h M6 eM6
        refine z_mputs (j := 0) (ty := .int) X hB q3210 rfl (Nat.le_of_ble_eq_true rfl) rfl rfl rfl rfl (Or.inl rfl) rfl dX5_setCapacity_53 (fun H locs hB => ?_)
        rw [← eM6] at hB
        refine lv_aload_n hx hb dX5_setCapacity_56 rfl (lv_at hl 0 rfl) ?_
        refine z_mcallv (fun _ h => h) (fun I1 hB1 hM => z_runV (rest := []) [] pk_X5_remembers (met_X5_remembers hB.1 hM _ h) X hB1 (by decide) q3437 kc_X5 (by decide) (by rw [hB.1.1]) rfl hl.1 (Nat.le_of_ble_eq_true rfl) dX5_setCapacity_57 (Nat.le_refl 0) (Nat.le_refl 0) (by decide) (by decide)) hB (fun M8 H locs h hB => ?_)
        refine lv_aload_n hx hb dX5_setCapacity_60 rfl (lv_at hl 0 rfl) ?_
        refine z_mgeta (j := 3) X hB q3213 rfl (Nat.le_of_ble_eq_true rfl) rfl (by decide) dX5_setCapacity_61 ?_
        refine lv_iload_n hx hb dX5_setCapacity_64 rfl (lv_at hl 1 rfl) ?_
        obtain ⟨h1, h⟩ := h
        refine z_mald (f := 3) X hB (by decide) h1 dX5_setCapacity_65 ?_
        refine lv_topi (fun y9 ey9 => ?_)
        have h := h y9 ey9
        refine lv_istore_n (lv' := [(3, .int y9), (0, .ref o), (1, .int x1), (2, .int x2)]) hx hb dX5_setCapacity_66 rfl hl (by decide) rfl (fun ls hl => ?_)
        refine lv_aload_n hx hb dX5_setCapacity_67 rfl (lv_at hl 1 rfl) ?_
        refine z_mgeta (j := 3) X hB q3213 rfl (Nat.le_of_ble_eq_true rfl) rfl (by decide) dX5_setCapacity_68 ?_
        refine lv_iload_n hx hb dX5_setCapacity_71 rfl (lv_at hl 2 rfl) ?_
        refine lv_iload_n hx hb dX5_setCapacity_72 rfl (lv_at hl 3 rfl) ?_
        obtain ⟨h1, h⟩ := h
        obtain ⟨M10, eM10⟩ : ∃ z, z = z_up M8 3 x1.toNatClampNeg x2 := ⟨_, rfl⟩
        have h := h M10 eM10
        refine z_mast (P := z_P1c) (f := 3) rfl X hB (by decide) h1 dX5_setCapacity_73 (fun H locs hB => ?_)
        rw [← eM10] at hB
        refine lv_iload_n hx hb dX5_setCapacity_74 rfl (lv_at hl 0 rfl) ?_
        obtain ⟨hL, I, hB, hM⟩ := hB
        exact z_iret X hB ⟨_, rfl, (by rw [hM]; exact h), rfl, rfl⟩ (Nat.le_refl 0) (Nat.le_refl 0) dX5_setCapacity_75
      · have h := h.2 c5
        refine lv_aload_n hx hb dX5_setCapacity_45 rfl (lv_at hl 0 rfl) ?_
        refine lv_iconst (v := 3) hx hb dX5_setCapacity_46 (by decide) ?_
        refine z_mcalli (fun _ h => h) (fun I1 hB1 hM => z_runV (rest := []) [.int 3] pk_X5_fails (met_X5_fails hB.1 hM 3 _ h) X hB1 (by decide) q3472 kc_X5 (by decide) (by rw [hB.1.1]) rfl hl.1 (Nat.le_of_ble_eq_true rfl) dX5_setCapacity_47 (Nat.le_refl 0) (Nat.le_refl 0) (by decide) (by decide)) hB (fun r11 M12 H locs h hB => ?_)
        obtain ⟨hL, I, hB, hM⟩ := hB
        exact z_iret X hB ⟨_, rfl, (by rw [hM]; exact h), rfl, rfl⟩ (Nat.le_refl 0) (Nat.le_refl 0) dX5_setCapacity_50
    · have h := h.2 c4
      refine lv_aload_n hx hb dX5_setCapacity_22 rfl (lv_at hl 0 rfl) ?_
      refine lv_iconst (v := 2) hx hb dX5_setCapacity_23 (by decide) ?_
      refine z_mcalli (fun _ h => h) (fun I1 hB1 hM => z_runV (rest := []) [.int 2] pk_X5_fails (met_X5_fails hB.1 hM 2 _ h) X hB1 (by decide) q3472 kc_X5 (by decide) (by rw [hB.1.1]) rfl hl.1 (Nat.le_of_ble_eq_true rfl) dX5_setCapacity_24 (Nat.le_refl 0) (Nat.le_refl 0) (by decide) (by decide)) hB (fun r13 M14 H locs h hB => ?_)
      obtain ⟨hL, I, hB, hM⟩ := hB
      exact z_iret X hB ⟨_, rfl, (by rw [hM]; exact h), rfl, rfl⟩ (Nat.le_refl 0) (Nat.le_refl 0) dX5_setCapacity_27
  · have h := h.2 c2
    refine lv_aload_n hx hb dX5_setCapacity_7 rfl (lv_at hl 0 rfl) ?_
    refine lv_iconst (v := 1) hx hb dX5_setCapacity_8 (by decide) ?_
    refine z_mcalli (fun _ h => h) (fun I1 hB1 hM => z_runV (rest := []) [.int 1] pk_X5_fails (met_X5_fails hB.1 hM 1 _ h) X hB1 (by decide) q3472 kc_X5 (by decide) (by rw [hB.1.1]) rfl hl.1 (Nat.le_of_ble_eq_true rfl) dX5_setCapacity_9 (Nat.le_refl 0) (Nat.le_refl 0) (by decide) (by decide)) hB (fun r15 M16 H locs h hB => ?_)
    obtain ⟨hL, I, hB, hM⟩ := hB
    exact z_iret X hB ⟨_, rfl, (by rw [hM]; exact h), rfl, rfl⟩ (Nat.le_refl 0) (Nat.le_refl 0) dX5_setCapacity_12
theorem pk_X5_setCapacity : z_PV RX5 yX5_setCapacity cX5_setCapacity 4 (some .int) 2 := ⟨q3477, q3478, q131, q3479, by decide +kernel⟩
theorem met_X5_setCapacity {l : Launch} {G : z_E} {T : z_T} {I : z_I} {Q : z_Q} {o : Nat} {b : Nat → Nat} {M : z_M} (hL : z_lie T Q o b) (hM : z_of I o b = M) (x1 : Int32) (x2 : Int32) (Qk : Int32 → z_M → Prop) (h : wp_X5_setCapacity M x1 x2 Qk) : z_GM l G yX5_setCapacity (ws_ yX5_setCapacity cX5_setCapacity 4 (some .int)) 12 208 0 0 [.ref o, .int x1, .int x2] z_P1c T I Q (z_mi Qk T Q o b) z_no := by
  refine z_body (own := RX5) (nm := "setCapacity") (by decide +kernel) rfl rfl (Nat.le_of_ble_eq_true rfl) (fun p e R s m below meth c A ls X hB hl => ?_)
  exact ww_X5_setCapacity_0 X ⟨hL, I, hB, hM⟩ hl h
/-! X5_comesPart -/
theorem ww_X5_comesPart_0 {Qk : z_M → Prop} (X : z_XM l G A p R s m args meth c cX5_comesPart 3 "comesPart" none 8 120) {M : z_M} {x1 : Int32} {x2 : Int32} {H : Heap} {locs : List Loc} {ls : Array Slot} (hB : z_MB G z_P1c A s.heap T I0 Q o b M H locs) (hl : lv_has ls 3 [(0, .ref o), (1, .int x1), (2, .int x2)]) (h : wb_X5_comesPart_0 Qk M x1 x2) : W p l e R s m args below meth c H locs 0 0 (z_MQ below G z_P1c A T I0 Q (z_mv_ Qk T Q o b) z_no args s 0 0) (F0 m 0 ls []) := by
  obtain ⟨hx, hb, -⟩ := id X
  unfold wb_X5_comesPart_0 at h
  refine lv_aload_n hx hb dX5_comesPart_0 rfl (lv_at hl 0 rfl) ?_
  refine z_mgeta (j := 5) X hB q3215 rfl (Nat.le_of_ble_eq_true rfl) rfl (by decide) dX5_comesPart_1 ?_
  refine lv_iconst (v := 4) hx hb dX5_comesPart_4 (by decide) ?_
  refine lv_iload_n hx hb dX5_comesPart_5 rfl (lv_at hl 1 rfl) ?_
  refine lv_imul hx hb dX5_comesPart_6 ?_
  refine lv_aload_n hx hb dX5_comesPart_7 rfl (lv_at hl 0 rfl) ?_
  refine z_mgeta (j := 4) X hB q3214 rfl (Nat.le_of_ble_eq_true rfl) rfl (by decide) dX5_comesPart_8 ?_
  refine lv_iload_n hx hb dX5_comesPart_11 rfl (lv_at hl 1 rfl) ?_
  obtain ⟨h1, h⟩ := h
  refine z_mald (f := 4) X hB (by decide) h1 dX5_comesPart_12 ?_
  refine lv_iadd hx hb dX5_comesPart_13 ?_
  refine lv_iload_n hx hb dX5_comesPart_14 rfl (lv_at hl 2 rfl) ?_
  obtain ⟨h1, h⟩ := h
  obtain ⟨M1, eM1⟩ : ∃ z, z = z_up M 5 ((4 * x1) + (M 4 x1.toNatClampNeg)).toNatClampNeg x2 := ⟨_, rfl⟩
  have h := h M1 eM1
  refine z_mast (P := z_P1c) (f := 5) rfl X hB (by decide) h1 dX5_comesPart_15 (fun H locs hB => ?_)
  rw [← eM1] at hB
  refine lv_aload_n hx hb dX5_comesPart_16 rfl (lv_at hl 0 rfl) ?_
  refine z_mgeta (j := 4) X hB q3214 rfl (Nat.le_of_ble_eq_true rfl) rfl (by decide) dX5_comesPart_17 ?_
  refine lv_iload_n hx hb dX5_comesPart_20 rfl (lv_at hl 1 rfl) ?_
  refine lv_dup2_11 hx hb dX5_comesPart_21 rfl rfl ?_
  obtain ⟨h1, h⟩ := h
  refine z_mald (f := 4) X hB (by decide) h1 dX5_comesPart_22 ?_
  refine lv_iconst (v := 1) hx hb dX5_comesPart_23 (by decide) ?_
  refine lv_iadd hx hb dX5_comesPart_24 ?_
  obtain ⟨h1, h⟩ := h
  obtain ⟨M2, eM2⟩ : ∃ z, z = z_up M1 4 x1.toNatClampNeg ((M1 4 x1.toNatClampNeg) + 1) := ⟨_, rfl⟩
  have h := h M2 eM2
  refine z_mast (P := z_P1c) (f := 4) rfl X hB (by decide) h1 dX5_comesPart_25 (fun H locs hB => ?_)
  rw [← eM2] at hB
  refine lv_aload_n hx hb dX5_comesPart_26 rfl (lv_at hl 0 rfl) ?_
  refine z_mgeta (j := 8) X hB q3218 rfl (Nat.le_of_ble_eq_true rfl) rfl (by decide) dX5_comesPart_27 ?_
  refine lv_iload_n hx hb dX5_comesPart_30 rfl (lv_at hl 1 rfl) ?_
  refine lv_dup2_11 hx hb dX5_comesPart_31 rfl rfl ?_
  obtain ⟨h1, h⟩ := h
  refine z_mald (f := 8) X hB (by decide) h1 dX5_comesPart_32 ?_
  refine lv_iconst (v := 1) hx hb dX5_comesPart_33 (by decide) ?_
  refine lv_iadd hx hb dX5_comesPart_34 ?_
  obtain ⟨h1, h⟩ := h
  obtain ⟨M3, eM3⟩ : ∃ z, z = z_up M2 8 x1.toNatClampNeg ((M2 8 x1.toNatClampNeg) + 1) := ⟨_, rfl⟩
  have h := h M3 eM3
  refine z_mast (P := z_P1c) (f := 8) rfl X hB (by decide) h1 dX5_comesPart_35 (fun H locs hB => ?_)
  rw [← eM3] at hB
  obtain ⟨hL, I, hB, hM⟩ := hB
  exact z_vret X hB ⟨rfl, (by rw [hM]; exact h), rfl, rfl⟩ (Nat.le_refl 0) (Nat.le_refl 0) dX5_comesPart_36
theorem pk_X5_comesPart : z_PV RX5 yX5_comesPart cX5_comesPart 3 none 2 := ⟨q3489, qs60, q131, q3490, by decide +kernel⟩
theorem met_X5_comesPart {l : Launch} {G : z_E} {T : z_T} {I : z_I} {Q : z_Q} {o : Nat} {b : Nat → Nat} {M : z_M} (hL : z_lie T Q o b) (hM : z_of I o b = M) (x1 : Int32) (x2 : Int32) (Qk : z_M → Prop) (h : wp_X5_comesPart M x1 x2 Qk) : z_GM l G yX5_comesPart (ws_ yX5_comesPart cX5_comesPart 3 none) 8 120 0 0 [.ref o, .int x1, .int x2] z_P1c T I Q (z_mv_ Qk T Q o b) z_no := by
  refine z_body (own := RX5) (nm := "comesPart") (by decide +kernel) rfl rfl (Nat.le_of_ble_eq_true rfl) (fun p e R s m below meth c A ls X hB hl => ?_)
  exact ww_X5_comesPart_0 X ⟨hL, I, hB, hM⟩ hl h
/-! X5_supply -/
theorem ww_X5_supply_0 {Qk : Int32 → z_M → Prop} (X : z_XM l G A p R s m args meth c cX5_supply 2 "supply" (some .int) 12 208) {M : z_M} {x1 : Int32} {H : Heap} {locs : List Loc} {ls : Array Slot} (hB : z_MB G z_P1c A s.heap T I0 Q o b M H locs) (hl : lv_has ls 2 [(0, .ref o), (1, .int x1)]) (h : wb_X5_supply_0 Qk M x1) : W p l e R s m args below meth c H locs 0 0 (z_MQ below G z_P1c A T I0 Q (z_mi Qk T Q o b) z_no args s 0 0) (F0 m 0 ls []) := by
  obtain ⟨hx, hb, -⟩ := id X
  unfold wb_X5_supply_0 at h
  refine lv_iload_n hx hb dX5_supply_0 rfl (lv_at hl 1 rfl) ?_
  refine z_mcallzp (fun I1 hB1 hM => z_runS (rest := []) [.int x1] pk_X5_isBuffer (met_X5_isBuffer x1 _ h) X hB1 (fun h => h) q3480 rfl hl.1 (Nat.le_of_ble_eq_true rfl) dX5_supply_1 (Nat.le_refl 0) (Nat.le_refl 0) (by decide) (by decide)) hB (fun r1 H locs hz h hB => ?_)
  have h := h hz
  refine lv_if_ne (tgt := 13) hx hb dX5_supply_4 (by decide) (fun c2 => ?_) (fun c2 => ?_)
  · have h := h.1 c2
    refine lv_aload_n hx hb dX5_supply_13 rfl (lv_at hl 0 rfl) ?_
    refine z_mgeta (j := 4) X hB q3214 rfl (Nat.le_of_ble_eq_true rfl) rfl (by decide) dX5_supply_14 ?_
    refine lv_iload_n hx hb dX5_supply_17 rfl (lv_at hl 1 rfl) ?_
    obtain ⟨h1, h⟩ := h
    refine z_mald (f := 4) X hB (by decide) h1 dX5_supply_18 ?_
    refine lv_aload_n hx hb dX5_supply_19 rfl (lv_at hl 0 rfl) ?_
    refine z_mgeta (j := 6) X hB q3216 rfl (Nat.le_of_ble_eq_true rfl) rfl (by decide) dX5_supply_20 ?_
    refine lv_iload_n hx hb dX5_supply_23 rfl (lv_at hl 1 rfl) ?_
    obtain ⟨h1, h⟩ := h
    refine z_mald (f := 6) X hB (by decide) h1 dX5_supply_24 ?_
    refine lv_iadd hx hb dX5_supply_25 ?_
    refine lv_aload_n hx hb dX5_supply_26 rfl (lv_at hl 0 rfl) ?_
    refine z_mgeta (j := 3) X hB q3213 rfl (Nat.le_of_ble_eq_true rfl) rfl (by decide) dX5_supply_27 ?_
    refine lv_iload_n hx hb dX5_supply_30 rfl (lv_at hl 1 rfl) ?_
    obtain ⟨h1, h⟩ := h
    refine z_mald (f := 3) X hB (by decide) h1 dX5_supply_31 ?_
    refine lv_icmp_lt (tgt := 41) hx hb dX5_supply_32 (by decide) (fun c3 => ?_) (fun c3 => ?_)
    · have h := h.1 c3
      refine lv_aload_n hx hb dX5_supply_41 rfl (lv_at hl 0 rfl) ?_
      refine lv_iconst (v := 0) hx hb dX5_supply_42 (by decide) ?_
      obtain ⟨M4, eM4⟩ : ∃ z, z = z_us M 0 0 := ⟨_, rfl⟩
      have h := h M4 eM4
      refine z_mputs (j := 0) (ty := .int) X hB q3210 rfl (Nat.le_of_ble_eq_true rfl) rfl rfl rfl rfl (Or.inl rfl) rfl dX5_supply_43 (fun H locs hB => ?_)
      rw [← eM4] at hB
      refine lv_aload_n hx hb dX5_supply_46 rfl (lv_at hl 0 rfl) ?_
      refine z_mcallv (fun _ h => h) (fun I1 hB1 hM => z_runV (rest := []) [] pk_X5_remembers (met_X5_remembers hB.1 hM _ h) X hB1 (by decide) q3437 kc_X5 (by decide) (by rw [hB.1.1]) rfl hl.1 (Nat.le_of_ble_eq_true rfl) dX5_supply_47 (Nat.le_refl 0) (Nat.le_refl 0) (by decide) (by decide)) hB (fun M6 H locs h hB => ?_)
      refine lv_aload_n hx hb dX5_supply_50 rfl (lv_at hl 0 rfl) ?_
      refine lv_iload_n hx hb dX5_supply_51 rfl (lv_at hl 1 rfl) ?_
      refine lv_aload_n hx hb dX5_supply_52 rfl (lv_at hl 0 rfl) ?_
      refine z_mgets (j := 35) X hB q3245 rfl (Nat.le_of_ble_eq_true rfl) rfl rfl dX5_supply_53 ?_
      refine z_mcallv (fun _ h => h) (fun I1 hB1 hM => z_runV (rest := []) [.int x1, .int (M6 35 0)] pk_X5_comesPart (met_X5_comesPart hB.1 hM x1 (M6 35 0) _ h) X hB1 (by decide) q3487 kc_X5 (by decide) (by rw [hB.1.1]) rfl hl.1 (Nat.le_of_ble_eq_true rfl) dX5_supply_56 (Nat.le_refl 0) (Nat.le_refl 0) (by decide) (by decide)) hB (fun M8 H locs h hB => ?_)
      refine lv_aload_n hx hb dX5_supply_59 rfl (lv_at hl 0 rfl) ?_
      refine lv_dup hx hb dX5_supply_60 rfl ?_
      refine z_mgets (j := 35) X hB q3245 rfl (Nat.le_of_ble_eq_true rfl) rfl rfl dX5_supply_61 ?_
      refine lv_iconst (v := 1) hx hb dX5_supply_64 (by decide) ?_
      refine lv_iadd hx hb dX5_supply_65 ?_
      obtain ⟨M9, eM9⟩ : ∃ z, z = z_us M8 35 ((M8 35 0) + 1) := ⟨_, rfl⟩
      have h := h M9 eM9
      refine z_mputs (j := 35) (ty := .int) X hB q3245 rfl (Nat.le_of_ble_eq_true rfl) rfl rfl rfl rfl (Or.inl rfl) rfl dX5_supply_66 (fun H locs hB => ?_)
      rw [← eM9] at hB
      refine lv_aload_n hx hb dX5_supply_69 rfl (lv_at hl 0 rfl) ?_
      refine z_mgets (j := 35) X hB q3245 rfl (Nat.le_of_ble_eq_true rfl) rfl rfl dX5_supply_70 ?_
      refine lv_iconst (v := 1) hx hb dX5_supply_73 (by decide) ?_
      refine lv_isub hx hb dX5_supply_74 ?_
      obtain ⟨hL, I, hB, hM⟩ := hB
      exact z_iret X hB ⟨_, rfl, (by rw [hM]; exact h), rfl, rfl⟩ (Nat.le_refl 0) (Nat.le_refl 0) dX5_supply_75
    · have h := h.2 c3
      refine lv_aload_n hx hb dX5_supply_35 rfl (lv_at hl 0 rfl) ?_
      refine lv_iconst (v := 2) hx hb dX5_supply_36 (by decide) ?_
      refine z_mcalli (fun _ h => h) (fun I1 hB1 hM => z_runV (rest := []) [.int 2] pk_X5_fails (met_X5_fails hB.1 hM 2 _ h) X hB1 (by decide) q3472 kc_X5 (by decide) (by rw [hB.1.1]) rfl hl.1 (Nat.le_of_ble_eq_true rfl) dX5_supply_37 (Nat.le_refl 0) (Nat.le_refl 0) (by decide) (by decide)) hB (fun r10 M11 H locs h hB => ?_)
      obtain ⟨hL, I, hB, hM⟩ := hB
      exact z_iret X hB ⟨_, rfl, (by rw [hM]; exact h), rfl, rfl⟩ (Nat.le_refl 0) (Nat.le_refl 0) dX5_supply_40
  · have h := h.2 c2
    refine lv_aload_n hx hb dX5_supply_7 rfl (lv_at hl 0 rfl) ?_
    refine lv_iconst (v := 1) hx hb dX5_supply_8 (by decide) ?_
    refine z_mcalli (fun _ h => h) (fun I1 hB1 hM => z_runV (rest := []) [.int 1] pk_X5_fails (met_X5_fails hB.1 hM 1 _ h) X hB1 (by decide) q3472 kc_X5 (by decide) (by rw [hB.1.1]) rfl hl.1 (Nat.le_of_ble_eq_true rfl) dX5_supply_9 (Nat.le_refl 0) (Nat.le_refl 0) (by decide) (by decide)) hB (fun r12 M13 H locs h hB => ?_)
    obtain ⟨hL, I, hB, hM⟩ := hB
    exact z_iret X hB ⟨_, rfl, (by rw [hM]; exact h), rfl, rfl⟩ (Nat.le_refl 0) (Nat.le_refl 0) dX5_supply_12
theorem pk_X5_supply : z_PV RX5 yX5_supply cX5_supply 2 (some .int) 1 := ⟨q3484, q3485, q131, q3486, by decide +kernel⟩
theorem met_X5_supply {l : Launch} {G : z_E} {T : z_T} {I : z_I} {Q : z_Q} {o : Nat} {b : Nat → Nat} {M : z_M} (hL : z_lie T Q o b) (hM : z_of I o b = M) (x1 : Int32) (Qk : Int32 → z_M → Prop) (h : wp_X5_supply M x1 Qk) : z_GM l G yX5_supply (ws_ yX5_supply cX5_supply 2 (some .int)) 12 208 0 0 [.ref o, .int x1] z_P1c T I Q (z_mi Qk T Q o b) z_no := by
  refine z_body (own := RX5) (nm := "supply") (by decide +kernel) rfl rfl (Nat.le_of_ble_eq_true rfl) (fun p e R s m below meth c A ls X hB hl => ?_)
  exact ww_X5_supply_0 X ⟨hL, I, hB, hM⟩ hl h
/-! X5_conflicts -/
theorem ww_X5_conflicts_0 {M : z_M} {Qk : Int32 → Prop} (X : z_XM l G A p R s m args meth c cX5_conflicts 2 "conflicts" (some .int) 8 120) {x1 : Int32} {H : Heap} {locs : List Loc} {ls : Array Slot} (hB : z_MB G z_P1c A s.heap T I0 Q o b M H locs) (hl : lv_has ls 2 [(0, .ref o), (1, .int x1)]) (h : wb_X5_conflicts_0 M Qk x1) : W p l e R s m args below meth c H locs 0 0 (z_MQ below G z_P1c A T I0 Q (z_mi (fun r M1 => Qk r ∧ M1 = M) T Q o b) z_no args s 0 0) (F0 m 0 ls []) := by
  obtain ⟨hx, hb, -⟩ := id X
  unfold wb_X5_conflicts_0 at h
  refine lv_aload_n hx hb dX5_conflicts_0 rfl (lv_at hl 0 rfl) ?_
  refine z_mgeta (j := 1) X hB q3211 rfl (Nat.le_of_ble_eq_true rfl) rfl (by decide) dX5_conflicts_1 ?_
  refine lv_iload_n hx hb dX5_conflicts_4 rfl (lv_at hl 1 rfl) ?_
  obtain ⟨h1, h⟩ := h
  refine z_mald (f := 1) X hB (by decide) h1 dX5_conflicts_5 ?_
  refine lv_iconst (v := 1) hx hb dX5_conflicts_6 (by decide) ?_
  refine lv_iload_n hx hb dX5_conflicts_7 rfl (lv_at hl 1 rfl) ?_
  refine lv_ishl hx hb dX5_conflicts_8 ?_
  refine lv_ior hx hb dX5_conflicts_9 ?_
  obtain ⟨hL, I, hB, hM⟩ := hB
  exact z_iret X hB ⟨_, rfl, ⟨h, hM⟩, rfl, rfl⟩ (Nat.le_refl 0) (Nat.le_refl 0) dX5_conflicts_10
theorem pk_X5_conflicts : z_PV RX5 yX5_conflicts cX5_conflicts 2 (some .int) 1 := ⟨q3497, qs61, q131, q3498, by decide +kernel⟩
theorem met_X5_conflicts {l : Launch} {G : z_E} {T : z_T} {I : z_I} {Q : z_Q} {o : Nat} {b : Nat → Nat} {M : z_M} (hL : z_lie T Q o b) (hM : z_of I o b = M) (x1 : Int32) (Qk : Int32 → Prop) (h : wp_X5_conflicts M x1 Qk) : z_GM l G yX5_conflicts (ws_ yX5_conflicts cX5_conflicts 2 (some .int)) 8 120 0 0 [.ref o, .int x1] z_P1c T I Q (z_mi (fun r M1 => Qk r ∧ M1 = M) T Q o b) z_no := by
  refine z_body (own := RX5) (nm := "conflicts") (by decide +kernel) rfl rfl (Nat.le_of_ble_eq_true rfl) (fun p e R s m below meth c A ls X hB hl => ?_)
  exact ww_X5_conflicts_0 X ⟨hL, I, hB, hM⟩ hl h
/-! X5_zone -/
theorem ww_X5_zone_112 {k83 : z_M → Int32 → Int32 → Int32 → Prop} {Qk : Int32 → z_M → Prop} (X : z_XM l G A p R s m args meth c cX5_zone 5 "zone" (some .int) 12 209) (hk83 : ∀ {M : z_M} {x1 : Int32} {x3 : Int32} {x4 : Int32} {H : Heap} {locs : List Loc} {ls : Array Slot}, z_MB G z_P1c A s.heap T I0 Q o b M H locs → lv_has ls 5 [(0, .ref o), (1, .int x1), (3, .int x3), (4, .int x4)] → k83 M x1 x3 x4 → W p l e R s m args below meth c H locs 0 0 (z_MQ below G z_P1c A T I0 Q (z_mi Qk T Q o b) z_no args s 0 0) (F0 m 83 ls [])) {M : z_M} {x1 : Int32} {x4 : Int32} {s0 : Int32} {s1 : Int32} {H : Heap} {locs : List Loc} {ls : Array Slot} (hB : z_MB G z_P1c A s.heap T I0 Q o b M H locs) (hl : lv_has ls 5 [(0, .ref o), (1, .int x1), (4, .int x4)]) (h : wb_X5_zone_112 k83 Qk M x1 x4 s0 s1) : W p l e R s m args below meth c H locs 0 0 (z_MQ below G z_P1c A T I0 Q (z_mi Qk T Q o b) z_no args s 0 0) (F0 m 112 ls [.int s1, .int s0]) := by
  obtain ⟨hx, hb, -⟩ := id X
  unfold wb_X5_zone_112 at h
  refine lv_ior hx hb dX5_zone_112 ?_
  refine lv_topi (fun y18 ey18 => ?_)
  have h := h y18 ey18
  refine lv_istore_n (lv' := [(3, .int y18), (0, .ref o), (1, .int x1), (4, .int x4)]) hx hb dX5_zone_113 rfl hl (by decide) rfl (fun ls hl => ?_)
  obtain ⟨y19, ey19⟩ : ∃ z : Int32, z = x4 + 1 := ⟨_, rfl⟩
  have h := h y19 ey19
  refine lv_iinc (v := y19) (lv' := [(4, .int y19), (3, .int y18), (0, .ref o), (1, .int x1)]) hx hb dX5_zone_114 hl (k := 3) rfl (by rw [ey19]; rfl) (by decide) rfl (fun ls hl => ?_)
  refine lv_goto (tgt := 83) hx hb dX5_zone_117 (by decide) ?_
  exact hk83 hB (lv_sub hl [2, 3, 1, 0] rfl) h
theorem wv_X5_zone_83 {Qk : Int32 → z_M → Prop} (X : z_XM l G A p R s m args meth c cX5_zone 5 "zone" (some .int) 12 209) : ∀ (n : Nat) {M : z_M} {x1 : Int32} {x3 : Int32} {x4 : Int32} {H : Heap} {locs : List Loc} {ls : Array Slot}, z_MB G z_P1c A s.heap T I0 Q o b M H locs → lv_has ls 5 [(0, .ref o), (1, .int x1), (3, .int x3), (4, .int x4)] → wl_X5_zone_83 Qk n M x1 x3 x4 → W p l e R s m args below meth c H locs 0 0 (z_MQ below G z_P1c A T I0 Q (z_mi Qk T Q o b) z_no args s 0 0) (F0 m 83 ls []) := by
  intro n
  induction n with
  | zero =>
    intro M x1 x3 x4 H locs ls hB hl h
    exact h.elim
  | succ n ih =>
    intro M x1 x3 x4 H locs ls hB hl h
    obtain ⟨hx, hb, -⟩ := id X
    unfold wl_X5_zone_83 at h
    refine lv_iload hx hb dX5_zone_83 (lv_at hl 3 rfl) ?_
    refine lv_iconst (v := 3) hx hb dX5_zone_85 (by decide) ?_
    refine lv_icmp_ge (tgt := 120) hx hb dX5_zone_86 (by decide) (fun c15 => ?_) (fun c15 => ?_)
    · have h := h.1 c15
      refine lv_iload_n hx hb dX5_zone_120 rfl (lv_at hl 2 rfl) ?_
      obtain ⟨hL, I, hB, hM⟩ := hB
      exact z_iret X hB ⟨_, rfl, (by rw [hM]; exact h), rfl, rfl⟩ (Nat.le_refl 0) (Nat.le_refl 0) dX5_zone_121
    · have h := h.2 c15
      refine lv_iload_n hx hb dX5_zone_89 rfl (lv_at hl 2 rfl) ?_
      refine lv_aload_n hx hb dX5_zone_90 rfl (lv_at hl 0 rfl) ?_
      refine z_mgeta (j := 10) X hB q3220 rfl (Nat.le_of_ble_eq_true rfl) rfl (by decide) dX5_zone_91 ?_
      refine lv_iload hx hb dX5_zone_94 (lv_at hl 3 rfl) ?_
      obtain ⟨h1, h⟩ := h
      refine z_mald (f := 10) X hB (by decide) h1 dX5_zone_96 ?_
      refine lv_iload_n hx hb dX5_zone_97 rfl (lv_at hl 1 rfl) ?_
      refine z_mcallzp (fun I1 hB1 hM => z_runS (rest := [.int x3]) [.int (M 10 x4.toNatClampNeg), .int x1] pk_X5_has (met_X5_has (M 10 x4.toNatClampNeg) x1 _ h) X hB1 (fun h => h) q3434 rfl hl.1 (Nat.le_of_ble_eq_true rfl) dX5_zone_98 (Nat.le_refl 0) (Nat.le_refl 0) (by decide) (by decide)) hB (fun r16 H locs hz h hB => ?_)
      have h := h hz
      refine lv_if_eq (tgt := 111) hx hb dX5_zone_101 (by decide) (fun c17 => ?_) (fun c17 => ?_)
      · have h := h.1 c17
        refine lv_iconst (v := 0) hx hb dX5_zone_111 (by decide) ?_
        exact ww_X5_zone_112 X (fun hB hl h => ih hB hl h) hB (lv_sub hl [0, 1, 3] rfl) h
      · have h := h.2 c17
        refine lv_iconst (v := 1) hx hb dX5_zone_104 (by decide) ?_
        refine lv_iload hx hb dX5_zone_105 (lv_at hl 3 rfl) ?_
        refine lv_ishl hx hb dX5_zone_107 ?_
        refine lv_goto (tgt := 112) hx hb dX5_zone_108 (by decide) ?_
        exact ww_X5_zone_112 X (fun hB hl h => ih hB hl h) hB (lv_sub hl [0, 1, 3] rfl) h
theorem ww_X5_zone_155 {k125 : z_M → Int32 → Int32 → Int32 → Prop} {Qk : Int32 → z_M → Prop} (X : z_XM l G A p R s m args meth c cX5_zone 5 "zone" (some .int) 12 209) (hk125 : ∀ {M : z_M} {x1 : Int32} {x3 : Int32} {x4 : Int32} {H : Heap} {locs : List Loc} {ls : Array Slot}, z_MB G z_P1c A s.heap T I0 Q o b M H locs → lv_has ls 5 [(0, .ref o), (1, .int x1), (3, .int x3), (4, .int x4)] → k125 M x1 x3 x4 → W p l e R s m args below meth c H locs 0 0 (z_MQ below G z_P1c A T I0 Q (z_mi Qk T Q o b) z_no args s 0 0) (F0 m 125 ls [])) {M : z_M} {x1 : Int32} {x4 : Int32} {s0 : Int32} {s1 : Int32} {H : Heap} {locs : List Loc} {ls : Array Slot} (hB : z_MB G z_P1c A s.heap T I0 Q o b M H locs) (hl : lv_has ls 5 [(0, .ref o), (1, .int x1), (4, .int x4)]) (h : wb_X5_zone_155 k125 Qk M x1 x4 s0 s1) : W p l e R s m args below meth c H locs 0 0 (z_MQ below G z_P1c A T I0 Q (z_mi Qk T Q o b) z_no args s 0 0) (F0 m 155 ls [.int s1, .int s0]) := by
  obtain ⟨hx, hb, -⟩ := id X
  unfold wb_X5_zone_155 at h
  refine lv_ior hx hb dX5_zone_155 ?_
  refine lv_topi (fun y26 ey26 => ?_)
  have h := h y26 ey26
  refine lv_istore_n (lv' := [(3, .int y26), (0, .ref o), (1, .int x1), (4, .int x4)]) hx hb dX5_zone_156 rfl hl (by decide) rfl (fun ls hl => ?_)
  obtain ⟨y27, ey27⟩ : ∃ z : Int32, z = x4 + 1 := ⟨_, rfl⟩
  have h := h y27 ey27
  refine lv_iinc (v := y27) (lv' := [(4, .int y27), (3, .int y26), (0, .ref o), (1, .int x1)]) hx hb dX5_zone_157 hl (k := 3) rfl (by rw [ey27]; rfl) (by decide) rfl (fun ls hl => ?_)
  refine lv_goto (tgt := 125) hx hb dX5_zone_160 (by decide) ?_
  exact hk125 hB (lv_sub hl [2, 3, 1, 0] rfl) h
theorem wv_X5_zone_125 {Qk : Int32 → z_M → Prop} (X : z_XM l G A p R s m args meth c cX5_zone 5 "zone" (some .int) 12 209) : ∀ (n : Nat) {M : z_M} {x1 : Int32} {x3 : Int32} {x4 : Int32} {H : Heap} {locs : List Loc} {ls : Array Slot}, z_MB G z_P1c A s.heap T I0 Q o b M H locs → lv_has ls 5 [(0, .ref o), (1, .int x1), (3, .int x3), (4, .int x4)] → wl_X5_zone_125 Qk n M x1 x3 x4 → W p l e R s m args below meth c H locs 0 0 (z_MQ below G z_P1c A T I0 Q (z_mi Qk T Q o b) z_no args s 0 0) (F0 m 125 ls []) := by
  intro n
  induction n with
  | zero =>
    intro M x1 x3 x4 H locs ls hB hl h
    exact h.elim
  | succ n ih =>
    intro M x1 x3 x4 H locs ls hB hl h
    obtain ⟨hx, hb, -⟩ := id X
    unfold wl_X5_zone_125 at h
    refine lv_iload hx hb dX5_zone_125 (lv_at hl 3 rfl) ?_
    refine lv_iconst (v := 3) hx hb dX5_zone_127 (by decide) ?_
    refine lv_icmp_ge (tgt := 163) hx hb dX5_zone_128 (by decide) (fun c20 => ?_) (fun c20 => ?_)
    · have h := h.1 c20
      refine lv_iload_n hx hb dX5_zone_163 rfl (lv_at hl 2 rfl) ?_
      obtain ⟨hL, I, hB, hM⟩ := hB
      exact z_iret X hB ⟨_, rfl, (by rw [hM]; exact h), rfl, rfl⟩ (Nat.le_refl 0) (Nat.le_refl 0) dX5_zone_164
    · have h := h.2 c20
      refine lv_iload_n hx hb dX5_zone_131 rfl (lv_at hl 2 rfl) ?_
      refine lv_aload_n hx hb dX5_zone_132 rfl (lv_at hl 0 rfl) ?_
      refine lv_iload hx hb dX5_zone_133 (lv_at hl 3 rfl) ?_
      refine z_mcalli (fun _ h => h) (fun I1 hB1 hM => z_runV (rest := [.int x3]) [.int x4] pk_X5_holds (met_X5_holds hB.1 hM x4 _ h) X hB1 (by decide) q3422 kc_X5 (by decide) (by rw [hB.1.1]) rfl hl.1 (Nat.le_of_ble_eq_true rfl) dX5_zone_135 (Nat.le_refl 0) (Nat.le_refl 0) (by decide) (by decide)) hB (fun r21 M22 H locs h hB => ?_)
      obtain ⟨h, eM22⟩ := h
      rw [eM22] at hB
      refine lv_aload_n hx hb dX5_zone_138 rfl (lv_at hl 0 rfl) ?_
      refine lv_iload_n hx hb dX5_zone_139 rfl (lv_at hl 1 rfl) ?_
      refine z_mcalli (fun _ h => h) (fun I1 hB1 hM => z_runV (rest := [.int r21, .int x3]) [.int x1] pk_X5_conflicts (met_X5_conflicts hB.1 hM x1 _ h) X hB1 (by decide) q3495 kc_X5 (by decide) (by rw [hB.1.1]) rfl hl.1 (Nat.le_of_ble_eq_true rfl) dX5_zone_140 (Nat.le_refl 0) (Nat.le_refl 0) (by decide) (by decide)) hB (fun r23 M24 H locs h hB => ?_)
      obtain ⟨h, eM24⟩ := h
      rw [eM24] at hB
      refine lv_iand hx hb dX5_zone_143 ?_
      refine lv_if_eq (tgt := 154) hx hb dX5_zone_144 (by decide) (fun c25 => ?_) (fun c25 => ?_)
      · have h := h.1 c25
        refine lv_iconst (v := 0) hx hb dX5_zone_154 (by decide) ?_
        exact ww_X5_zone_155 X (fun hB hl h => ih hB hl h) hB (lv_sub hl [0, 1, 3] rfl) h
      · have h := h.2 c25
        refine lv_iconst (v := 1) hx hb dX5_zone_147 (by decide) ?_
        refine lv_iload hx hb dX5_zone_148 (lv_at hl 3 rfl) ?_
        refine lv_ishl hx hb dX5_zone_150 ?_
        refine lv_goto (tgt := 155) hx hb dX5_zone_151 (by decide) ?_
        exact ww_X5_zone_155 X (fun hB hl h => ih hB hl h) hB (lv_sub hl [0, 1, 3] rfl) h
theorem ww_X5_zone_0 {Qk : Int32 → z_M → Prop} (X : z_XM l G A p R s m args meth c cX5_zone 5 "zone" (some .int) 12 209) {M : z_M} {x1 : Int32} {x2 : Int32} {H : Heap} {locs : List Loc} {ls : Array Slot} (hB : z_MB G z_P1c A s.heap T I0 Q o b M H locs) (hl : lv_has ls 5 [(0, .ref o), (1, .int x1), (2, .int x2)]) (h : wb_X5_zone_0 Qk M x1 x2) : W p l e R s m args below meth c H locs 0 0 (z_MQ below G z_P1c A T I0 Q (z_mi Qk T Q o b) z_no args s 0 0) (F0 m 0 ls []) := by
  obtain ⟨hx, hb, -⟩ := id X
  unfold wb_X5_zone_0 at h
  refine lv_iload_n hx hb dX5_zone_0 rfl (lv_at hl 1 rfl) ?_
  refine z_mcallzp (fun I1 hB1 hM => z_runS (rest := []) [.int x1] pk_X5_isZone (met_X5_isZone x1 _ h) X hB1 (fun h => h) q3412 rfl hl.1 (Nat.le_of_ble_eq_true rfl) dX5_zone_1 (Nat.le_refl 0) (Nat.le_refl 0) (by decide) (by decide)) hB (fun r1 H locs hz h hB => ?_)
  have h := h hz
  refine lv_if_ne (tgt := 13) hx hb dX5_zone_4 (by decide) (fun c2 => ?_) (fun c2 => ?_)
  · have h := h.1 c2
    refine lv_iload_n hx hb dX5_zone_13 rfl (lv_at hl 2 rfl) ?_
    refine lv_iconst (v := 0) hx hb dX5_zone_14 (by decide) ?_
    refine lv_iconst (v := 4) hx hb dX5_zone_15 (by decide) ?_
    refine z_mcallzp (fun I1 hB1 hM => z_runS (rest := []) [.int x2, .int 0, .int 4] pk_X5_isBetween (met_X5_isBetween x2 0 4 _ h) X hB1 (fun h => h) q3415 rfl hl.1 (Nat.le_of_ble_eq_true rfl) dX5_zone_16 (Nat.le_refl 0) (Nat.le_refl 0) (by decide) (by decide)) hB (fun r3 H locs hz h hB => ?_)
    have h := h hz
    refine lv_if_ne (tgt := 28) hx hb dX5_zone_19 (by decide) (fun c4 => ?_) (fun c4 => ?_)
    · have h := h.1 c4
      refine lv_aload_n hx hb dX5_zone_28 rfl (lv_at hl 0 rfl) ?_
      refine lv_iconst (v := 0) hx hb dX5_zone_29 (by decide) ?_
      obtain ⟨M5, eM5⟩ : ∃ z, z = z_us M 0 0 := ⟨_, rfl⟩
      have h := h M5 eM5
      refine z_mputs (j := 0) (ty := .int) X hB q3210 rfl (Nat.le_of_ble_eq_true rfl) rfl rfl rfl rfl (Or.inl rfl) rfl dX5_zone_30 (fun H locs hB => ?_)
      rw [← eM5] at hB
      refine lv_iconst (v := 0) hx hb dX5_zone_33 (by decide) ?_
      refine lv_istore_n (lv' := [(3, .int 0), (0, .ref o), (1, .int x1), (2, .int x2)]) hx hb dX5_zone_34 rfl hl (by decide) rfl (fun ls hl => ?_)
      refine lv_iload_n hx hb dX5_zone_35 rfl (lv_at hl 3 rfl) ?_
      by_cases c6_0 : x2 = 0
      · have h := h.1 c6_0
        refine lv_tableIn (off := 32) (tgt := 68) hx hb dX5_zone_36 (by rw [c6_0]; decide) (by rw [c6_0]; decide) (by rw [c6_0]; rfl) (by decide) ?_
        refine lv_aload_n hx hb dX5_zone_68 rfl (lv_at hl 1 rfl) ?_
        refine lv_iload_n hx hb dX5_zone_69 rfl (lv_at hl 2 rfl) ?_
        refine z_mcalli (fun _ h => h) (fun I1 hB1 hM => z_runV (rest := []) [.int x1] pk_X5_holderOf (met_X5_holderOf hB.1 hM x1 _ h) X hB1 (by decide) q3418 kc_X5 (by decide) (by rw [hB.1.1]) rfl hl.1 (Nat.le_of_ble_eq_true rfl) dX5_zone_70 (Nat.le_refl 0) (Nat.le_refl 0) (by decide) (by decide)) hB (fun r7 M8 H locs h hB => ?_)
        obtain ⟨h, eM8⟩ := h
        rw [eM8] at hB
        obtain ⟨hL, I, hB, hM⟩ := hB
        exact z_iret X hB ⟨_, rfl, (by rw [hM]; exact h), rfl, rfl⟩ (Nat.le_refl 0) (Nat.le_refl 0) dX5_zone_73
      · by_cases c6_1 : x2 = 1
        · have h := h.2.1 c6_1
          refine lv_tableIn (off := 38) (tgt := 74) hx hb dX5_zone_36 (by rw [c6_1]; decide) (by rw [c6_1]; decide) (by rw [c6_1]; rfl) (by decide) ?_
          refine lv_aload_n hx hb dX5_zone_74 rfl (lv_at hl 1 rfl) ?_
          refine lv_iload_n hx hb dX5_zone_75 rfl (lv_at hl 2 rfl) ?_
          refine z_mcalli (fun _ h => h) (fun I1 hB1 hM => z_runV (rest := []) [.int x1] pk_X5_conflicts (met_X5_conflicts hB.1 hM x1 _ h) X hB1 (by decide) q3495 kc_X5 (by decide) (by rw [hB.1.1]) rfl hl.1 (Nat.le_of_ble_eq_true rfl) dX5_zone_76 (Nat.le_refl 0) (Nat.le_refl 0) (by decide) (by decide)) hB (fun r9 M10 H locs h hB => ?_)
          obtain ⟨h, eM10⟩ := h
          rw [eM10] at hB
          obtain ⟨hL, I, hB, hM⟩ := hB
          exact z_iret X hB ⟨_, rfl, (by rw [hM]; exact h), rfl, rfl⟩ (Nat.le_refl 0) (Nat.le_refl 0) dX5_zone_79
        · by_cases c6_2 : x2 = 2
          · have h := h.2.2.1 c6_2
            refine lv_tableIn (off := 44) (tgt := 80) hx hb dX5_zone_36 (by rw [c6_2]; decide) (by rw [c6_2]; decide) (by rw [c6_2]; rfl) (by decide) ?_
            refine lv_iconst (v := 0) hx hb dX5_zone_80 (by decide) ?_
            refine lv_istore (lv' := [(4, .int 0), (3, .int 0), (0, .ref o), (1, .int x1), (2, .int x2)]) hx hb dX5_zone_81 hl (by decide) rfl (fun ls hl => ?_)
            obtain ⟨w, h⟩ := h
            exact wv_X5_zone_83 X  w hB (lv_sub hl [2, 3, 1, 0] rfl) h
          · by_cases c6_3 : x2 = 3
            · have h := h.2.2.2.1 c6_3
              refine lv_tableIn (off := 86) (tgt := 122) hx hb dX5_zone_36 (by rw [c6_3]; decide) (by rw [c6_3]; decide) (by rw [c6_3]; rfl) (by decide) ?_
              refine lv_iconst (v := 0) hx hb dX5_zone_122 (by decide) ?_
              refine lv_istore (lv' := [(4, .int 0), (3, .int 0), (0, .ref o), (1, .int x1), (2, .int x2)]) hx hb dX5_zone_123 hl (by decide) rfl (fun ls hl => ?_)
              obtain ⟨w, h⟩ := h
              exact wv_X5_zone_125 X  w hB (lv_sub hl [2, 3, 1, 0] rfl) h
            · have h := h.2.2.2.2 c6_0 c6_1 c6_2 c6_3
              refine lv_tableOut (tgt := 165) hx hb dX5_zone_36 ?_ (by decide) ?_
              · have q0 := lv_neT c6_0 (a := 0) (by decide)
                have q1 := lv_neT c6_1 (a := 1) (by decide)
                have q2 := lv_neT c6_2 (a := 2) (by decide)
                have q3 := lv_neT c6_3 (a := 3) (by decide)
                omega
              · refine lv_aload_n hx hb dX5_zone_165 rfl (lv_at hl 1 rfl) ?_
                refine z_mgeta (j := 2) X hB q3212 rfl (Nat.le_of_ble_eq_true rfl) rfl (by decide) dX5_zone_166 ?_
                refine lv_iload_n hx hb dX5_zone_169 rfl (lv_at hl 2 rfl) ?_
                obtain ⟨h1, h⟩ := h
                refine z_mald (f := 2) X hB (by decide) h1 dX5_zone_170 ?_
                obtain ⟨hL, I, hB, hM⟩ := hB
                exact z_iret X hB ⟨_, rfl, (by rw [hM]; exact h), rfl, rfl⟩ (Nat.le_refl 0) (Nat.le_refl 0) dX5_zone_171
    · have h := h.2 c4
      refine lv_aload_n hx hb dX5_zone_22 rfl (lv_at hl 0 rfl) ?_
      refine lv_iconst (v := 2) hx hb dX5_zone_23 (by decide) ?_
      refine z_mcalli (fun _ h => h) (fun I1 hB1 hM => z_runV (rest := []) [.int 2] pk_X5_fails (met_X5_fails hB.1 hM 2 _ h) X hB1 (by decide) q3472 kc_X5 (by decide) (by rw [hB.1.1]) rfl hl.1 (Nat.le_of_ble_eq_true rfl) dX5_zone_24 (Nat.le_refl 0) (Nat.le_refl 0) (by decide) (by decide)) hB (fun r11 M12 H locs h hB => ?_)
      obtain ⟨hL, I, hB, hM⟩ := hB
      exact z_iret X hB ⟨_, rfl, (by rw [hM]; exact h), rfl, rfl⟩ (Nat.le_refl 0) (Nat.le_refl 0) dX5_zone_27
  · have h := h.2 c2
    refine lv_aload_n hx hb dX5_zone_7 rfl (lv_at hl 0 rfl) ?_
    refine lv_iconst (v := 1) hx hb dX5_zone_8 (by decide) ?_
    refine z_mcalli (fun _ h => h) (fun I1 hB1 hM => z_runV (rest := []) [.int 1] pk_X5_fails (met_X5_fails hB.1 hM 1 _ h) X hB1 (by decide) q3472 kc_X5 (by decide) (by rw [hB.1.1]) rfl hl.1 (Nat.le_of_ble_eq_true rfl) dX5_zone_9 (Nat.le_refl 0) (Nat.le_refl 0) (by decide) (by decide)) hB (fun r13 M14 H locs h hB => ?_)
    obtain ⟨hL, I, hB, hM⟩ := hB
    exact z_iret X hB ⟨_, rfl, (by rw [hM]; exact h), rfl, rfl⟩ (Nat.le_refl 0) (Nat.le_refl 0) dX5_zone_12
theorem pk_X5_zone : z_PV RX5 yX5_zone cX5_zone 5 (some .int) 2 := ⟨q3492, q3493, q131, q3494, by decide +kernel⟩
theorem met_X5_zone {l : Launch} {G : z_E} {T : z_T} {I : z_I} {Q : z_Q} {o : Nat} {b : Nat → Nat} {M : z_M} (hL : z_lie T Q o b) (hM : z_of I o b = M) (x1 : Int32) (x2 : Int32) (Qk : Int32 → z_M → Prop) (h : wp_X5_zone M x1 x2 Qk) : z_GM l G yX5_zone (ws_ yX5_zone cX5_zone 5 (some .int)) 12 209 0 0 [.ref o, .int x1, .int x2] z_P1c T I Q (z_mi Qk T Q o b) z_no := by
  refine z_body (own := RX5) (nm := "zone") (by decide +kernel) rfl rfl (Nat.le_of_ble_eq_true rfl) (fun p e R s m below meth c A ls X hB hl => ?_)
  exact ww_X5_zone_0 X ⟨hL, I, hB, hM⟩ hl h
/-! X5_buffer -/
theorem ww_X5_buffer_0 {Qk : Int32 → z_M → Prop} (X : z_XM l G A p R s m args meth c cX5_buffer 3 "buffer" (some .int) 10 162) {M : z_M} {x1 : Int32} {x2 : Int32} {H : Heap} {locs : List Loc} {ls : Array Slot} (hB : z_MB G z_P1c A s.heap T I0 Q o b M H locs) (hl : lv_has ls 3 [(0, .ref o), (1, .int x1), (2, .int x2)]) (h : wb_X5_buffer_0 Qk M x1 x2) : W p l e R s m args below meth c H locs 0 0 (z_MQ below G z_P1c A T I0 Q (z_mi Qk T Q o b) z_no args s 0 0) (F0 m 0 ls []) := by
  obtain ⟨hx, hb, -⟩ := id X
  unfold wb_X5_buffer_0 at h
  refine lv_iload_n hx hb dX5_buffer_0 rfl (lv_at hl 1 rfl) ?_
  refine z_mcallzp (fun I1 hB1 hM => z_runS (rest := []) [.int x1] pk_X5_isBuffer (met_X5_isBuffer x1 _ h) X hB1 (fun h => h) q3480 rfl hl.1 (Nat.le_of_ble_eq_true rfl) dX5_buffer_1 (Nat.le_refl 0) (Nat.le_refl 0) (by decide) (by decide)) hB (fun r1 H locs hz h hB => ?_)
  have h := h hz
  refine lv_if_ne (tgt := 13) hx hb dX5_buffer_4 (by decide) (fun c2 => ?_) (fun c2 => ?_)
  · have h := h.1 c2
    refine lv_iload_n hx hb dX5_buffer_13 rfl (lv_at hl 2 rfl) ?_
    refine lv_iconst (v := 0) hx hb dX5_buffer_14 (by decide) ?_
    refine lv_iconst (v := 5) hx hb dX5_buffer_15 (by decide) ?_
    refine z_mcallzp (fun I1 hB1 hM => z_runS (rest := []) [.int x2, .int 0, .int 5] pk_X5_isBetween (met_X5_isBetween x2 0 5 _ h) X hB1 (fun h => h) q3415 rfl hl.1 (Nat.le_of_ble_eq_true rfl) dX5_buffer_16 (Nat.le_refl 0) (Nat.le_refl 0) (by decide) (by decide)) hB (fun r3 H locs hz h hB => ?_)
    have h := h hz
    refine lv_if_ne (tgt := 28) hx hb dX5_buffer_19 (by decide) (fun c4 => ?_) (fun c4 => ?_)
    · have h := h.1 c4
      refine lv_aload_n hx hb dX5_buffer_28 rfl (lv_at hl 0 rfl) ?_
      refine lv_iconst (v := 0) hx hb dX5_buffer_29 (by decide) ?_
      obtain ⟨M5, eM5⟩ : ∃ z, z = z_us M 0 0 := ⟨_, rfl⟩
      have h := h M5 eM5
      refine z_mputs (j := 0) (ty := .int) X hB q3210 rfl (Nat.le_of_ble_eq_true rfl) rfl rfl rfl rfl (Or.inl rfl) rfl dX5_buffer_30 (fun H locs hB => ?_)
      rw [← eM5] at hB
      refine lv_iload_n hx hb dX5_buffer_33 rfl (lv_at hl 2 rfl) ?_
      by_cases c6_0 : x2 = 0
      · have h := h.1 c6_0
        refine lv_tableIn (off := 34) (tgt := 68) hx hb dX5_buffer_34 (by rw [c6_0]; decide) (by rw [c6_0]; decide) (by rw [c6_0]; rfl) (by decide) ?_
        refine lv_aload_n hx hb dX5_buffer_68 rfl (lv_at hl 0 rfl) ?_
        refine z_mgeta (j := 3) X hB q3213 rfl (Nat.le_of_ble_eq_true rfl) rfl (by decide) dX5_buffer_69 ?_
        refine lv_iload_n hx hb dX5_buffer_72 rfl (lv_at hl 1 rfl) ?_
        obtain ⟨h1, h⟩ := h
        refine z_mald (f := 3) X hB (by decide) h1 dX5_buffer_73 ?_
        obtain ⟨hL, I, hB, hM⟩ := hB
        exact z_iret X hB ⟨_, rfl, (by rw [hM]; exact h), rfl, rfl⟩ (Nat.le_refl 0) (Nat.le_refl 0) dX5_buffer_74
      · by_cases c6_1 : x2 = 1
        · have h := h.2.1 c6_1
          refine lv_tableIn (off := 41) (tgt := 75) hx hb dX5_buffer_34 (by rw [c6_1]; decide) (by rw [c6_1]; decide) (by rw [c6_1]; rfl) (by decide) ?_
          refine lv_aload_n hx hb dX5_buffer_75 rfl (lv_at hl 0 rfl) ?_
          refine z_mgeta (j := 4) X hB q3214 rfl (Nat.le_of_ble_eq_true rfl) rfl (by decide) dX5_buffer_76 ?_
          refine lv_iload_n hx hb dX5_buffer_79 rfl (lv_at hl 1 rfl) ?_
          obtain ⟨h1, h⟩ := h
          refine z_mald (f := 4) X hB (by decide) h1 dX5_buffer_80 ?_
          obtain ⟨hL, I, hB, hM⟩ := hB
          exact z_iret X hB ⟨_, rfl, (by rw [hM]; exact h), rfl, rfl⟩ (Nat.le_refl 0) (Nat.le_refl 0) dX5_buffer_81
        · by_cases c6_2 : x2 = 2
          · have h := h.2.2.1 c6_2
            refine lv_tableIn (off := 48) (tgt := 82) hx hb dX5_buffer_34 (by rw [c6_2]; decide) (by rw [c6_2]; decide) (by rw [c6_2]; rfl) (by decide) ?_
            refine lv_aload_n hx hb dX5_buffer_82 rfl (lv_at hl 0 rfl) ?_
            refine z_mgeta (j := 6) X hB q3216 rfl (Nat.le_of_ble_eq_true rfl) rfl (by decide) dX5_buffer_83 ?_
            refine lv_iload_n hx hb dX5_buffer_86 rfl (lv_at hl 1 rfl) ?_
            obtain ⟨h1, h⟩ := h
            refine z_mald (f := 6) X hB (by decide) h1 dX5_buffer_87 ?_
            obtain ⟨hL, I, hB, hM⟩ := hB
            exact z_iret X hB ⟨_, rfl, (by rw [hM]; exact h), rfl, rfl⟩ (Nat.le_refl 0) (Nat.le_refl 0) dX5_buffer_88
          · by_cases c6_3 : x2 = 3
            · have h := h.2.2.2.1 c6_3
              refine lv_tableIn (off := 55) (tgt := 89) hx hb dX5_buffer_34 (by rw [c6_3]; decide) (by rw [c6_3]; decide) (by rw [c6_3]; rfl) (by decide) ?_
              refine lv_aload_n hx hb dX5_buffer_89 rfl (lv_at hl 0 rfl) ?_
              refine z_mgeta (j := 7) X hB q3217 rfl (Nat.le_of_ble_eq_true rfl) rfl (by decide) dX5_buffer_90 ?_
              refine lv_iload_n hx hb dX5_buffer_93 rfl (lv_at hl 1 rfl) ?_
              obtain ⟨h1, h⟩ := h
              refine z_mald (f := 7) X hB (by decide) h1 dX5_buffer_94 ?_
              obtain ⟨hL, I, hB, hM⟩ := hB
              exact z_iret X hB ⟨_, rfl, (by rw [hM]; exact h), rfl, rfl⟩ (Nat.le_refl 0) (Nat.le_refl 0) dX5_buffer_95
            · by_cases c6_4 : x2 = 4
              · have h := h.2.2.2.2.1 c6_4
                refine lv_tableIn (off := 62) (tgt := 96) hx hb dX5_buffer_34 (by rw [c6_4]; decide) (by rw [c6_4]; decide) (by rw [c6_4]; rfl) (by decide) ?_
                refine lv_aload_n hx hb dX5_buffer_96 rfl (lv_at hl 0 rfl) ?_
                refine z_mgeta (j := 8) X hB q3218 rfl (Nat.le_of_ble_eq_true rfl) rfl (by decide) dX5_buffer_97 ?_
                refine lv_iload_n hx hb dX5_buffer_100 rfl (lv_at hl 1 rfl) ?_
                obtain ⟨h1, h⟩ := h
                refine z_mald (f := 8) X hB (by decide) h1 dX5_buffer_101 ?_
                obtain ⟨hL, I, hB, hM⟩ := hB
                exact z_iret X hB ⟨_, rfl, (by rw [hM]; exact h), rfl, rfl⟩ (Nat.le_refl 0) (Nat.le_refl 0) dX5_buffer_102
              · have h := h.2.2.2.2.2 c6_0 c6_1 c6_2 c6_3 c6_4
                refine lv_tableOut (tgt := 103) hx hb dX5_buffer_34 ?_ (by decide) ?_
                · have q0 := lv_neT c6_0 (a := 0) (by decide)
                  have q1 := lv_neT c6_1 (a := 1) (by decide)
                  have q2 := lv_neT c6_2 (a := 2) (by decide)
                  have q3 := lv_neT c6_3 (a := 3) (by decide)
                  have q4 := lv_neT c6_4 (a := 4) (by decide)
                  omega
                · refine lv_aload_n hx hb dX5_buffer_103 rfl (lv_at hl 0 rfl) ?_
                  refine z_mgeta (j := 9) X hB q3219 rfl (Nat.le_of_ble_eq_true rfl) rfl (by decide) dX5_buffer_104 ?_
                  refine lv_iload_n hx hb dX5_buffer_107 rfl (lv_at hl 1 rfl) ?_
                  obtain ⟨h1, h⟩ := h
                  refine z_mald (f := 9) X hB (by decide) h1 dX5_buffer_108 ?_
                  obtain ⟨hL, I, hB, hM⟩ := hB
                  exact z_iret X hB ⟨_, rfl, (by rw [hM]; exact h), rfl, rfl⟩ (Nat.le_refl 0) (Nat.le_refl 0) dX5_buffer_109
    · have h := h.2 c4
      refine lv_aload_n hx hb dX5_buffer_22 rfl (lv_at hl 0 rfl) ?_
      refine lv_iconst (v := 2) hx hb dX5_buffer_23 (by decide) ?_
      refine z_mcalli (fun _ h => h) (fun I1 hB1 hM => z_runV (rest := []) [.int 2] pk_X5_fails (met_X5_fails hB.1 hM 2 _ h) X hB1 (by decide) q3472 kc_X5 (by decide) (by rw [hB.1.1]) rfl hl.1 (Nat.le_of_ble_eq_true rfl) dX5_buffer_24 (Nat.le_refl 0) (Nat.le_refl 0) (by decide) (by decide)) hB (fun r7 M8 H locs h hB => ?_)
      obtain ⟨hL, I, hB, hM⟩ := hB
      exact z_iret X hB ⟨_, rfl, (by rw [hM]; exact h), rfl, rfl⟩ (Nat.le_refl 0) (Nat.le_refl 0) dX5_buffer_27
  · have h := h.2 c2
    refine lv_aload_n hx hb dX5_buffer_7 rfl (lv_at hl 0 rfl) ?_
    refine lv_iconst (v := 1) hx hb dX5_buffer_8 (by decide) ?_
    refine z_mcalli (fun _ h => h) (fun I1 hB1 hM => z_runV (rest := []) [.int 1] pk_X5_fails (met_X5_fails hB.1 hM 1 _ h) X hB1 (by decide) q3472 kc_X5 (by decide) (by rw [hB.1.1]) rfl hl.1 (Nat.le_of_ble_eq_true rfl) dX5_buffer_9 (Nat.le_refl 0) (Nat.le_refl 0) (by decide) (by decide)) hB (fun r9 M10 H locs h hB => ?_)
    obtain ⟨hL, I, hB, hM⟩ := hB
    exact z_iret X hB ⟨_, rfl, (by rw [hM]; exact h), rfl, rfl⟩ (Nat.le_refl 0) (Nat.le_refl 0) dX5_buffer_12
theorem pk_X5_buffer : z_PV RX5 yX5_buffer cX5_buffer 3 (some .int) 2 := ⟨q3500, q3501, q131, q3502, by decide +kernel⟩
theorem met_X5_buffer {l : Launch} {G : z_E} {T : z_T} {I : z_I} {Q : z_Q} {o : Nat} {b : Nat → Nat} {M : z_M} (hL : z_lie T Q o b) (hM : z_of I o b = M) (x1 : Int32) (x2 : Int32) (Qk : Int32 → z_M → Prop) (h : wp_X5_buffer M x1 x2 Qk) : z_GM l G yX5_buffer (ws_ yX5_buffer cX5_buffer 3 (some .int)) 10 162 0 0 [.ref o, .int x1, .int x2] z_P1c T I Q (z_mi Qk T Q o b) z_no := by
  refine z_body (own := RX5) (nm := "buffer") (by decide +kernel) rfl rfl (Nat.le_of_ble_eq_true rfl) (fun p e R s m below meth c A ls X hB hl => ?_)
  exact ww_X5_buffer_0 X ⟨hL, I, hB, hM⟩ hl h
/-! X5_part -/
theorem ww_X5_part_0 {Qk : Int32 → z_M → Prop} (X : z_XM l G A p R s m args meth c cX5_part 3 "part" (some .int) 10 162) {M : z_M} {x1 : Int32} {x2 : Int32} {H : Heap} {locs : List Loc} {ls : Array Slot} (hB : z_MB G z_P1c A s.heap T I0 Q o b M H locs) (hl : lv_has ls 3 [(0, .ref o), (1, .int x1), (2, .int x2)]) (h : wb_X5_part_0 Qk M x1 x2) : W p l e R s m args below meth c H locs 0 0 (z_MQ below G z_P1c A T I0 Q (z_mi Qk T Q o b) z_no args s 0 0) (F0 m 0 ls []) := by
  obtain ⟨hx, hb, -⟩ := id X
  unfold wb_X5_part_0 at h
  refine lv_iload_n hx hb dX5_part_0 rfl (lv_at hl 1 rfl) ?_
  refine z_mcallzp (fun I1 hB1 hM => z_runS (rest := []) [.int x1] pk_X5_isBuffer (met_X5_isBuffer x1 _ h) X hB1 (fun h => h) q3480 rfl hl.1 (Nat.le_of_ble_eq_true rfl) dX5_part_1 (Nat.le_refl 0) (Nat.le_refl 0) (by decide) (by decide)) hB (fun r1 H locs hz h hB => ?_)
  have h := h hz
  refine lv_if_ne (tgt := 13) hx hb dX5_part_4 (by decide) (fun c2 => ?_) (fun c2 => ?_)
  · have h := h.1 c2
    refine lv_iload_n hx hb dX5_part_13 rfl (lv_at hl 2 rfl) ?_
    refine lv_iconst (v := 0) hx hb dX5_part_14 (by decide) ?_
    refine lv_aload_n hx hb dX5_part_15 rfl (lv_at hl 0 rfl) ?_
    refine z_mgeta (j := 4) X hB q3214 rfl (Nat.le_of_ble_eq_true rfl) rfl (by decide) dX5_part_16 ?_
    refine lv_iload_n hx hb dX5_part_19 rfl (lv_at hl 1 rfl) ?_
    obtain ⟨h1, h⟩ := h
    refine z_mald (f := 4) X hB (by decide) h1 dX5_part_20 ?_
    refine lv_iconst (v := 1) hx hb dX5_part_21 (by decide) ?_
    refine lv_isub hx hb dX5_part_22 ?_
    refine z_mcallzp (fun I1 hB1 hM => z_runS (rest := []) [.int x2, .int 0, .int ((M 4 x1.toNatClampNeg) - 1)] pk_X5_isBetween (met_X5_isBetween x2 0 ((M 4 x1.toNatClampNeg) - 1) _ h) X hB1 (fun h => h) q3415 rfl hl.1 (Nat.le_of_ble_eq_true rfl) dX5_part_23 (Nat.le_refl 0) (Nat.le_refl 0) (by decide) (by decide)) hB (fun r3 H locs hz h hB => ?_)
    have h := h hz
    refine lv_if_ne (tgt := 35) hx hb dX5_part_26 (by decide) (fun c4 => ?_) (fun c4 => ?_)
    · have h := h.1 c4
      refine lv_aload_n hx hb dX5_part_35 rfl (lv_at hl 0 rfl) ?_
      refine lv_iconst (v := 0) hx hb dX5_part_36 (by decide) ?_
      obtain ⟨M5, eM5⟩ : ∃ z, z = z_us M 0 0 := ⟨_, rfl⟩
      have h := h M5 eM5
      refine z_mputs (j := 0) (ty := .int) X hB q3210 rfl (Nat.le_of_ble_eq_true rfl) rfl rfl rfl rfl (Or.inl rfl) rfl dX5_part_37 (fun H locs hB => ?_)
      rw [← eM5] at hB
      refine lv_aload_n hx hb dX5_part_40 rfl (lv_at hl 0 rfl) ?_
      refine z_mgeta (j := 5) X hB q3215 rfl (Nat.le_of_ble_eq_true rfl) rfl (by decide) dX5_part_41 ?_
      refine lv_iconst (v := 4) hx hb dX5_part_44 (by decide) ?_
      refine lv_iload_n hx hb dX5_part_45 rfl (lv_at hl 1 rfl) ?_
      refine lv_imul hx hb dX5_part_46 ?_
      refine lv_iload_n hx hb dX5_part_47 rfl (lv_at hl 2 rfl) ?_
      refine lv_iadd hx hb dX5_part_48 ?_
      obtain ⟨h1, h⟩ := h
      refine z_mald (f := 5) X hB (by decide) h1 dX5_part_49 ?_
      obtain ⟨hL, I, hB, hM⟩ := hB
      exact z_iret X hB ⟨_, rfl, (by rw [hM]; exact h), rfl, rfl⟩ (Nat.le_refl 0) (Nat.le_refl 0) dX5_part_50
    · have h := h.2 c4
      refine lv_aload_n hx hb dX5_part_29 rfl (lv_at hl 0 rfl) ?_
      refine lv_iconst (v := 2) hx hb dX5_part_30 (by decide) ?_
      refine z_mcalli (fun _ h => h) (fun I1 hB1 hM => z_runV (rest := []) [.int 2] pk_X5_fails (met_X5_fails hB.1 hM 2 _ h) X hB1 (by decide) q3472 kc_X5 (by decide) (by rw [hB.1.1]) rfl hl.1 (Nat.le_of_ble_eq_true rfl) dX5_part_31 (Nat.le_refl 0) (Nat.le_refl 0) (by decide) (by decide)) hB (fun r6 M7 H locs h hB => ?_)
      obtain ⟨hL, I, hB, hM⟩ := hB
      exact z_iret X hB ⟨_, rfl, (by rw [hM]; exact h), rfl, rfl⟩ (Nat.le_refl 0) (Nat.le_refl 0) dX5_part_34
  · have h := h.2 c2
    refine lv_aload_n hx hb dX5_part_7 rfl (lv_at hl 0 rfl) ?_
    refine lv_iconst (v := 1) hx hb dX5_part_8 (by decide) ?_
    refine z_mcalli (fun _ h => h) (fun I1 hB1 hM => z_runV (rest := []) [.int 1] pk_X5_fails (met_X5_fails hB.1 hM 1 _ h) X hB1 (by decide) q3472 kc_X5 (by decide) (by rw [hB.1.1]) rfl hl.1 (Nat.le_of_ble_eq_true rfl) dX5_part_9 (Nat.le_refl 0) (Nat.le_refl 0) (by decide) (by decide)) hB (fun r8 M9 H locs h hB => ?_)
    obtain ⟨hL, I, hB, hM⟩ := hB
    exact z_iret X hB ⟨_, rfl, (by rw [hM]; exact h), rfl, rfl⟩ (Nat.le_refl 0) (Nat.le_refl 0) dX5_part_12
theorem pk_X5_part : z_PV RX5 yX5_part cX5_part 3 (some .int) 2 := ⟨q3504, q3505, q131, q3506, by decide +kernel⟩
theorem met_X5_part {l : Launch} {G : z_E} {T : z_T} {I : z_I} {Q : z_Q} {o : Nat} {b : Nat → Nat} {M : z_M} (hL : z_lie T Q o b) (hM : z_of I o b = M) (x1 : Int32) (x2 : Int32) (Qk : Int32 → z_M → Prop) (h : wp_X5_part M x1 x2 Qk) : z_GM l G yX5_part (ws_ yX5_part cX5_part 3 (some .int)) 10 162 0 0 [.ref o, .int x1, .int x2] z_P1c T I Q (z_mi Qk T Q o b) z_no := by
  refine z_body (own := RX5) (nm := "part") (by decide +kernel) rfl rfl (Nat.le_of_ble_eq_true rfl) (fun p e R s m below meth c A ls X hB hl => ?_)
  exact ww_X5_part_0 X ⟨hL, I, hB, hM⟩ hl h
/-! X5_digitsOf -/
theorem wv_X5_digitsOf_4 {Qk : Int32 → Prop} (X : z_X l G A p R s m args meth c cX5_digitsOf 3 RX5 "digitsOf" (some .int) 0 0 8 120) : ∀ (n : Nat) {x1 : Int32} {x2 : Int32} {H : Heap} {locs : List Loc} {ls : Array Slot}, z_HB G z_none A s.heap T I Q T I Q H locs → lv_has ls 3 [(1, .int x1), (2, .int x2)] → wl_X5_digitsOf_4 Qk n x1 x2 → W p l e R s m args below meth c H locs 0 0 (z_MQ below G z_none A T I Q (z_pi Qk T I Q) z_no args s 0 0) (F0 m 4 ls []) := by
  intro n
  induction n with
  | zero =>
    intro x1 x2 H locs ls hB hl h
    exact h.elim
  | succ n ih =>
    intro x1 x2 H locs ls hB hl h
    obtain ⟨hx, hb, -⟩ := id X
    unfold wl_X5_digitsOf_4 at h
    refine lv_iload_n hx hb dX5_digitsOf_4 rfl (lv_at hl 1 rfl) ?_
    refine lv_if_le (tgt := 19) hx hb dX5_digitsOf_5 (by decide) (fun c1 => ?_) (fun c1 => ?_)
    · have h := h.1 c1
      refine lv_iload_n hx hb dX5_digitsOf_19 rfl (lv_at hl 0 rfl) ?_
      exact z_iret X hB ⟨_, rfl, h, rfl, rfl, rfl⟩ (Nat.le_refl 0) (Nat.le_refl 0) dX5_digitsOf_20
    · have h := h.2 c1
      obtain ⟨y2, ey2⟩ : ∃ z : Int32, z = x1 + 1 := ⟨_, rfl⟩
      have h := h y2 ey2
      refine lv_iinc (v := y2) (lv' := [(1, .int y2), (2, .int x2)]) hx hb dX5_digitsOf_8 hl (k := 0) rfl (by rw [ey2]; rfl) (by decide) rfl (fun ls hl => ?_)
      refine lv_iload_n hx hb dX5_digitsOf_11 rfl (lv_at hl 1 rfl) ?_
      refine lv_bipush (v := 10) hx hb dX5_digitsOf_12 (by decide) ?_
      refine lv_idiv hx hb dX5_digitsOf_14 (by decide) ?_
      refine lv_topi (fun y3 ey3 => ?_)
      have h := h y3 ey3
      refine lv_istore_n (lv' := [(2, .int y3), (1, .int y2)]) hx hb dX5_digitsOf_15 rfl hl (by decide) rfl (fun ls hl => ?_)
      refine lv_goto (tgt := 4) hx hb dX5_digitsOf_16 (by decide) ?_
      exact ih hB (lv_sub hl [1, 0] rfl) h
theorem ww_X5_digitsOf_0 {Qk : Int32 → Prop} (X : z_X l G A p R s m args meth c cX5_digitsOf 3 RX5 "digitsOf" (some .int) 0 0 8 120) {x0 : Int32} {H : Heap} {locs : List Loc} {ls : Array Slot} (hB : z_HB G z_none A s.heap T I Q T I Q H locs) (hl : lv_has ls 3 [(0, .int x0)]) (h : wb_X5_digitsOf_0 Qk x0) : W p l e R s m args below meth c H locs 0 0 (z_MQ below G z_none A T I Q (z_pi Qk T I Q) z_no args s 0 0) (F0 m 0 ls []) := by
  obtain ⟨hx, hb, -⟩ := id X
  unfold wb_X5_digitsOf_0 at h
  refine lv_iconst (v := 0) hx hb dX5_digitsOf_0 (by decide) ?_
  refine lv_istore_n (lv' := [(1, .int 0), (0, .int x0)]) hx hb dX5_digitsOf_1 rfl hl (by decide) rfl (fun ls hl => ?_)
  refine lv_iload_n hx hb dX5_digitsOf_2 rfl (lv_at hl 1 rfl) ?_
  refine lv_istore_n (lv' := [(2, .int x0), (1, .int 0), (0, .int x0)]) hx hb dX5_digitsOf_3 rfl hl (by decide) rfl (fun ls hl => ?_)
  obtain ⟨w, h⟩ := h
  exact wv_X5_digitsOf_4 X  w hB (lv_sub hl [1, 0] rfl) h
theorem pk_X5_digitsOf : z_PS yX5_digitsOf cX5_digitsOf 3 (some .int) 1 := ⟨q3519, q131, q3520, by decide +kernel⟩
theorem met_X5_digitsOf {l : Launch} {G : z_E} {T : z_T} {I : z_I} {Q : z_Q} (x0 : Int32) (Qk : Int32 → Prop) (h : wp_X5_digitsOf x0 Qk) : z_GM l G yX5_digitsOf (ws_ yX5_digitsOf cX5_digitsOf 3 (some .int)) 8 120 0 0 [.int x0] z_none T I Q (z_pi Qk T I Q) z_no := by
  refine z_body (own := RX5) (nm := "digitsOf") (by decide +kernel) rfl rfl (Nat.le_of_ble_eq_true rfl) (fun p e R s m below meth c A ls X hB hl => ?_)
  exact ww_X5_digitsOf_0 X hB hl h
/-! X5_gives -/
theorem ww_X5_gives_0 {Qk : z_M → Prop} (X : z_XM l G A p R s m args meth c cX5_gives 7 "gives" none 9 142) {M : z_M} {x1 : Int32} {x2 : Int32} {x3 : Int32} {x4 : Int32} {x5 : Int32} {x6 : Int32} {H : Heap} {locs : List Loc} {ls : Array Slot} (hB : z_MB G z_P1c A s.heap T I0 Q o b M H locs) (hl : lv_has ls 7 [(0, .ref o), (1, .int x1), (2, .int x2), (3, .int x3), (4, .int x4), (5, .int x5), (6, .int x6)]) (h : wb_X5_gives_0 Qk M x1 x2 x3 x4 x5 x6) : W p l e R s m args below meth c H locs 0 0 (z_MQ below G z_P1c A T I0 Q (z_mv_ Qk T Q o b) z_no args s 0 0) (F0 m 0 ls []) := by
  obtain ⟨hx, hb, -⟩ := id X
  unfold wb_X5_gives_0 at h
  refine lv_aload_n hx hb dX5_gives_0 rfl (lv_at hl 0 rfl) ?_
  refine z_mgeta (j := 22) X hB q3232 rfl (Nat.le_of_ble_eq_true rfl) rfl (by decide) dX5_gives_1 ?_
  refine lv_aload_n hx hb dX5_gives_4 rfl (lv_at hl 0 rfl) ?_
  refine z_mgets (j := 34) X hB q3244 rfl (Nat.le_of_ble_eq_true rfl) rfl rfl dX5_gives_5 ?_
  refine lv_iload_n hx hb dX5_gives_8 rfl (lv_at hl 1 rfl) ?_
  obtain ⟨h1, h⟩ := h
  obtain ⟨M1, eM1⟩ : ∃ z, z = z_up M 22 (M 34 0).toNatClampNeg x1 := ⟨_, rfl⟩
  have h := h M1 eM1
  refine z_mast (P := z_P1c) (f := 22) rfl X hB (by decide) h1 dX5_gives_9 (fun H locs hB => ?_)
  rw [← eM1] at hB
  refine lv_aload_n hx hb dX5_gives_10 rfl (lv_at hl 0 rfl) ?_
  refine z_mgeta (j := 23) X hB q3233 rfl (Nat.le_of_ble_eq_true rfl) rfl (by decide) dX5_gives_11 ?_
  refine lv_aload_n hx hb dX5_gives_14 rfl (lv_at hl 0 rfl) ?_
  refine z_mgets (j := 34) X hB q3244 rfl (Nat.le_of_ble_eq_true rfl) rfl rfl dX5_gives_15 ?_
  refine lv_iload_n hx hb dX5_gives_18 rfl (lv_at hl 2 rfl) ?_
  obtain ⟨h1, h⟩ := h
  obtain ⟨M2, eM2⟩ : ∃ z, z = z_up M1 23 (M1 34 0).toNatClampNeg x2 := ⟨_, rfl⟩
  have h := h M2 eM2
  refine z_mast (P := z_P1c) (f := 23) rfl X hB (by decide) h1 dX5_gives_19 (fun H locs hB => ?_)
  rw [← eM2] at hB
  refine lv_aload_n hx hb dX5_gives_20 rfl (lv_at hl 0 rfl) ?_
  refine z_mgeta (j := 24) X hB q3234 rfl (Nat.le_of_ble_eq_true rfl) rfl (by decide) dX5_gives_21 ?_
  refine lv_aload_n hx hb dX5_gives_24 rfl (lv_at hl 0 rfl) ?_
  refine z_mgets (j := 34) X hB q3244 rfl (Nat.le_of_ble_eq_true rfl) rfl rfl dX5_gives_25 ?_
  refine lv_iload_n hx hb dX5_gives_28 rfl (lv_at hl 2 rfl) ?_
  refine z_mcallip (fun I1 hB1 hM => z_runS (rest := [.int (M2 34 0), .ref (b 24)]) [.int x2] pk_X5_digitsOf (met_X5_digitsOf x2 _ h) X hB1 (fun h => h) q3518 rfl hl.1 (Nat.le_of_ble_eq_true rfl) dX5_gives_29 (Nat.le_refl 0) (Nat.le_refl 0) (by decide) (by decide)) hB (fun r3 H locs h hB => ?_)
  obtain ⟨h1, h⟩ := h
  obtain ⟨M4, eM4⟩ : ∃ z, z = z_up M2 24 (M2 34 0).toNatClampNeg r3 := ⟨_, rfl⟩
  have h := h M4 eM4
  refine z_mast (P := z_P1c) (f := 24) rfl X hB (by decide) h1 dX5_gives_32 (fun H locs hB => ?_)
  rw [← eM4] at hB
  refine lv_aload_n hx hb dX5_gives_33 rfl (lv_at hl 0 rfl) ?_
  refine z_mgeta (j := 25) X hB q3235 rfl (Nat.le_of_ble_eq_true rfl) rfl (by decide) dX5_gives_34 ?_
  refine lv_aload_n hx hb dX5_gives_37 rfl (lv_at hl 0 rfl) ?_
  refine z_mgets (j := 34) X hB q3244 rfl (Nat.le_of_ble_eq_true rfl) rfl rfl dX5_gives_38 ?_
  refine lv_iload_n hx hb dX5_gives_41 rfl (lv_at hl 3 rfl) ?_
  obtain ⟨h1, h⟩ := h
  obtain ⟨M5, eM5⟩ : ∃ z, z = z_up M4 25 (M4 34 0).toNatClampNeg x3 := ⟨_, rfl⟩
  have h := h M5 eM5
  refine z_mast (P := z_P1c) (f := 25) rfl X hB (by decide) h1 dX5_gives_42 (fun H locs hB => ?_)
  rw [← eM5] at hB
  refine lv_aload_n hx hb dX5_gives_43 rfl (lv_at hl 0 rfl) ?_
  refine z_mgeta (j := 26) X hB q3236 rfl (Nat.le_of_ble_eq_true rfl) rfl (by decide) dX5_gives_44 ?_
  refine lv_aload_n hx hb dX5_gives_47 rfl (lv_at hl 0 rfl) ?_
  refine z_mgets (j := 34) X hB q3244 rfl (Nat.le_of_ble_eq_true rfl) rfl rfl dX5_gives_48 ?_
  refine lv_iload hx hb dX5_gives_51 (lv_at hl 4 rfl) ?_
  obtain ⟨h1, h⟩ := h
  obtain ⟨M6, eM6⟩ : ∃ z, z = z_up M5 26 (M5 34 0).toNatClampNeg x4 := ⟨_, rfl⟩
  have h := h M6 eM6
  refine z_mast (P := z_P1c) (f := 26) rfl X hB (by decide) h1 dX5_gives_53 (fun H locs hB => ?_)
  rw [← eM6] at hB
  refine lv_aload_n hx hb dX5_gives_54 rfl (lv_at hl 0 rfl) ?_
  refine z_mgeta (j := 27) X hB q3237 rfl (Nat.le_of_ble_eq_true rfl) rfl (by decide) dX5_gives_55 ?_
  refine lv_aload_n hx hb dX5_gives_58 rfl (lv_at hl 0 rfl) ?_
  refine z_mgets (j := 34) X hB q3244 rfl (Nat.le_of_ble_eq_true rfl) rfl rfl dX5_gives_59 ?_
  refine lv_iload hx hb dX5_gives_62 (lv_at hl 5 rfl) ?_
  obtain ⟨h1, h⟩ := h
  obtain ⟨M7, eM7⟩ : ∃ z, z = z_up M6 27 (M6 34 0).toNatClampNeg x5 := ⟨_, rfl⟩
  have h := h M7 eM7
  refine z_mast (P := z_P1c) (f := 27) rfl X hB (by decide) h1 dX5_gives_64 (fun H locs hB => ?_)
  rw [← eM7] at hB
  refine lv_aload_n hx hb dX5_gives_65 rfl (lv_at hl 0 rfl) ?_
  refine z_mgeta (j := 28) X hB q3238 rfl (Nat.le_of_ble_eq_true rfl) rfl (by decide) dX5_gives_66 ?_
  refine lv_aload_n hx hb dX5_gives_69 rfl (lv_at hl 0 rfl) ?_
  refine z_mgets (j := 34) X hB q3244 rfl (Nat.le_of_ble_eq_true rfl) rfl rfl dX5_gives_70 ?_
  refine lv_iload hx hb dX5_gives_73 (lv_at hl 6 rfl) ?_
  obtain ⟨h1, h⟩ := h
  obtain ⟨M8, eM8⟩ : ∃ z, z = z_up M7 28 (M7 34 0).toNatClampNeg x6 := ⟨_, rfl⟩
  have h := h M8 eM8
  refine z_mast (P := z_P1c) (f := 28) rfl X hB (by decide) h1 dX5_gives_75 (fun H locs hB => ?_)
  rw [← eM8] at hB
  refine lv_aload_n hx hb dX5_gives_76 rfl (lv_at hl 0 rfl) ?_
  refine z_mgeta (j := 29) X hB q3239 rfl (Nat.le_of_ble_eq_true rfl) rfl (by decide) dX5_gives_77 ?_
  refine lv_aload_n hx hb dX5_gives_80 rfl (lv_at hl 0 rfl) ?_
  refine z_mgets (j := 34) X hB q3244 rfl (Nat.le_of_ble_eq_true rfl) rfl rfl dX5_gives_81 ?_
  refine lv_iconst (v := 0) hx hb dX5_gives_84 (by decide) ?_
  obtain ⟨h1, h⟩ := h
  obtain ⟨M9, eM9⟩ : ∃ z, z = z_up M8 29 (M8 34 0).toNatClampNeg 0 := ⟨_, rfl⟩
  have h := h M9 eM9
  refine z_mast (P := z_P1c) (f := 29) rfl X hB (by decide) h1 dX5_gives_85 (fun H locs hB => ?_)
  rw [← eM9] at hB
  refine lv_aload_n hx hb dX5_gives_86 rfl (lv_at hl 0 rfl) ?_
  refine z_mgeta (j := 30) X hB q3240 rfl (Nat.le_of_ble_eq_true rfl) rfl (by decide) dX5_gives_87 ?_
  refine lv_aload_n hx hb dX5_gives_90 rfl (lv_at hl 0 rfl) ?_
  refine z_mgets (j := 34) X hB q3244 rfl (Nat.le_of_ble_eq_true rfl) rfl rfl dX5_gives_91 ?_
  refine lv_iconst (v := (-1)) hx hb dX5_gives_94 (by decide) ?_
  obtain ⟨h1, h⟩ := h
  obtain ⟨M10, eM10⟩ : ∃ z, z = z_up M9 30 (M9 34 0).toNatClampNeg (-1) := ⟨_, rfl⟩
  have h := h M10 eM10
  refine z_mast (P := z_P1c) (f := 30) rfl X hB (by decide) h1 dX5_gives_95 (fun H locs hB => ?_)
  rw [← eM10] at hB
  refine lv_aload_n hx hb dX5_gives_96 rfl (lv_at hl 0 rfl) ?_
  refine z_mgeta (j := 31) X hB q3241 rfl (Nat.le_of_ble_eq_true rfl) rfl (by decide) dX5_gives_97 ?_
  refine lv_aload_n hx hb dX5_gives_100 rfl (lv_at hl 0 rfl) ?_
  refine z_mgets (j := 34) X hB q3244 rfl (Nat.le_of_ble_eq_true rfl) rfl rfl dX5_gives_101 ?_
  refine lv_iconst (v := (-1)) hx hb dX5_gives_104 (by decide) ?_
  obtain ⟨h1, h⟩ := h
  obtain ⟨M11, eM11⟩ : ∃ z, z = z_up M10 31 (M10 34 0).toNatClampNeg (-1) := ⟨_, rfl⟩
  have h := h M11 eM11
  refine z_mast (P := z_P1c) (f := 31) rfl X hB (by decide) h1 dX5_gives_105 (fun H locs hB => ?_)
  rw [← eM11] at hB
  refine lv_aload_n hx hb dX5_gives_106 rfl (lv_at hl 0 rfl) ?_
  refine z_mgeta (j := 12) X hB q3222 rfl (Nat.le_of_ble_eq_true rfl) rfl (by decide) dX5_gives_107 ?_
  refine lv_bipush (v := 30) hx hb dX5_gives_110 (by decide) ?_
  refine lv_iload_n hx hb dX5_gives_112 rfl (lv_at hl 1 rfl) ?_
  refine lv_imul hx hb dX5_gives_113 ?_
  refine lv_aload_n hx hb dX5_gives_114 rfl (lv_at hl 0 rfl) ?_
  refine z_mgeta (j := 11) X hB q3221 rfl (Nat.le_of_ble_eq_true rfl) rfl (by decide) dX5_gives_115 ?_
  refine lv_iload_n hx hb dX5_gives_118 rfl (lv_at hl 1 rfl) ?_
  obtain ⟨h1, h⟩ := h
  refine z_mald (f := 11) X hB (by decide) h1 dX5_gives_119 ?_
  refine lv_iadd hx hb dX5_gives_120 ?_
  refine lv_aload_n hx hb dX5_gives_121 rfl (lv_at hl 0 rfl) ?_
  refine z_mgets (j := 34) X hB q3244 rfl (Nat.le_of_ble_eq_true rfl) rfl rfl dX5_gives_122 ?_
  obtain ⟨h1, h⟩ := h
  obtain ⟨M12, eM12⟩ : ∃ z, z = z_up M11 12 ((30 * x1) + (M11 11 x1.toNatClampNeg)).toNatClampNeg (M11 34 0) := ⟨_, rfl⟩
  have h := h M12 eM12
  refine z_mast (P := z_P1c) (f := 12) rfl X hB (by decide) h1 dX5_gives_125 (fun H locs hB => ?_)
  rw [← eM12] at hB
  refine lv_aload_n hx hb dX5_gives_126 rfl (lv_at hl 0 rfl) ?_
  refine z_mgeta (j := 11) X hB q3221 rfl (Nat.le_of_ble_eq_true rfl) rfl (by decide) dX5_gives_127 ?_
  refine lv_iload_n hx hb dX5_gives_130 rfl (lv_at hl 1 rfl) ?_
  refine lv_dup2_11 hx hb dX5_gives_131 rfl rfl ?_
  obtain ⟨h1, h⟩ := h
  refine z_mald (f := 11) X hB (by decide) h1 dX5_gives_132 ?_
  refine lv_iconst (v := 1) hx hb dX5_gives_133 (by decide) ?_
  refine lv_iadd hx hb dX5_gives_134 ?_
  obtain ⟨h1, h⟩ := h
  obtain ⟨M13, eM13⟩ : ∃ z, z = z_up M12 11 x1.toNatClampNeg ((M12 11 x1.toNatClampNeg) + 1) := ⟨_, rfl⟩
  have h := h M13 eM13
  refine z_mast (P := z_P1c) (f := 11) rfl X hB (by decide) h1 dX5_gives_135 (fun H locs hB => ?_)
  rw [← eM13] at hB
  refine lv_aload_n hx hb dX5_gives_136 rfl (lv_at hl 0 rfl) ?_
  refine lv_dup hx hb dX5_gives_137 rfl ?_
  refine z_mgets (j := 34) X hB q3244 rfl (Nat.le_of_ble_eq_true rfl) rfl rfl dX5_gives_138 ?_
  refine lv_iconst (v := 1) hx hb dX5_gives_141 (by decide) ?_
  refine lv_iadd hx hb dX5_gives_142 ?_
  obtain ⟨M14, eM14⟩ : ∃ z, z = z_us M13 34 ((M13 34 0) + 1) := ⟨_, rfl⟩
  have h := h M14 eM14
  refine z_mputs (j := 34) (ty := .int) X hB q3244 rfl (Nat.le_of_ble_eq_true rfl) rfl rfl rfl rfl (Or.inl rfl) rfl dX5_gives_143 (fun H locs hB => ?_)
  rw [← eM14] at hB
  obtain ⟨hL, I, hB, hM⟩ := hB
  exact z_vret X hB ⟨rfl, (by rw [hM]; exact h), rfl, rfl⟩ (Nat.le_refl 0) (Nat.le_refl 0) dX5_gives_146
theorem pk_X5_gives : z_PV RX5 yX5_gives cX5_gives 7 none 6 := ⟨q3523, qs63, q131, q3524, by decide +kernel⟩
theorem met_X5_gives {l : Launch} {G : z_E} {T : z_T} {I : z_I} {Q : z_Q} {o : Nat} {b : Nat → Nat} {M : z_M} (hL : z_lie T Q o b) (hM : z_of I o b = M) (x1 : Int32) (x2 : Int32) (x3 : Int32) (x4 : Int32) (x5 : Int32) (x6 : Int32) (Qk : z_M → Prop) (h : wp_X5_gives M x1 x2 x3 x4 x5 x6 Qk) : z_GM l G yX5_gives (ws_ yX5_gives cX5_gives 7 none) 9 142 0 0 [.ref o, .int x1, .int x2, .int x3, .int x4, .int x5, .int x6] z_P1c T I Q (z_mv_ Qk T Q o b) z_no := by
  refine z_body (own := RX5) (nm := "gives") (by decide +kernel) rfl rfl (Nat.le_of_ble_eq_true rfl) (fun p e R s m below meth c A ls X hB hl => ?_)
  exact ww_X5_gives_0 X ⟨hL, I, hB, hM⟩ hl h
/-! X5_setOf -/
theorem ww_X5_setOf_12 {Qk : Int32 → Prop} (X : z_X l G A p R s m args meth c cX5_setOf 5 RX5 "setOf" (some .int) 0 0 9 142) {H : Heap} {locs : List Loc} {ls : Array Slot} (hB : z_HB G z_none A s.heap T I Q T I Q H locs) (hl : lv_has ls 5 []) (h : wb_X5_setOf_12 Qk) : W p l e R s m args below meth c H locs 0 0 (z_MQ below G z_none A T I Q (z_pi Qk T I Q) z_no args s 0 0) (F0 m 12 ls []) := by
  obtain ⟨hx, hb, -⟩ := id X
  unfold wb_X5_setOf_12 at h
  refine lv_iconst (v := (-1)) hx hb dX5_setOf_12 (by decide) ?_
  exact z_iret X hB ⟨_, rfl, h, rfl, rfl, rfl⟩ (Nat.le_refl 0) (Nat.le_refl 0) dX5_setOf_13
theorem ww_X5_setOf_47 {Qk : Int32 → Prop} (X : z_X l G A p R s m args meth c cX5_setOf 5 RX5 "setOf" (some .int) 0 0 9 142) {H : Heap} {locs : List Loc} {ls : Array Slot} (hB : z_HB G z_none A s.heap T I Q T I Q H locs) (hl : lv_has ls 5 []) (h : wb_X5_setOf_47 Qk) : W p l e R s m args below meth c H locs 0 0 (z_MQ below G z_none A T I Q (z_pi Qk T I Q) z_no args s 0 0) (F0 m 47 ls []) := by
  obtain ⟨hx, hb, -⟩ := id X
  unfold wb_X5_setOf_47 at h
  refine lv_iconst (v := (-1)) hx hb dX5_setOf_47 (by decide) ?_
  exact z_iret X hB ⟨_, rfl, h, rfl, rfl, rfl⟩ (Nat.le_refl 0) (Nat.le_refl 0) dX5_setOf_48
theorem wv_X5_setOf_20 {Qk : Int32 → Prop} (X : z_X l G A p R s m args meth c cX5_setOf 5 RX5 "setOf" (some .int) 0 0 9 142) : ∀ (n : Nat) {x1 : Int32} {x2 : Int32} {x3 : Int32} {H : Heap} {locs : List Loc} {ls : Array Slot}, z_HB G z_none A s.heap T I Q T I Q H locs → lv_has ls 5 [(1, .int x1), (2, .int x2), (3, .int x3)] → wl_X5_setOf_20 Qk n x1 x2 x3 → W p l e R s m args below meth c H locs 0 0 (z_MQ below G z_none A T I Q (z_pi Qk T I Q) z_no args s 0 0) (F0 m 20 ls []) := by
  intro n
  induction n with
  | zero =>
    intro x1 x2 x3 H locs ls hB hl h
    exact h.elim
  | succ n ih =>
    intro x1 x2 x3 H locs ls hB hl h
    obtain ⟨hx, hb, -⟩ := id X
    unfold wl_X5_setOf_20 at h
    refine lv_iload_n hx hb dX5_setOf_20 rfl (lv_at hl 2 rfl) ?_
    refine lv_if_le (tgt := 69) hx hb dX5_setOf_21 (by decide) (fun c4 => ?_) (fun c4 => ?_)
    · have h := h.1 c4
      refine lv_iload_n hx hb dX5_setOf_69 rfl (lv_at hl 0 rfl) ?_
      exact z_iret X hB ⟨_, rfl, h, rfl, rfl, rfl⟩ (Nat.le_refl 0) (Nat.le_refl 0) dX5_setOf_70
    · have h := h.2 c4
      refine lv_iload_n hx hb dX5_setOf_24 rfl (lv_at hl 2 rfl) ?_
      refine lv_bipush (v := 10) hx hb dX5_setOf_25 (by decide) ?_
      refine lv_irem hx hb dX5_setOf_27 (by decide) ?_
      refine lv_topi (fun y5 ey5 => ?_)
      have h := h y5 ey5
      refine lv_istore (lv' := [(4, .int y5), (1, .int x1), (2, .int x2), (3, .int x3)]) hx hb dX5_setOf_28 hl (by decide) rfl (fun ls hl => ?_)
      refine lv_iload hx hb dX5_setOf_30 (lv_at hl 0 rfl) ?_
      refine lv_iconst (v := 1) hx hb dX5_setOf_32 (by decide) ?_
      refine lv_bipush (v := 8) hx hb dX5_setOf_33 (by decide) ?_
      refine z_callzp (z_runS (rest := []) [.int y5, .int 1, .int 8] pk_X5_isBetween (met_X5_isBetween y5 1 8 _ h) X hB (fun h => h) q3415 rfl hl.1 (Nat.le_of_ble_eq_true rfl) dX5_setOf_35 (Nat.le_refl 0) (Nat.le_refl 0) (by decide) (by decide)) hB (fun r6 H locs hz h hB => ?_)
      have h := h hz
      refine lv_if_eq (tgt := 47) hx hb dX5_setOf_38 (by decide) (fun c7 => ?_) (fun c7 => ?_)
      · have h := h.1 c7
        exact ww_X5_setOf_47 X  hB (lv_sub hl [] rfl) h
      · have h := h.2 c7
        refine lv_iload hx hb dX5_setOf_41 (lv_at hl 0 rfl) ?_
        refine lv_iload_n hx hb dX5_setOf_43 rfl (lv_at hl 2 rfl) ?_
        refine lv_icmp_ne (tgt := 49) hx hb dX5_setOf_44 (by decide) (fun c8 => ?_) (fun c8 => ?_)
        · have h := h.1 c8
          refine lv_iload_n hx hb dX5_setOf_49 rfl (lv_at hl 1 rfl) ?_
          refine lv_iconst (v := 1) hx hb dX5_setOf_50 (by decide) ?_
          refine lv_iload hx hb dX5_setOf_51 (lv_at hl 0 rfl) ?_
          refine lv_iconst (v := 1) hx hb dX5_setOf_53 (by decide) ?_
          refine lv_isub hx hb dX5_setOf_54 ?_
          refine lv_ishl hx hb dX5_setOf_55 ?_
          refine lv_ior hx hb dX5_setOf_56 ?_
          refine lv_topi (fun y9 ey9 => ?_)
          have h := h y9 ey9
          refine lv_istore_n (lv' := [(1, .int y9), (4, .int y5), (2, .int x2), (3, .int x3)]) hx hb dX5_setOf_57 rfl hl (by decide) rfl (fun ls hl => ?_)
          refine lv_iload hx hb dX5_setOf_58 (lv_at hl 1 rfl) ?_
          refine lv_istore_n (lv' := [(2, .int y5), (1, .int y9), (4, .int y5), (3, .int x3)]) hx hb dX5_setOf_60 rfl hl (by decide) rfl (fun ls hl => ?_)
          refine lv_iload_n hx hb dX5_setOf_61 rfl (lv_at hl 3 rfl) ?_
          refine lv_bipush (v := 10) hx hb dX5_setOf_62 (by decide) ?_
          refine lv_idiv hx hb dX5_setOf_64 (by decide) ?_
          refine lv_topi (fun y10 ey10 => ?_)
          have h := h y10 ey10
          refine lv_istore_n (lv' := [(3, .int y10), (2, .int y5), (1, .int y9), (4, .int y5)]) hx hb dX5_setOf_65 rfl hl (by decide) rfl (fun ls hl => ?_)
          refine lv_goto (tgt := 20) hx hb dX5_setOf_66 (by decide) ?_
          exact ih hB (lv_sub hl [2, 1, 0] rfl) h
        · have h := h.2 c8
          exact ww_X5_setOf_47 X  hB (lv_sub hl [] rfl) h
theorem ww_X5_setOf_0 {Qk : Int32 → Prop} (X : z_X l G A p R s m args meth c cX5_setOf 5 RX5 "setOf" (some .int) 0 0 9 142) {x0 : Int32} {H : Heap} {locs : List Loc} {ls : Array Slot} (hB : z_HB G z_none A s.heap T I Q T I Q H locs) (hl : lv_has ls 5 [(0, .int x0)]) (h : wb_X5_setOf_0 Qk x0) : W p l e R s m args below meth c H locs 0 0 (z_MQ below G z_none A T I Q (z_pi Qk T I Q) z_no args s 0 0) (F0 m 0 ls []) := by
  obtain ⟨hx, hb, -⟩ := id X
  unfold wb_X5_setOf_0 at h
  refine lv_iload_n hx hb dX5_setOf_0 rfl (lv_at hl 0 rfl) ?_
  refine lv_if_le (tgt := 12) hx hb dX5_setOf_1 (by decide) (fun c1 => ?_) (fun c1 => ?_)
  · have h := h.1 c1
    exact ww_X5_setOf_12 X  hB (lv_sub hl [] rfl) h
  · have h := h.2 c1
    refine lv_iload_n hx hb dX5_setOf_4 rfl (lv_at hl 0 rfl) ?_
    refine z_callip (z_runS (rest := []) [.int x0] pk_X5_digitsOf (met_X5_digitsOf x0 _ h) X hB (fun h => h) q3518 rfl hl.1 (Nat.le_of_ble_eq_true rfl) dX5_setOf_5 (Nat.le_refl 0) (Nat.le_refl 0) (by decide) (by decide)) hB (fun r2 H locs h hB => ?_)
    refine lv_iconst (v := 5) hx hb dX5_setOf_8 (by decide) ?_
    refine lv_icmp_le (tgt := 14) hx hb dX5_setOf_9 (by decide) (fun c3 => ?_) (fun c3 => ?_)
    · have h := h.1 c3
      refine lv_iconst (v := 0) hx hb dX5_setOf_14 (by decide) ?_
      refine lv_istore_n (lv' := [(1, .int 0), (0, .int x0)]) hx hb dX5_setOf_15 rfl hl (by decide) rfl (fun ls hl => ?_)
      refine lv_iconst (v := (-1)) hx hb dX5_setOf_16 (by decide) ?_
      refine lv_istore_n (lv' := [(2, .int (-1)), (1, .int 0), (0, .int x0)]) hx hb dX5_setOf_17 rfl hl (by decide) rfl (fun ls hl => ?_)
      refine lv_iload_n hx hb dX5_setOf_18 rfl (lv_at hl 2 rfl) ?_
      refine lv_istore_n (lv' := [(3, .int x0), (2, .int (-1)), (1, .int 0), (0, .int x0)]) hx hb dX5_setOf_19 rfl hl (by decide) rfl (fun ls hl => ?_)
      obtain ⟨w, h⟩ := h
      exact wv_X5_setOf_20 X  w hB (lv_sub hl [2, 1, 0] rfl) h
    · have h := h.2 c3
      exact ww_X5_setOf_12 X  hB (lv_sub hl [] rfl) h
theorem pk_X5_setOf : z_PS yX5_setOf cX5_setOf 5 (some .int) 1 := ⟨q3516, q131, q3517, by decide +kernel⟩
theorem met_X5_setOf {l : Launch} {G : z_E} {T : z_T} {I : z_I} {Q : z_Q} (x0 : Int32) (Qk : Int32 → Prop) (h : wp_X5_setOf x0 Qk) : z_GM l G yX5_setOf (ws_ yX5_setOf cX5_setOf 5 (some .int)) 9 142 0 0 [.int x0] z_none T I Q (z_pi Qk T I Q) z_no := by
  refine z_body (own := RX5) (nm := "setOf") (by decide +kernel) rfl rfl (Nat.le_of_ble_eq_true rfl) (fun p e R s m below meth c A ls X hB hl => ?_)
  exact ww_X5_setOf_0 X hB hl h
/-! X5_notGiven -/
theorem ww_X5_notGiven_35 {M : z_M} {Qk : Int32 → Prop} (X : z_XM l G A p R s m args meth c cX5_notGiven 8 "notGiven" (some .int) 10 166) {H : Heap} {locs : List Loc} {ls : Array Slot} (hB : z_MB G z_P1c A s.heap T I0 Q o b M H locs) (hl : lv_has ls 8 []) (h : wb_X5_notGiven_35 M Qk) : W p l e R s m args below meth c H locs 0 0 (z_MQ below G z_P1c A T I0 Q (z_mi (fun r M1 => Qk r ∧ M1 = M) T Q o b) z_no args s 0 0) (F0 m 35 ls []) := by
  obtain ⟨hx, hb, -⟩ := id X
  unfold wb_X5_notGiven_35 at h
  refine lv_iconst (v := 1) hx hb dX5_notGiven_35 (by decide) ?_
  obtain ⟨hL, I, hB, hM⟩ := hB
  exact z_iret X hB ⟨_, rfl, ⟨h, hM⟩, rfl, rfl⟩ (Nat.le_refl 0) (Nat.le_refl 0) dX5_notGiven_36
theorem ww_X5_notGiven_69 {M : z_M} {Qk : Int32 → Prop} (X : z_XM l G A p R s m args meth c cX5_notGiven 8 "notGiven" (some .int) 10 166) {H : Heap} {locs : List Loc} {ls : Array Slot} (hB : z_MB G z_P1c A s.heap T I0 Q o b M H locs) (hl : lv_has ls 8 []) (h : wb_X5_notGiven_69 M Qk) : W p l e R s m args below meth c H locs 0 0 (z_MQ below G z_P1c A T I0 Q (z_mi (fun r M1 => Qk r ∧ M1 = M) T Q o b) z_no args s 0 0) (F0 m 69 ls []) := by
  obtain ⟨hx, hb, -⟩ := id X
  unfold wb_X5_notGiven_69 at h
  refine lv_iconst (v := 2) hx hb dX5_notGiven_69 (by decide) ?_
  obtain ⟨hL, I, hB, hM⟩ := hB
  exact z_iret X hB ⟨_, rfl, ⟨h, hM⟩, rfl, rfl⟩ (Nat.le_refl 0) (Nat.le_refl 0) dX5_notGiven_70
theorem ww_X5_notGiven_101 {M : z_M} {Qk : Int32 → Prop} (X : z_XM l G A p R s m args meth c cX5_notGiven 8 "notGiven" (some .int) 10 166) {s0 : Int32} {H : Heap} {locs : List Loc} {ls : Array Slot} (hB : z_MB G z_P1c A s.heap T I0 Q o b M H locs) (hl : lv_has ls 8 []) (h : wb_X5_notGiven_101 M Qk s0) : W p l e R s m args below meth c H locs 0 0 (z_MQ below G z_P1c A T I0 Q (z_mi (fun r M1 => Qk r ∧ M1 = M) T Q o b) z_no args s 0 0) (F0 m 101 ls [.int s0]) := by
  obtain ⟨hx, hb, -⟩ := id X
  unfold wb_X5_notGiven_101 at h
  obtain ⟨hL, I, hB, hM⟩ := hB
  exact z_iret X hB ⟨_, rfl, ⟨h, hM⟩, rfl, rfl⟩ (Nat.le_refl 0) (Nat.le_refl 0) dX5_notGiven_101
theorem ww_X5_notGiven_37 {M : z_M} {Qk : Int32 → Prop} (X : z_XM l G A p R s m args meth c cX5_notGiven 8 "notGiven" (some .int) 10 166) {x1 : Int32} {x2 : Int32} {x3 : Int32} {x4 : Int32} {H : Heap} {locs : List Loc} {ls : Array Slot} (hB : z_MB G z_P1c A s.heap T I0 Q o b M H locs) (hl : lv_has ls 8 [(0, .ref o), (1, .int x1), (2, .int x2), (3, .int x3), (4, .int x4)]) (h : wb_X5_notGiven_37 M Qk x1 x2 x3 x4) : W p l e R s m args below meth c H locs 0 0 (z_MQ below G z_P1c A T I0 Q (z_mi (fun r M1 => Qk r ∧ M1 = M) T Q o b) z_no args s 0 0) (F0 m 37 ls []) := by
  obtain ⟨hx, hb, -⟩ := id X
  unfold wb_X5_notGiven_37 at h
  refine lv_iload_n hx hb dX5_notGiven_37 rfl (lv_at hl 2 rfl) ?_
  refine z_mcallip (fun I1 hB1 hM => z_runS (rest := []) [.int x2] pk_X5_setOf (met_X5_setOf x2 _ h) X hB1 (fun h => h) q3515 rfl hl.1 (Nat.le_of_ble_eq_true rfl) dX5_notGiven_38 (Nat.le_refl 0) (Nat.le_refl 0) (by decide) (by decide)) hB (fun r9 H locs h hB => ?_)
  refine lv_istore (lv' := [(7, .int r9), (0, .ref o), (1, .int x1), (2, .int x2), (3, .int x3), (4, .int x4)]) hx hb dX5_notGiven_41 hl (by decide) rfl (fun ls hl => ?_)
  refine lv_iload hx hb dX5_notGiven_43 (lv_at hl 0 rfl) ?_
  refine lv_if_lt (tgt := 69) hx hb dX5_notGiven_45 (by decide) (fun c10 => ?_) (fun c10 => ?_)
  · have h := h.1 c10
    exact ww_X5_notGiven_69 X  hB (lv_sub hl [] rfl) h
  · have h := h.2 c10
    refine lv_iload_n hx hb dX5_notGiven_48 rfl (lv_at hl 4 rfl) ?_
    refine lv_iconst (v := 1) hx hb dX5_notGiven_49 (by decide) ?_
    refine lv_bipush (v := 9) hx hb dX5_notGiven_50 (by decide) ?_
    refine z_mcallzp (fun I1 hB1 hM => z_runS (rest := []) [.int x3, .int 1, .int 9] pk_X5_isBetween (met_X5_isBetween x3 1 9 _ h) X hB1 (fun h => h) q3415 rfl hl.1 (Nat.le_of_ble_eq_true rfl) dX5_notGiven_52 (Nat.le_refl 0) (Nat.le_refl 0) (by decide) (by decide)) hB (fun r11 H locs hz h hB => ?_)
    have h := h hz
    refine lv_if_eq (tgt := 69) hx hb dX5_notGiven_55 (by decide) (fun c12 => ?_) (fun c12 => ?_)
    · have h := h.1 c12
      exact ww_X5_notGiven_69 X  hB (lv_sub hl [] rfl) h
    · have h := h.2 c12
      refine lv_iload hx hb dX5_notGiven_58 (lv_at hl 5 rfl) ?_
      refine lv_iconst (v := 0) hx hb dX5_notGiven_60 (by decide) ?_
      refine lv_bipush (v := 9) hx hb dX5_notGiven_61 (by decide) ?_
      refine z_mcallzp (fun I1 hB1 hM => z_runS (rest := []) [.int x4, .int 0, .int 9] pk_X5_isBetween (met_X5_isBetween x4 0 9 _ h) X hB1 (fun h => h) q3415 rfl hl.1 (Nat.le_of_ble_eq_true rfl) dX5_notGiven_63 (Nat.le_refl 0) (Nat.le_refl 0) (by decide) (by decide)) hB (fun r13 H locs hz h hB => ?_)
      have h := h hz
      refine lv_if_ne (tgt := 71) hx hb dX5_notGiven_66 (by decide) (fun c14 => ?_) (fun c14 => ?_)
      · have h := h.1 c14
        refine lv_iload hx hb dX5_notGiven_71 (lv_at hl 0 rfl) ?_
        refine lv_aload_n hx hb dX5_notGiven_73 rfl (lv_at hl 1 rfl) ?_
        refine z_mgeta (j := 10) X hB q3220 rfl (Nat.le_of_ble_eq_true rfl) rfl (by decide) dX5_notGiven_74 ?_
        refine lv_iload_n hx hb dX5_notGiven_77 rfl (lv_at hl 2 rfl) ?_
        obtain ⟨h1, h⟩ := h
        refine z_mald (f := 10) X hB (by decide) h1 dX5_notGiven_78 ?_
        refine lv_iconst (v := (-1)) hx hb dX5_notGiven_79 (by decide) ?_
        refine lv_ixor hx hb dX5_notGiven_80 ?_
        refine lv_iand hx hb dX5_notGiven_81 ?_
        refine lv_if_eq (tgt := 87) hx hb dX5_notGiven_82 (by decide) (fun c15 => ?_) (fun c15 => ?_)
        · have h := h.1 c15
          refine lv_aload_n hx hb dX5_notGiven_87 rfl (lv_at hl 1 rfl) ?_
          refine z_mgets (j := 34) X hB q3244 rfl (Nat.le_of_ble_eq_true rfl) rfl rfl dX5_notGiven_88 ?_
          refine lv_bipush (v := 30) hx hb dX5_notGiven_91 (by decide) ?_
          refine lv_icmp_ne (tgt := 100) hx hb dX5_notGiven_93 (by decide) (fun c16 => ?_) (fun c16 => ?_)
          · have h := h.1 c16
            refine lv_iconst (v := 0) hx hb dX5_notGiven_100 (by decide) ?_
            exact ww_X5_notGiven_101 X  hB (lv_sub hl [] rfl) h
          · have h := h.2 c16
            refine lv_iconst (v := 4) hx hb dX5_notGiven_96 (by decide) ?_
            refine lv_goto (tgt := 101) hx hb dX5_notGiven_97 (by decide) ?_
            exact ww_X5_notGiven_101 X  hB (lv_sub hl [] rfl) h
        · have h := h.2 c15
          refine lv_iconst (v := 3) hx hb dX5_notGiven_85 (by decide) ?_
          obtain ⟨hL, I, hB, hM⟩ := hB
          exact z_iret X hB ⟨_, rfl, ⟨h, hM⟩, rfl, rfl⟩ (Nat.le_refl 0) (Nat.le_refl 0) dX5_notGiven_86
      · have h := h.2 c14
        exact ww_X5_notGiven_69 X  hB (lv_sub hl [] rfl) h
theorem ww_X5_notGiven_21 {M : z_M} {Qk : Int32 → Prop} (X : z_XM l G A p R s m args meth c cX5_notGiven 8 "notGiven" (some .int) 10 166) {x1 : Int32} {x2 : Int32} {x3 : Int32} {x4 : Int32} {x6 : Int32} {H : Heap} {locs : List Loc} {ls : Array Slot} (hB : z_MB G z_P1c A s.heap T I0 Q o b M H locs) (hl : lv_has ls 8 [(0, .ref o), (1, .int x1), (2, .int x2), (3, .int x3), (4, .int x4), (6, .int x6)]) (h : wb_X5_notGiven_21 M Qk x1 x2 x3 x4 x6) : W p l e R s m args below meth c H locs 0 0 (z_MQ below G z_P1c A T I0 Q (z_mi (fun r M1 => Qk r ∧ M1 = M) T Q o b) z_no args s 0 0) (F0 m 21 ls []) := by
  obtain ⟨hx, hb, -⟩ := id X
  unfold wb_X5_notGiven_21 at h
  refine lv_iload hx hb dX5_notGiven_21 (lv_at hl 5 rfl) ?_
  refine lv_iconst (v := (-1)) hx hb dX5_notGiven_23 (by decide) ?_
  refine lv_icmp_eq (tgt := 37) hx hb dX5_notGiven_24 (by decide) (fun c6 => ?_) (fun c6 => ?_)
  · have h := h.1 c6
    exact ww_X5_notGiven_37 X  hB (lv_sub hl [0, 1, 2, 3, 4] rfl) h
  · have h := h.2 c6
    refine lv_iload hx hb dX5_notGiven_27 (lv_at hl 5 rfl) ?_
    refine z_mcallzp (fun I1 hB1 hM => z_runS (rest := []) [.int x6] pk_X5_isBuffer (met_X5_isBuffer x6 _ h) X hB1 (fun h => h) q3480 rfl hl.1 (Nat.le_of_ble_eq_true rfl) dX5_notGiven_29 (Nat.le_refl 0) (Nat.le_refl 0) (by decide) (by decide)) hB (fun r7 H locs hz h hB => ?_)
    have h := h hz
    refine lv_if_ne (tgt := 37) hx hb dX5_notGiven_32 (by decide) (fun c8 => ?_) (fun c8 => ?_)
    · have h := h.1 c8
      exact ww_X5_notGiven_37 X  hB (lv_sub hl [0, 1, 2, 3, 4] rfl) h
    · have h := h.2 c8
      exact ww_X5_notGiven_35 X  hB (lv_sub hl [] rfl) h
theorem ww_X5_notGiven_0 {M : z_M} {Qk : Int32 → Prop} (X : z_XM l G A p R s m args meth c cX5_notGiven 8 "notGiven" (some .int) 10 166) {x1 : Int32} {x2 : Int32} {x3 : Int32} {x4 : Int32} {x5 : Int32} {x6 : Int32} {H : Heap} {locs : List Loc} {ls : Array Slot} (hB : z_MB G z_P1c A s.heap T I0 Q o b M H locs) (hl : lv_has ls 8 [(0, .ref o), (1, .int x1), (2, .int x2), (3, .int x3), (4, .int x4), (5, .int x5), (6, .int x6)]) (h : wb_X5_notGiven_0 M Qk x1 x2 x3 x4 x5 x6) : W p l e R s m args below meth c H locs 0 0 (z_MQ below G z_P1c A T I0 Q (z_mi (fun r M1 => Qk r ∧ M1 = M) T Q o b) z_no args s 0 0) (F0 m 0 ls []) := by
  obtain ⟨hx, hb, -⟩ := id X
  unfold wb_X5_notGiven_0 at h
  refine lv_iload_n hx hb dX5_notGiven_0 rfl (lv_at hl 1 rfl) ?_
  refine z_mcallzp (fun I1 hB1 hM => z_runS (rest := []) [.int x1] pk_X5_isArm (met_X5_isArm x1 _ h) X hB1 (fun h => h) q3469 rfl hl.1 (Nat.le_of_ble_eq_true rfl) dX5_notGiven_1 (Nat.le_refl 0) (Nat.le_refl 0) (by decide) (by decide)) hB (fun r1 H locs hz h hB => ?_)
  have h := h hz
  refine lv_if_eq (tgt := 35) hx hb dX5_notGiven_4 (by decide) (fun c2 => ?_) (fun c2 => ?_)
  · have h := h.1 c2
    exact ww_X5_notGiven_35 X  hB (lv_sub hl [] rfl) h
  · have h := h.2 c2
    refine lv_iload hx hb dX5_notGiven_7 (lv_at hl 5 rfl) ?_
    refine lv_iconst (v := (-1)) hx hb dX5_notGiven_9 (by decide) ?_
    refine lv_icmp_eq (tgt := 21) hx hb dX5_notGiven_10 (by decide) (fun c3 => ?_) (fun c3 => ?_)
    · have h := h.1 c3
      exact ww_X5_notGiven_21 X  hB (lv_sub hl [0, 1, 2, 3, 4, 6] rfl) h
    · have h := h.2 c3
      refine lv_iload hx hb dX5_notGiven_13 (lv_at hl 5 rfl) ?_
      refine z_mcallzp (fun I1 hB1 hM => z_runS (rest := []) [.int x5] pk_X5_isBuffer (met_X5_isBuffer x5 _ h) X hB1 (fun h => h) q3480 rfl hl.1 (Nat.le_of_ble_eq_true rfl) dX5_notGiven_15 (Nat.le_refl 0) (Nat.le_refl 0) (by decide) (by decide)) hB (fun r4 H locs hz h hB => ?_)
      have h := h hz
      refine lv_if_eq (tgt := 35) hx hb dX5_notGiven_18 (by decide) (fun c5 => ?_) (fun c5 => ?_)
      · have h := h.1 c5
        exact ww_X5_notGiven_35 X  hB (lv_sub hl [] rfl) h
      · have h := h.2 c5
        exact ww_X5_notGiven_21 X  hB (lv_sub hl [0, 1, 2, 3, 4, 6] rfl) h
theorem pk_X5_notGiven : z_PV RX5 yX5_notGiven cX5_notGiven 8 (some .int) 6 := ⟨q3513, qs62, q131, q3514, by decide +kernel⟩
theorem met_X5_notGiven {l : Launch} {G : z_E} {T : z_T} {I : z_I} {Q : z_Q} {o : Nat} {b : Nat → Nat} {M : z_M} (hL : z_lie T Q o b) (hM : z_of I o b = M) (x1 : Int32) (x2 : Int32) (x3 : Int32) (x4 : Int32) (x5 : Int32) (x6 : Int32) (Qk : Int32 → Prop) (h : wp_X5_notGiven M x1 x2 x3 x4 x5 x6 Qk) : z_GM l G yX5_notGiven (ws_ yX5_notGiven cX5_notGiven 8 (some .int)) 10 166 0 0 [.ref o, .int x1, .int x2, .int x3, .int x4, .int x5, .int x6] z_P1c T I Q (z_mi (fun r M1 => Qk r ∧ M1 = M) T Q o b) z_no := by
  refine z_body (own := RX5) (nm := "notGiven") (by decide +kernel) rfl rfl (Nat.le_of_ble_eq_true rfl) (fun p e R s m below meth c A ls X hB hl => ?_)
  exact ww_X5_notGiven_0 X ⟨hL, I, hB, hM⟩ hl h
/-! X5_give -/
theorem ww_X5_give_0 {Qk : Int32 → z_M → Prop} (X : z_XM l G A p R s m args meth c cX5_give 7 "give" (some .int) 12 208) {M : z_M} {x1 : Int32} {x2 : Int32} {x3 : Int32} {x4 : Int32} {x5 : Int32} {x6 : Int32} {H : Heap} {locs : List Loc} {ls : Array Slot} (hB : z_MB G z_P1c A s.heap T I0 Q o b M H locs) (hl : lv_has ls 7 [(0, .ref o), (1, .int x1), (2, .int x2), (3, .int x3), (4, .int x4), (5, .int x5), (6, .int x6)]) (h : wb_X5_give_0 Qk M x1 x2 x3 x4 x5 x6) : W p l e R s m args below meth c H locs 0 0 (z_MQ below G z_P1c A T I0 Q (z_mi Qk T Q o b) z_no args s 0 0) (F0 m 0 ls []) := by
  obtain ⟨hx, hb, -⟩ := id X
  unfold wb_X5_give_0 at h
  refine lv_aload_n hx hb dX5_give_0 rfl (lv_at hl 0 rfl) ?_
  refine lv_aload_n hx hb dX5_give_1 rfl (lv_at hl 0 rfl) ?_
  refine lv_iload_n hx hb dX5_give_2 rfl (lv_at hl 1 rfl) ?_
  refine lv_iload_n hx hb dX5_give_3 rfl (lv_at hl 2 rfl) ?_
  refine lv_iload_n hx hb dX5_give_4 rfl (lv_at hl 3 rfl) ?_
  refine lv_iload hx hb dX5_give_5 (lv_at hl 4 rfl) ?_
  refine lv_iload hx hb dX5_give_7 (lv_at hl 5 rfl) ?_
  refine lv_iload hx hb dX5_give_9 (lv_at hl 6 rfl) ?_
  refine z_mcalli (fun _ h => h) (fun I1 hB1 hM => z_runV (rest := [.ref o]) [.int x1, .int x2, .int x3, .int x4, .int x5, .int x6] pk_X5_notGiven (met_X5_notGiven hB.1 hM x1 x2 x3 x4 x5 x6 _ h) X hB1 (by decide) q3511 kc_X5 (by decide) (by rw [hB.1.1]) rfl hl.1 (Nat.le_of_ble_eq_true rfl) dX5_give_11 (Nat.le_refl 0) (Nat.le_refl 0) (by decide) (by decide)) hB (fun r1 M2 H locs h hB => ?_)
  obtain ⟨h, eM2⟩ := h
  rw [eM2] at hB
  obtain ⟨M3, eM3⟩ : ∃ z, z = z_us M 0 r1 := ⟨_, rfl⟩
  have h := h M3 eM3
  refine z_mputs (j := 0) (ty := .int) X hB q3210 rfl (Nat.le_of_ble_eq_true rfl) rfl rfl rfl rfl (Or.inl rfl) rfl dX5_give_14 (fun H locs hB => ?_)
  rw [← eM3] at hB
  refine lv_aload_n hx hb dX5_give_17 rfl (lv_at hl 0 rfl) ?_
  refine z_mgets (j := 0) X hB q3210 rfl (Nat.le_of_ble_eq_true rfl) rfl rfl dX5_give_18 ?_
  refine lv_if_le (tgt := 26) hx hb dX5_give_21 (by decide) (fun c4 => ?_) (fun c4 => ?_)
  · have h := h.1 c4
    refine lv_aload_n hx hb dX5_give_26 rfl (lv_at hl 0 rfl) ?_
    refine z_mcallv (fun _ h => h) (fun I1 hB1 hM => z_runV (rest := []) [] pk_X5_remembers (met_X5_remembers hB.1 hM _ h) X hB1 (by decide) q3437 kc_X5 (by decide) (by rw [hB.1.1]) rfl hl.1 (Nat.le_of_ble_eq_true rfl) dX5_give_27 (Nat.le_refl 0) (Nat.le_refl 0) (by decide) (by decide)) hB (fun M6 H locs h hB => ?_)
    refine lv_aload_n hx hb dX5_give_30 rfl (lv_at hl 0 rfl) ?_
    refine lv_iload_n hx hb dX5_give_31 rfl (lv_at hl 1 rfl) ?_
    refine lv_iload_n hx hb dX5_give_32 rfl (lv_at hl 2 rfl) ?_
    refine lv_iload_n hx hb dX5_give_33 rfl (lv_at hl 3 rfl) ?_
    refine lv_iload hx hb dX5_give_34 (lv_at hl 4 rfl) ?_
    refine lv_iload hx hb dX5_give_36 (lv_at hl 5 rfl) ?_
    refine lv_iload hx hb dX5_give_38 (lv_at hl 6 rfl) ?_
    refine z_mcallv (fun _ h => h) (fun I1 hB1 hM => z_runV (rest := []) [.int x1, .int x2, .int x3, .int x4, .int x5, .int x6] pk_X5_gives (met_X5_gives hB.1 hM x1 x2 x3 x4 x5 x6 _ h) X hB1 (by decide) q3521 kc_X5 (by decide) (by rw [hB.1.1]) rfl hl.1 (Nat.le_of_ble_eq_true rfl) dX5_give_40 (Nat.le_refl 0) (Nat.le_refl 0) (by decide) (by decide)) hB (fun M8 H locs h hB => ?_)
    refine lv_aload_n hx hb dX5_give_43 rfl (lv_at hl 0 rfl) ?_
    refine z_mgets (j := 34) X hB q3244 rfl (Nat.le_of_ble_eq_true rfl) rfl rfl dX5_give_44 ?_
    refine lv_iconst (v := 1) hx hb dX5_give_47 (by decide) ?_
    refine lv_isub hx hb dX5_give_48 ?_
    obtain ⟨hL, I, hB, hM⟩ := hB
    exact z_iret X hB ⟨_, rfl, (by rw [hM]; exact h), rfl, rfl⟩ (Nat.le_refl 0) (Nat.le_refl 0) dX5_give_49
  · have h := h.2 c4
    refine lv_iconst (v := 0) hx hb dX5_give_24 (by decide) ?_
    obtain ⟨hL, I, hB, hM⟩ := hB
    exact z_iret X hB ⟨_, rfl, (by rw [hM]; exact h), rfl, rfl⟩ (Nat.le_refl 0) (Nat.le_refl 0) dX5_give_25
theorem pk_X5_give : z_PV RX5 yX5_give cX5_give 7 (some .int) 6 := ⟨q3508, q3509, q131, q3510, by decide +kernel⟩
theorem met_X5_give {l : Launch} {G : z_E} {T : z_T} {I : z_I} {Q : z_Q} {o : Nat} {b : Nat → Nat} {M : z_M} (hL : z_lie T Q o b) (hM : z_of I o b = M) (x1 : Int32) (x2 : Int32) (x3 : Int32) (x4 : Int32) (x5 : Int32) (x6 : Int32) (Qk : Int32 → z_M → Prop) (h : wp_X5_give M x1 x2 x3 x4 x5 x6 Qk) : z_GM l G yX5_give (ws_ yX5_give cX5_give 7 (some .int)) 12 208 0 0 [.ref o, .int x1, .int x2, .int x3, .int x4, .int x5, .int x6] z_P1c T I Q (z_mi Qk T Q o b) z_no := by
  refine z_body (own := RX5) (nm := "give") (by decide +kernel) rfl rfl (Nat.le_of_ble_eq_true rfl) (fun p e R s m below meth c A ls X hB hl => ?_)
  exact ww_X5_give_0 X ⟨hL, I, hB, hM⟩ hl h
/-! X5_withdraw -/
theorem ww_X5_withdraw_0 {Qk : Int32 → z_M → Prop} (X : z_XM l G A p R s m args meth c cX5_withdraw 3 "withdraw" (some .int) 12 208) {M : z_M} {x1 : Int32} {H : Heap} {locs : List Loc} {ls : Array Slot} (hB : z_MB G z_P1c A s.heap T I0 Q o b M H locs) (hl : lv_has ls 3 [(0, .ref o), (1, .int x1)]) (h : wb_X5_withdraw_0 Qk M x1) : W p l e R s m args below meth c H locs 0 0 (z_MQ below G z_P1c A T I0 Q (z_mi Qk T Q o b) z_no args s 0 0) (F0 m 0 ls []) := by
  obtain ⟨hx, hb, -⟩ := id X
  unfold wb_X5_withdraw_0 at h
  refine lv_iload_n hx hb dX5_withdraw_0 rfl (lv_at hl 1 rfl) ?_
  refine z_mcallzp (fun I1 hB1 hM => z_runS (rest := []) [.int x1] pk_X5_isArm (met_X5_isArm x1 _ h) X hB1 (fun h => h) q3469 rfl hl.1 (Nat.le_of_ble_eq_true rfl) dX5_withdraw_1 (Nat.le_refl 0) (Nat.le_refl 0) (by decide) (by decide)) hB (fun r1 H locs hz h hB => ?_)
  have h := h hz
  refine lv_if_ne (tgt := 13) hx hb dX5_withdraw_4 (by decide) (fun c2 => ?_) (fun c2 => ?_)
  · have h := h.1 c2
    refine lv_aload_n hx hb dX5_withdraw_13 rfl (lv_at hl 0 rfl) ?_
    refine z_mgeta (j := 11) X hB q3221 rfl (Nat.le_of_ble_eq_true rfl) rfl (by decide) dX5_withdraw_14 ?_
    refine lv_iload_n hx hb dX5_withdraw_17 rfl (lv_at hl 1 rfl) ?_
    obtain ⟨h1, h⟩ := h
    refine z_mald (f := 11) X hB (by decide) h1 dX5_withdraw_18 ?_
    refine lv_if_ne (tgt := 28) hx hb dX5_withdraw_19 (by decide) (fun c3 => ?_) (fun c3 => ?_)
    · have h := h.1 c3
      refine lv_aload_n hx hb dX5_withdraw_28 rfl (lv_at hl 0 rfl) ?_
      refine lv_iconst (v := 0) hx hb dX5_withdraw_29 (by decide) ?_
      obtain ⟨M4, eM4⟩ : ∃ z, z = z_us M 0 0 := ⟨_, rfl⟩
      have h := h M4 eM4
      refine z_mputs (j := 0) (ty := .int) X hB q3210 rfl (Nat.le_of_ble_eq_true rfl) rfl rfl rfl rfl (Or.inl rfl) rfl dX5_withdraw_30 (fun H locs hB => ?_)
      rw [← eM4] at hB
      refine lv_aload_n hx hb dX5_withdraw_33 rfl (lv_at hl 0 rfl) ?_
      refine z_mcallv (fun _ h => h) (fun I1 hB1 hM => z_runV (rest := []) [] pk_X5_remembers (met_X5_remembers hB.1 hM _ h) X hB1 (by decide) q3437 kc_X5 (by decide) (by rw [hB.1.1]) rfl hl.1 (Nat.le_of_ble_eq_true rfl) dX5_withdraw_34 (Nat.le_refl 0) (Nat.le_refl 0) (by decide) (by decide)) hB (fun M6 H locs h hB => ?_)
      refine lv_aload_n hx hb dX5_withdraw_37 rfl (lv_at hl 0 rfl) ?_
      refine z_mgeta (j := 11) X hB q3221 rfl (Nat.le_of_ble_eq_true rfl) rfl (by decide) dX5_withdraw_38 ?_
      refine lv_iload_n hx hb dX5_withdraw_41 rfl (lv_at hl 1 rfl) ?_
      refine lv_dup2_11 hx hb dX5_withdraw_42 rfl rfl ?_
      obtain ⟨h1, h⟩ := h
      refine z_mald (f := 11) X hB (by decide) h1 dX5_withdraw_43 ?_
      refine lv_iconst (v := 1) hx hb dX5_withdraw_44 (by decide) ?_
      refine lv_isub hx hb dX5_withdraw_45 ?_
      obtain ⟨h1, h⟩ := h
      obtain ⟨M7, eM7⟩ : ∃ z, z = z_up M6 11 x1.toNatClampNeg ((M6 11 x1.toNatClampNeg) - 1) := ⟨_, rfl⟩
      have h := h M7 eM7
      refine z_mast (P := z_P1c) (f := 11) rfl X hB (by decide) h1 dX5_withdraw_46 (fun H locs hB => ?_)
      rw [← eM7] at hB
      refine lv_aload_n hx hb dX5_withdraw_47 rfl (lv_at hl 0 rfl) ?_
      refine z_mgeta (j := 12) X hB q3222 rfl (Nat.le_of_ble_eq_true rfl) rfl (by decide) dX5_withdraw_48 ?_
      refine lv_bipush (v := 30) hx hb dX5_withdraw_51 (by decide) ?_
      refine lv_iload_n hx hb dX5_withdraw_53 rfl (lv_at hl 1 rfl) ?_
      refine lv_imul hx hb dX5_withdraw_54 ?_
      refine lv_aload_n hx hb dX5_withdraw_55 rfl (lv_at hl 0 rfl) ?_
      refine z_mgeta (j := 11) X hB q3221 rfl (Nat.le_of_ble_eq_true rfl) rfl (by decide) dX5_withdraw_56 ?_
      refine lv_iload_n hx hb dX5_withdraw_59 rfl (lv_at hl 1 rfl) ?_
      obtain ⟨h1, h⟩ := h
      refine z_mald (f := 11) X hB (by decide) h1 dX5_withdraw_60 ?_
      refine lv_iadd hx hb dX5_withdraw_61 ?_
      obtain ⟨h1, h⟩ := h
      refine z_mald (f := 12) X hB (by decide) h1 dX5_withdraw_62 ?_
      refine lv_topi (fun y8 ey8 => ?_)
      have h := h y8 ey8
      refine lv_istore_n (lv' := [(2, .int y8), (0, .ref o), (1, .int x1)]) hx hb dX5_withdraw_63 rfl hl (by decide) rfl (fun ls hl => ?_)
      refine lv_aload_n hx hb dX5_withdraw_64 rfl (lv_at hl 1 rfl) ?_
      refine z_mgeta (j := 29) X hB q3239 rfl (Nat.le_of_ble_eq_true rfl) rfl (by decide) dX5_withdraw_65 ?_
      refine lv_iload_n hx hb dX5_withdraw_68 rfl (lv_at hl 0 rfl) ?_
      refine lv_iconst (v := 3) hx hb dX5_withdraw_69 (by decide) ?_
      obtain ⟨h1, h⟩ := h
      obtain ⟨M9, eM9⟩ : ∃ z, z = z_up M7 29 y8.toNatClampNeg 3 := ⟨_, rfl⟩
      have h := h M9 eM9
      refine z_mast (P := z_P1c) (f := 29) rfl X hB (by decide) h1 dX5_withdraw_70 (fun H locs hB => ?_)
      rw [← eM9] at hB
      refine lv_aload_n hx hb dX5_withdraw_71 rfl (lv_at hl 1 rfl) ?_
      refine lv_dup hx hb dX5_withdraw_72 rfl ?_
      refine z_mgets (j := 38) X hB q3248 rfl (Nat.le_of_ble_eq_true rfl) rfl rfl dX5_withdraw_73 ?_
      refine lv_iconst (v := 1) hx hb dX5_withdraw_76 (by decide) ?_
      refine lv_iadd hx hb dX5_withdraw_77 ?_
      obtain ⟨M10, eM10⟩ : ∃ z, z = z_us M9 38 ((M9 38 0) + 1) := ⟨_, rfl⟩
      have h := h M10 eM10
      refine z_mputs (j := 38) (ty := .int) X hB q3248 rfl (Nat.le_of_ble_eq_true rfl) rfl rfl rfl rfl (Or.inl rfl) rfl dX5_withdraw_78 (fun H locs hB => ?_)
      rw [← eM10] at hB
      refine lv_iload_n hx hb dX5_withdraw_81 rfl (lv_at hl 0 rfl) ?_
      obtain ⟨hL, I, hB, hM⟩ := hB
      exact z_iret X hB ⟨_, rfl, (by rw [hM]; exact h), rfl, rfl⟩ (Nat.le_refl 0) (Nat.le_refl 0) dX5_withdraw_82
    · have h := h.2 c3
      refine lv_aload_n hx hb dX5_withdraw_22 rfl (lv_at hl 0 rfl) ?_
      refine lv_iconst (v := 2) hx hb dX5_withdraw_23 (by decide) ?_
      refine z_mcalli (fun _ h => h) (fun I1 hB1 hM => z_runV (rest := []) [.int 2] pk_X5_fails (met_X5_fails hB.1 hM 2 _ h) X hB1 (by decide) q3472 kc_X5 (by decide) (by rw [hB.1.1]) rfl hl.1 (Nat.le_of_ble_eq_true rfl) dX5_withdraw_24 (Nat.le_refl 0) (Nat.le_refl 0) (by decide) (by decide)) hB (fun r11 M12 H locs h hB => ?_)
      obtain ⟨hL, I, hB, hM⟩ := hB
      exact z_iret X hB ⟨_, rfl, (by rw [hM]; exact h), rfl, rfl⟩ (Nat.le_refl 0) (Nat.le_refl 0) dX5_withdraw_27
  · have h := h.2 c2
    refine lv_aload_n hx hb dX5_withdraw_7 rfl (lv_at hl 0 rfl) ?_
    refine lv_iconst (v := 1) hx hb dX5_withdraw_8 (by decide) ?_
    refine z_mcalli (fun _ h => h) (fun I1 hB1 hM => z_runV (rest := []) [.int 1] pk_X5_fails (met_X5_fails hB.1 hM 1 _ h) X hB1 (by decide) q3472 kc_X5 (by decide) (by rw [hB.1.1]) rfl hl.1 (Nat.le_of_ble_eq_true rfl) dX5_withdraw_9 (Nat.le_refl 0) (Nat.le_refl 0) (by decide) (by decide)) hB (fun r13 M14 H locs h hB => ?_)
    obtain ⟨hL, I, hB, hM⟩ := hB
    exact z_iret X hB ⟨_, rfl, (by rw [hM]; exact h), rfl, rfl⟩ (Nat.le_refl 0) (Nat.le_refl 0) dX5_withdraw_12
theorem pk_X5_withdraw : z_PV RX5 yX5_withdraw cX5_withdraw 3 (some .int) 1 := ⟨q3526, q3527, q131, q3528, by decide +kernel⟩
theorem met_X5_withdraw {l : Launch} {G : z_E} {T : z_T} {I : z_I} {Q : z_Q} {o : Nat} {b : Nat → Nat} {M : z_M} (hL : z_lie T Q o b) (hM : z_of I o b = M) (x1 : Int32) (Qk : Int32 → z_M → Prop) (h : wp_X5_withdraw M x1 Qk) : z_GM l G yX5_withdraw (ws_ yX5_withdraw cX5_withdraw 3 (some .int)) 12 208 0 0 [.ref o, .int x1] z_P1c T I Q (z_mi Qk T Q o b) z_no := by
  refine z_body (own := RX5) (nm := "withdraw") (by decide +kernel) rfl rfl (Nat.le_of_ble_eq_true rfl) (fun p e R s m below meth c A ls X hB hl => ?_)
  exact ww_X5_withdraw_0 X ⟨hL, I, hB, hM⟩ hl h
/-! X5_isJob -/
theorem ww_X5_isJob_17 {M : z_M} {Qk : Int32 → Prop} (X : z_XM l G A p R s m args meth c cX5_isJob 2 "isJob" (some .boolean) 8 120) {s0 : Int32} {H : Heap} {locs : List Loc} {ls : Array Slot} (hB : z_MB G z_P1c A s.heap T I0 Q o b M H locs) (hl : lv_has ls 2 []) (h : wb_X5_isJob_17 M Qk s0) : W p l e R s m args below meth c H locs 0 0 (z_MQ below G z_P1c A T I0 Q (z_mz (fun r M1 => Qk r ∧ M1 = M) T Q o b) z_no args s 0 0) (F0 m 17 ls [.int s0]) := by
  obtain ⟨hx, hb, -⟩ := id X
  unfold wb_X5_isJob_17 at h
  obtain ⟨hz, h⟩ := h
  obtain ⟨hL, I, hB, hM⟩ := hB
  exact z_zret X hB hz ⟨_, rfl, hz, ⟨h, hM⟩, rfl, rfl⟩ (Nat.le_refl 0) (Nat.le_refl 0) dX5_isJob_17
theorem ww_X5_isJob_16 {M : z_M} {Qk : Int32 → Prop} (X : z_XM l G A p R s m args meth c cX5_isJob 2 "isJob" (some .boolean) 8 120) {H : Heap} {locs : List Loc} {ls : Array Slot} (hB : z_MB G z_P1c A s.heap T I0 Q o b M H locs) (hl : lv_has ls 2 []) (h : wb_X5_isJob_16 M Qk) : W p l e R s m args below meth c H locs 0 0 (z_MQ below G z_P1c A T I0 Q (z_mz (fun r M1 => Qk r ∧ M1 = M) T Q o b) z_no args s 0 0) (F0 m 16 ls []) := by
  obtain ⟨hx, hb, -⟩ := id X
  unfold wb_X5_isJob_16 at h
  refine lv_iconst (v := 0) hx hb dX5_isJob_16 (by decide) ?_
  exact ww_X5_isJob_17 X  hB (lv_sub hl [] rfl) h
theorem ww_X5_isJob_0 {M : z_M} {Qk : Int32 → Prop} (X : z_XM l G A p R s m args meth c cX5_isJob 2 "isJob" (some .boolean) 8 120) {x1 : Int32} {H : Heap} {locs : List Loc} {ls : Array Slot} (hB : z_MB G z_P1c A s.heap T I0 Q o b M H locs) (hl : lv_has ls 2 [(0, .ref o), (1, .int x1)]) (h : wb_X5_isJob_0 M Qk x1) : W p l e R s m args below meth c H locs 0 0 (z_MQ below G z_P1c A T I0 Q (z_mz (fun r M1 => Qk r ∧ M1 = M) T Q o b) z_no args s 0 0) (F0 m 0 ls []) := by
  obtain ⟨hx, hb, -⟩ := id X
  unfold wb_X5_isJob_0 at h
  refine lv_iload_n hx hb dX5_isJob_0 rfl (lv_at hl 1 rfl) ?_
  refine lv_if_lt (tgt := 16) hx hb dX5_isJob_1 (by decide) (fun c1 => ?_) (fun c1 => ?_)
  · have h := h.1 c1
    exact ww_X5_isJob_16 X  hB (lv_sub hl [] rfl) h
  · have h := h.2 c1
    refine lv_iload_n hx hb dX5_isJob_4 rfl (lv_at hl 1 rfl) ?_
    refine lv_aload_n hx hb dX5_isJob_5 rfl (lv_at hl 0 rfl) ?_
    refine z_mgets (j := 34) X hB q3244 rfl (Nat.le_of_ble_eq_true rfl) rfl rfl dX5_isJob_6 ?_
    refine lv_icmp_ge (tgt := 16) hx hb dX5_isJob_9 (by decide) (fun c2 => ?_) (fun c2 => ?_)
    · have h := h.1 c2
      exact ww_X5_isJob_16 X  hB (lv_sub hl [] rfl) h
    · have h := h.2 c2
      refine lv_iconst (v := 1) hx hb dX5_isJob_12 (by decide) ?_
      refine lv_goto (tgt := 17) hx hb dX5_isJob_13 (by decide) ?_
      exact ww_X5_isJob_17 X  hB (lv_sub hl [] rfl) h
theorem pk_X5_isJob : z_PV RX5 yX5_isJob cX5_isJob 2 (some .boolean) 1 := ⟨q3535, qs64, q131, q3536, by decide +kernel⟩
theorem met_X5_isJob {l : Launch} {G : z_E} {T : z_T} {I : z_I} {Q : z_Q} {o : Nat} {b : Nat → Nat} {M : z_M} (hL : z_lie T Q o b) (hM : z_of I o b = M) (x1 : Int32) (Qk : Int32 → Prop) (h : wp_X5_isJob M x1 Qk) : z_GM l G yX5_isJob (ws_ yX5_isJob cX5_isJob 2 (some .boolean)) 8 120 0 0 [.ref o, .int x1] z_P1c T I Q (z_mz (fun r M1 => Qk r ∧ M1 = M) T Q o b) z_no := by
  refine z_body (own := RX5) (nm := "isJob") (by decide +kernel) rfl rfl (Nat.le_of_ble_eq_true rfl) (fun p e R s m below meth c A ls X hB hl => ?_)
  exact ww_X5_isJob_0 X ⟨hL, I, hB, hM⟩ hl h
/-! X5_job -/
theorem ww_X5_job_0 {Qk : Int32 → z_M → Prop} (X : z_XM l G A p R s m args meth c cX5_job 3 "job" (some .int) 9 142) {M : z_M} {x1 : Int32} {x2 : Int32} {H : Heap} {locs : List Loc} {ls : Array Slot} (hB : z_MB G z_P1c A s.heap T I0 Q o b M H locs) (hl : lv_has ls 3 [(0, .ref o), (1, .int x1), (2, .int x2)]) (h : wb_X5_job_0 Qk M x1 x2) : W p l e R s m args below meth c H locs 0 0 (z_MQ below G z_P1c A T I0 Q (z_mi Qk T Q o b) z_no args s 0 0) (F0 m 0 ls []) := by
  obtain ⟨hx, hb, -⟩ := id X
  unfold wb_X5_job_0 at h
  refine lv_aload_n hx hb dX5_job_0 rfl (lv_at hl 0 rfl) ?_
  refine lv_iload_n hx hb dX5_job_1 rfl (lv_at hl 1 rfl) ?_
  refine z_mcallz (fun _ h => h) (fun I1 hB1 hM => z_runV (rest := []) [.int x1] pk_X5_isJob (met_X5_isJob hB.1 hM x1 _ h) X hB1 (by decide) q3533 kc_X5 (by decide) (by rw [hB.1.1]) rfl hl.1 (Nat.le_of_ble_eq_true rfl) dX5_job_2 (Nat.le_refl 0) (Nat.le_refl 0) (by decide) (by decide)) hB (fun r1 M2 H locs hz h hB => ?_)
  obtain ⟨h, eM2⟩ := h
  rw [eM2] at hB
  have h := h hz
  refine lv_if_ne (tgt := 14) hx hb dX5_job_5 (by decide) (fun c3 => ?_) (fun c3 => ?_)
  · have h := h.1 c3
    refine lv_iload_n hx hb dX5_job_14 rfl (lv_at hl 2 rfl) ?_
    refine lv_iconst (v := 0) hx hb dX5_job_15 (by decide) ?_
    refine lv_bipush (v := 8) hx hb dX5_job_16 (by decide) ?_
    refine z_mcallzp (fun I1 hB1 hM => z_runS (rest := []) [.int x2, .int 0, .int 8] pk_X5_isBetween (met_X5_isBetween x2 0 8 _ h) X hB1 (fun h => h) q3415 rfl hl.1 (Nat.le_of_ble_eq_true rfl) dX5_job_18 (Nat.le_refl 0) (Nat.le_refl 0) (by decide) (by decide)) hB (fun r4 H locs hz h hB => ?_)
    have h := h hz
    refine lv_if_ne (tgt := 30) hx hb dX5_job_21 (by decide) (fun c5 => ?_) (fun c5 => ?_)
    · have h := h.1 c5
      refine lv_aload_n hx hb dX5_job_30 rfl (lv_at hl 0 rfl) ?_
      refine lv_iconst (v := 0) hx hb dX5_job_31 (by decide) ?_
      obtain ⟨M6, eM6⟩ : ∃ z, z = z_us M 0 0 := ⟨_, rfl⟩
      have h := h M6 eM6
      refine z_mputs (j := 0) (ty := .int) X hB q3210 rfl (Nat.le_of_ble_eq_true rfl) rfl rfl rfl rfl (Or.inl rfl) rfl dX5_job_32 (fun H locs hB => ?_)
      rw [← eM6] at hB
      refine lv_iload_n hx hb dX5_job_35 rfl (lv_at hl 2 rfl) ?_
      by_cases c7_0 : x2 = 0
      · have h := h.1 c7_0
        refine lv_tableIn (off := 48) (tgt := 84) hx hb dX5_job_36 (by rw [c7_0]; decide) (by rw [c7_0]; decide) (by rw [c7_0]; rfl) (by decide) ?_
        refine lv_aload_n hx hb dX5_job_84 rfl (lv_at hl 0 rfl) ?_
        refine z_mgeta (j := 22) X hB q3232 rfl (Nat.le_of_ble_eq_true rfl) rfl (by decide) dX5_job_85 ?_
        refine lv_iload_n hx hb dX5_job_88 rfl (lv_at hl 1 rfl) ?_
        obtain ⟨h1, h⟩ := h
        refine z_mald (f := 22) X hB (by decide) h1 dX5_job_89 ?_
        obtain ⟨hL, I, hB, hM⟩ := hB
        exact z_iret X hB ⟨_, rfl, (by rw [hM]; exact h), rfl, rfl⟩ (Nat.le_refl 0) (Nat.le_refl 0) dX5_job_90
      · by_cases c7_1 : x2 = 1
        · have h := h.2.1 c7_1
          refine lv_tableIn (off := 55) (tgt := 91) hx hb dX5_job_36 (by rw [c7_1]; decide) (by rw [c7_1]; decide) (by rw [c7_1]; rfl) (by decide) ?_
          refine lv_aload_n hx hb dX5_job_91 rfl (lv_at hl 0 rfl) ?_
          refine z_mgeta (j := 23) X hB q3233 rfl (Nat.le_of_ble_eq_true rfl) rfl (by decide) dX5_job_92 ?_
          refine lv_iload_n hx hb dX5_job_95 rfl (lv_at hl 1 rfl) ?_
          obtain ⟨h1, h⟩ := h
          refine z_mald (f := 23) X hB (by decide) h1 dX5_job_96 ?_
          obtain ⟨hL, I, hB, hM⟩ := hB
          exact z_iret X hB ⟨_, rfl, (by rw [hM]; exact h), rfl, rfl⟩ (Nat.le_refl 0) (Nat.le_refl 0) dX5_job_97
        · by_cases c7_2 : x2 = 2
          · have h := h.2.2.1 c7_2
            refine lv_tableIn (off := 62) (tgt := 98) hx hb dX5_job_36 (by rw [c7_2]; decide) (by rw [c7_2]; decide) (by rw [c7_2]; rfl) (by decide) ?_
            refine lv_aload_n hx hb dX5_job_98 rfl (lv_at hl 0 rfl) ?_
            refine z_mgeta (j := 25) X hB q3235 rfl (Nat.le_of_ble_eq_true rfl) rfl (by decide) dX5_job_99 ?_
            refine lv_iload_n hx hb dX5_job_102 rfl (lv_at hl 1 rfl) ?_
            obtain ⟨h1, h⟩ := h
            refine z_mald (f := 25) X hB (by decide) h1 dX5_job_103 ?_
            obtain ⟨hL, I, hB, hM⟩ := hB
            exact z_iret X hB ⟨_, rfl, (by rw [hM]; exact h), rfl, rfl⟩ (Nat.le_refl 0) (Nat.le_refl 0) dX5_job_104
          · by_cases c7_3 : x2 = 3
            · have h := h.2.2.2.1 c7_3
              refine lv_tableIn (off := 69) (tgt := 105) hx hb dX5_job_36 (by rw [c7_3]; decide) (by rw [c7_3]; decide) (by rw [c7_3]; rfl) (by decide) ?_
              refine lv_aload_n hx hb dX5_job_105 rfl (lv_at hl 0 rfl) ?_
              refine z_mgeta (j := 26) X hB q3236 rfl (Nat.le_of_ble_eq_true rfl) rfl (by decide) dX5_job_106 ?_
              refine lv_iload_n hx hb dX5_job_109 rfl (lv_at hl 1 rfl) ?_
              obtain ⟨h1, h⟩ := h
              refine z_mald (f := 26) X hB (by decide) h1 dX5_job_110 ?_
              obtain ⟨hL, I, hB, hM⟩ := hB
              exact z_iret X hB ⟨_, rfl, (by rw [hM]; exact h), rfl, rfl⟩ (Nat.le_refl 0) (Nat.le_refl 0) dX5_job_111
            · by_cases c7_4 : x2 = 4
              · have h := h.2.2.2.2.1 c7_4
                refine lv_tableIn (off := 76) (tgt := 112) hx hb dX5_job_36 (by rw [c7_4]; decide) (by rw [c7_4]; decide) (by rw [c7_4]; rfl) (by decide) ?_
                refine lv_aload_n hx hb dX5_job_112 rfl (lv_at hl 0 rfl) ?_
                refine z_mgeta (j := 27) X hB q3237 rfl (Nat.le_of_ble_eq_true rfl) rfl (by decide) dX5_job_113 ?_
                refine lv_iload_n hx hb dX5_job_116 rfl (lv_at hl 1 rfl) ?_
                obtain ⟨h1, h⟩ := h
                refine z_mald (f := 27) X hB (by decide) h1 dX5_job_117 ?_
                obtain ⟨hL, I, hB, hM⟩ := hB
                exact z_iret X hB ⟨_, rfl, (by rw [hM]; exact h), rfl, rfl⟩ (Nat.le_refl 0) (Nat.le_refl 0) dX5_job_118
              · by_cases c7_5 : x2 = 5
                · have h := h.2.2.2.2.2.1 c7_5
                  refine lv_tableIn (off := 83) (tgt := 119) hx hb dX5_job_36 (by rw [c7_5]; decide) (by rw [c7_5]; decide) (by rw [c7_5]; rfl) (by decide) ?_
                  refine lv_aload_n hx hb dX5_job_119 rfl (lv_at hl 0 rfl) ?_
                  refine z_mgeta (j := 28) X hB q3238 rfl (Nat.le_of_ble_eq_true rfl) rfl (by decide) dX5_job_120 ?_
                  refine lv_iload_n hx hb dX5_job_123 rfl (lv_at hl 1 rfl) ?_
                  obtain ⟨h1, h⟩ := h
                  refine z_mald (f := 28) X hB (by decide) h1 dX5_job_124 ?_
                  obtain ⟨hL, I, hB, hM⟩ := hB
                  exact z_iret X hB ⟨_, rfl, (by rw [hM]; exact h), rfl, rfl⟩ (Nat.le_refl 0) (Nat.le_refl 0) dX5_job_125
                · by_cases c7_6 : x2 = 6
                  · have h := h.2.2.2.2.2.2.1 c7_6
                    refine lv_tableIn (off := 90) (tgt := 126) hx hb dX5_job_36 (by rw [c7_6]; decide) (by rw [c7_6]; decide) (by rw [c7_6]; rfl) (by decide) ?_
                    refine lv_aload_n hx hb dX5_job_126 rfl (lv_at hl 0 rfl) ?_
                    refine z_mgeta (j := 29) X hB q3239 rfl (Nat.le_of_ble_eq_true rfl) rfl (by decide) dX5_job_127 ?_
                    refine lv_iload_n hx hb dX5_job_130 rfl (lv_at hl 1 rfl) ?_
                    obtain ⟨h1, h⟩ := h
                    refine z_mald (f := 29) X hB (by decide) h1 dX5_job_131 ?_
                    obtain ⟨hL, I, hB, hM⟩ := hB
                    exact z_iret X hB ⟨_, rfl, (by rw [hM]; exact h), rfl, rfl⟩ (Nat.le_refl 0) (Nat.le_refl 0) dX5_job_132
                  · by_cases c7_7 : x2 = 7
                    · have h := h.2.2.2.2.2.2.2.1 c7_7
                      refine lv_tableIn (off := 97) (tgt := 133) hx hb dX5_job_36 (by rw [c7_7]; decide) (by rw [c7_7]; decide) (by rw [c7_7]; rfl) (by decide) ?_
                      refine lv_aload_n hx hb dX5_job_133 rfl (lv_at hl 0 rfl) ?_
                      refine z_mgeta (j := 30) X hB q3240 rfl (Nat.le_of_ble_eq_true rfl) rfl (by decide) dX5_job_134 ?_
                      refine lv_iload_n hx hb dX5_job_137 rfl (lv_at hl 1 rfl) ?_
                      obtain ⟨h1, h⟩ := h
                      refine z_mald (f := 30) X hB (by decide) h1 dX5_job_138 ?_
                      obtain ⟨hL, I, hB, hM⟩ := hB
                      exact z_iret X hB ⟨_, rfl, (by rw [hM]; exact h), rfl, rfl⟩ (Nat.le_refl 0) (Nat.le_refl 0) dX5_job_139
                    · have h := h.2.2.2.2.2.2.2.2 c7_0 c7_1 c7_2 c7_3 c7_4 c7_5 c7_6 c7_7
                      refine lv_tableOut (tgt := 140) hx hb dX5_job_36 ?_ (by decide) ?_
                      · have q0 := lv_neT c7_0 (a := 0) (by decide)
                        have q1 := lv_neT c7_1 (a := 1) (by decide)
                        have q2 := lv_neT c7_2 (a := 2) (by decide)
                        have q3 := lv_neT c7_3 (a := 3) (by decide)
                        have q4 := lv_neT c7_4 (a := 4) (by decide)
                        have q5 := lv_neT c7_5 (a := 5) (by decide)
                        have q6 := lv_neT c7_6 (a := 6) (by decide)
                        have q7 := lv_neT c7_7 (a := 7) (by decide)
                        omega
                      · refine lv_aload_n hx hb dX5_job_140 rfl (lv_at hl 0 rfl) ?_
                        refine z_mgeta (j := 31) X hB q3241 rfl (Nat.le_of_ble_eq_true rfl) rfl (by decide) dX5_job_141 ?_
                        refine lv_iload_n hx hb dX5_job_144 rfl (lv_at hl 1 rfl) ?_
                        obtain ⟨h1, h⟩ := h
                        refine z_mald (f := 31) X hB (by decide) h1 dX5_job_145 ?_
                        obtain ⟨hL, I, hB, hM⟩ := hB
                        exact z_iret X hB ⟨_, rfl, (by rw [hM]; exact h), rfl, rfl⟩ (Nat.le_refl 0) (Nat.le_refl 0) dX5_job_146
    · have h := h.2 c5
      refine lv_aload_n hx hb dX5_job_24 rfl (lv_at hl 0 rfl) ?_
      refine lv_iconst (v := 2) hx hb dX5_job_25 (by decide) ?_
      refine z_mcalli (fun _ h => h) (fun I1 hB1 hM => z_runV (rest := []) [.int 2] pk_X5_fails (met_X5_fails hB.1 hM 2 _ h) X hB1 (by decide) q3472 kc_X5 (by decide) (by rw [hB.1.1]) rfl hl.1 (Nat.le_of_ble_eq_true rfl) dX5_job_26 (Nat.le_refl 0) (Nat.le_refl 0) (by decide) (by decide)) hB (fun r8 M9 H locs h hB => ?_)
      obtain ⟨hL, I, hB, hM⟩ := hB
      exact z_iret X hB ⟨_, rfl, (by rw [hM]; exact h), rfl, rfl⟩ (Nat.le_refl 0) (Nat.le_refl 0) dX5_job_29
  · have h := h.2 c3
    refine lv_aload_n hx hb dX5_job_8 rfl (lv_at hl 0 rfl) ?_
    refine lv_iconst (v := 1) hx hb dX5_job_9 (by decide) ?_
    refine z_mcalli (fun _ h => h) (fun I1 hB1 hM => z_runV (rest := []) [.int 1] pk_X5_fails (met_X5_fails hB.1 hM 1 _ h) X hB1 (by decide) q3472 kc_X5 (by decide) (by rw [hB.1.1]) rfl hl.1 (Nat.le_of_ble_eq_true rfl) dX5_job_10 (Nat.le_refl 0) (Nat.le_refl 0) (by decide) (by decide)) hB (fun r10 M11 H locs h hB => ?_)
    obtain ⟨hL, I, hB, hM⟩ := hB
    exact z_iret X hB ⟨_, rfl, (by rw [hM]; exact h), rfl, rfl⟩ (Nat.le_refl 0) (Nat.le_refl 0) dX5_job_13
theorem pk_X5_job : z_PV RX5 yX5_job cX5_job 3 (some .int) 2 := ⟨q3530, q3531, q131, q3532, by decide +kernel⟩
theorem met_X5_job {l : Launch} {G : z_E} {T : z_T} {I : z_I} {Q : z_Q} {o : Nat} {b : Nat → Nat} {M : z_M} (hL : z_lie T Q o b) (hM : z_of I o b = M) (x1 : Int32) (x2 : Int32) (Qk : Int32 → z_M → Prop) (h : wp_X5_job M x1 x2 Qk) : z_GM l G yX5_job (ws_ yX5_job cX5_job 3 (some .int)) 9 142 0 0 [.ref o, .int x1, .int x2] z_P1c T I Q (z_mi Qk T Q o b) z_no := by
  refine z_body (own := RX5) (nm := "job") (by decide +kernel) rfl rfl (Nat.le_of_ble_eq_true rfl) (fun p e R s m below meth c A ls X hB hl => ?_)
  exact ww_X5_job_0 X ⟨hL, I, hB, hM⟩ hl h
/-! X5_arm -/
theorem ww_X5_arm_130 {Qk : Int32 → z_M → Prop} (X : z_XM l G A p R s m args meth c cX5_arm 3 "arm" (some .int) 11 187) {M : z_M} {s0 : Int32} {H : Heap} {locs : List Loc} {ls : Array Slot} (hB : z_MB G z_P1c A s.heap T I0 Q o b M H locs) (hl : lv_has ls 3 []) (h : wb_X5_arm_130 Qk M s0) : W p l e R s m args below meth c H locs 0 0 (z_MQ below G z_P1c A T I0 Q (z_mi Qk T Q o b) z_no args s 0 0) (F0 m 130 ls [.int s0]) := by
  obtain ⟨hx, hb, -⟩ := id X
  unfold wb_X5_arm_130 at h
  obtain ⟨hL, I, hB, hM⟩ := hB
  exact z_iret X hB ⟨_, rfl, (by rw [hM]; exact h), rfl, rfl⟩ (Nat.le_refl 0) (Nat.le_refl 0) dX5_arm_130
theorem ww_X5_arm_0 {Qk : Int32 → z_M → Prop} (X : z_XM l G A p R s m args meth c cX5_arm 3 "arm" (some .int) 11 187) {M : z_M} {x1 : Int32} {x2 : Int32} {H : Heap} {locs : List Loc} {ls : Array Slot} (hB : z_MB G z_P1c A s.heap T I0 Q o b M H locs) (hl : lv_has ls 3 [(0, .ref o), (1, .int x1), (2, .int x2)]) (h : wb_X5_arm_0 Qk M x1 x2) : W p l e R s m args below meth c H locs 0 0 (z_MQ below G z_P1c A T I0 Q (z_mi Qk T Q o b) z_no args s 0 0) (F0 m 0 ls []) := by
  obtain ⟨hx, hb, -⟩ := id X
  unfold wb_X5_arm_0 at h
  refine lv_iload_n hx hb dX5_arm_0 rfl (lv_at hl 1 rfl) ?_
  refine z_mcallzp (fun I1 hB1 hM => z_runS (rest := []) [.int x1] pk_X5_isArm (met_X5_isArm x1 _ h) X hB1 (fun h => h) q3469 rfl hl.1 (Nat.le_of_ble_eq_true rfl) dX5_arm_1 (Nat.le_refl 0) (Nat.le_refl 0) (by decide) (by decide)) hB (fun r1 H locs hz h hB => ?_)
  have h := h hz
  refine lv_if_ne (tgt := 13) hx hb dX5_arm_4 (by decide) (fun c2 => ?_) (fun c2 => ?_)
  · have h := h.1 c2
    refine lv_iload_n hx hb dX5_arm_13 rfl (lv_at hl 2 rfl) ?_
    refine lv_iconst (v := 0) hx hb dX5_arm_14 (by decide) ?_
    refine lv_bipush (v := 9) hx hb dX5_arm_15 (by decide) ?_
    refine z_mcallzp (fun I1 hB1 hM => z_runS (rest := []) [.int x2, .int 0, .int 9] pk_X5_isBetween (met_X5_isBetween x2 0 9 _ h) X hB1 (fun h => h) q3415 rfl hl.1 (Nat.le_of_ble_eq_true rfl) dX5_arm_17 (Nat.le_refl 0) (Nat.le_refl 0) (by decide) (by decide)) hB (fun r3 H locs hz h hB => ?_)
    have h := h hz
    refine lv_if_ne (tgt := 29) hx hb dX5_arm_20 (by decide) (fun c4 => ?_) (fun c4 => ?_)
    · have h := h.1 c4
      refine lv_aload_n hx hb dX5_arm_29 rfl (lv_at hl 0 rfl) ?_
      refine lv_iconst (v := 0) hx hb dX5_arm_30 (by decide) ?_
      obtain ⟨M5, eM5⟩ : ∃ z, z = z_us M 0 0 := ⟨_, rfl⟩
      have h := h M5 eM5
      refine z_mputs (j := 0) (ty := .int) X hB q3210 rfl (Nat.le_of_ble_eq_true rfl) rfl rfl rfl rfl (Or.inl rfl) rfl dX5_arm_31 (fun H locs hB => ?_)
      rw [← eM5] at hB
      refine lv_iload_n hx hb dX5_arm_34 rfl (lv_at hl 2 rfl) ?_
      by_cases c6_0 : x2 = 0
      · have h := h.1 c6_0
        refine lv_tableIn (off := 49) (tgt := 84) hx hb dX5_arm_35 (by rw [c6_0]; decide) (by rw [c6_0]; decide) (by rw [c6_0]; rfl) (by decide) ?_
        refine lv_aload_n hx hb dX5_arm_84 rfl (lv_at hl 0 rfl) ?_
        refine z_mgeta (j := 10) X hB q3220 rfl (Nat.le_of_ble_eq_true rfl) rfl (by decide) dX5_arm_85 ?_
        refine lv_iload_n hx hb dX5_arm_88 rfl (lv_at hl 1 rfl) ?_
        obtain ⟨h1, h⟩ := h
        refine z_mald (f := 10) X hB (by decide) h1 dX5_arm_89 ?_
        obtain ⟨hL, I, hB, hM⟩ := hB
        exact z_iret X hB ⟨_, rfl, (by rw [hM]; exact h), rfl, rfl⟩ (Nat.le_refl 0) (Nat.le_refl 0) dX5_arm_90
      · by_cases c6_1 : x2 = 1
        · have h := h.2.1 c6_1
          refine lv_tableIn (off := 56) (tgt := 91) hx hb dX5_arm_35 (by rw [c6_1]; decide) (by rw [c6_1]; decide) (by rw [c6_1]; rfl) (by decide) ?_
          refine lv_aload_n hx hb dX5_arm_91 rfl (lv_at hl 0 rfl) ?_
          refine z_mgeta (j := 14) X hB q3224 rfl (Nat.le_of_ble_eq_true rfl) rfl (by decide) dX5_arm_92 ?_
          refine lv_iload_n hx hb dX5_arm_95 rfl (lv_at hl 1 rfl) ?_
          obtain ⟨h1, h⟩ := h
          refine z_mald (f := 14) X hB (by decide) h1 dX5_arm_96 ?_
          obtain ⟨hL, I, hB, hM⟩ := hB
          exact z_iret X hB ⟨_, rfl, (by rw [hM]; exact h), rfl, rfl⟩ (Nat.le_refl 0) (Nat.le_refl 0) dX5_arm_97
        · by_cases c6_2 : x2 = 2
          · have h := h.2.2.1 c6_2
            refine lv_tableIn (off := 63) (tgt := 98) hx hb dX5_arm_35 (by rw [c6_2]; decide) (by rw [c6_2]; decide) (by rw [c6_2]; rfl) (by decide) ?_
            refine lv_aload_n hx hb dX5_arm_98 rfl (lv_at hl 0 rfl) ?_
            refine z_mgeta (j := 13) X hB q3223 rfl (Nat.le_of_ble_eq_true rfl) rfl (by decide) dX5_arm_99 ?_
            refine lv_iload_n hx hb dX5_arm_102 rfl (lv_at hl 1 rfl) ?_
            obtain ⟨h1, h⟩ := h
            refine z_mald (f := 13) X hB (by decide) h1 dX5_arm_103 ?_
            obtain ⟨hL, I, hB, hM⟩ := hB
            exact z_iret X hB ⟨_, rfl, (by rw [hM]; exact h), rfl, rfl⟩ (Nat.le_refl 0) (Nat.le_refl 0) dX5_arm_104
          · by_cases c6_3 : x2 = 3
            · have h := h.2.2.2.1 c6_3
              refine lv_tableIn (off := 70) (tgt := 105) hx hb dX5_arm_35 (by rw [c6_3]; decide) (by rw [c6_3]; decide) (by rw [c6_3]; rfl) (by decide) ?_
              refine lv_aload_n hx hb dX5_arm_105 rfl (lv_at hl 0 rfl) ?_
              refine z_mgeta (j := 11) X hB q3221 rfl (Nat.le_of_ble_eq_true rfl) rfl (by decide) dX5_arm_106 ?_
              refine lv_iload_n hx hb dX5_arm_109 rfl (lv_at hl 1 rfl) ?_
              obtain ⟨h1, h⟩ := h
              refine z_mald (f := 11) X hB (by decide) h1 dX5_arm_110 ?_
              obtain ⟨hL, I, hB, hM⟩ := hB
              exact z_iret X hB ⟨_, rfl, (by rw [hM]; exact h), rfl, rfl⟩ (Nat.le_refl 0) (Nat.le_refl 0) dX5_arm_111
            · by_cases c6_4 : x2 = 4
              · have h := h.2.2.2.2.1 c6_4
                refine lv_tableIn (off := 77) (tgt := 112) hx hb dX5_arm_35 (by rw [c6_4]; decide) (by rw [c6_4]; decide) (by rw [c6_4]; rfl) (by decide) ?_
                refine lv_aload_n hx hb dX5_arm_112 rfl (lv_at hl 0 rfl) ?_
                refine z_mgeta (j := 14) X hB q3224 rfl (Nat.le_of_ble_eq_true rfl) rfl (by decide) dX5_arm_113 ?_
                refine lv_iload_n hx hb dX5_arm_116 rfl (lv_at hl 1 rfl) ?_
                obtain ⟨h1, h⟩ := h
                refine z_mald (f := 14) X hB (by decide) h1 dX5_arm_117 ?_
                refine lv_if_ne (tgt := 125) hx hb dX5_arm_118 (by decide) (fun c7 => ?_) (fun c7 => ?_)
                · have h := h.1 c7
                  refine lv_aload_n hx hb dX5_arm_125 rfl (lv_at hl 0 rfl) ?_
                  refine lv_iload_n hx hb dX5_arm_126 rfl (lv_at hl 1 rfl) ?_
                  refine z_mcalli (fun _ h => h) (fun I1 hB1 hM => z_runV (rest := []) [.int x1] pk_X5_zoneOf (met_X5_zoneOf hB.1 hM x1 _ h) X hB1 (by decide) q3426 kc_X5 (by decide) (by rw [hB.1.1]) rfl hl.1 (Nat.le_of_ble_eq_true rfl) dX5_arm_127 (Nat.le_refl 0) (Nat.le_refl 0) (by decide) (by decide)) hB (fun r8 M9 H locs h hB => ?_)
                  obtain ⟨h, eM9⟩ := h
                  rw [eM9] at hB
                  exact ww_X5_arm_130 X  hB (lv_sub hl [] rfl) h
                · have h := h.2 c7
                  refine lv_iconst (v := (-1)) hx hb dX5_arm_121 (by decide) ?_
                  refine lv_goto (tgt := 130) hx hb dX5_arm_122 (by decide) ?_
                  exact ww_X5_arm_130 X  hB (lv_sub hl [] rfl) h
              · by_cases c6_5 : x2 = 5
                · have h := h.2.2.2.2.2.1 c6_5
                  refine lv_tableIn (off := 96) (tgt := 131) hx hb dX5_arm_35 (by rw [c6_5]; decide) (by rw [c6_5]; decide) (by rw [c6_5]; rfl) (by decide) ?_
                  refine lv_aload_n hx hb dX5_arm_131 rfl (lv_at hl 0 rfl) ?_
                  refine z_mgeta (j := 16) X hB q3226 rfl (Nat.le_of_ble_eq_true rfl) rfl (by decide) dX5_arm_132 ?_
                  refine lv_iload_n hx hb dX5_arm_135 rfl (lv_at hl 1 rfl) ?_
                  obtain ⟨h1, h⟩ := h
                  refine z_mald (f := 16) X hB (by decide) h1 dX5_arm_136 ?_
                  obtain ⟨hL, I, hB, hM⟩ := hB
                  exact z_iret X hB ⟨_, rfl, (by rw [hM]; exact h), rfl, rfl⟩ (Nat.le_refl 0) (Nat.le_refl 0) dX5_arm_137
                · by_cases c6_6 : x2 = 6
                  · have h := h.2.2.2.2.2.2.1 c6_6
                    refine lv_tableIn (off := 103) (tgt := 138) hx hb dX5_arm_35 (by rw [c6_6]; decide) (by rw [c6_6]; decide) (by rw [c6_6]; rfl) (by decide) ?_
                    refine lv_aload_n hx hb dX5_arm_138 rfl (lv_at hl 0 rfl) ?_
                    refine z_mgeta (j := 17) X hB q3227 rfl (Nat.le_of_ble_eq_true rfl) rfl (by decide) dX5_arm_139 ?_
                    refine lv_iload_n hx hb dX5_arm_142 rfl (lv_at hl 1 rfl) ?_
                    obtain ⟨h1, h⟩ := h
                    refine z_mald (f := 17) X hB (by decide) h1 dX5_arm_143 ?_
                    obtain ⟨hL, I, hB, hM⟩ := hB
                    exact z_iret X hB ⟨_, rfl, (by rw [hM]; exact h), rfl, rfl⟩ (Nat.le_refl 0) (Nat.le_refl 0) dX5_arm_144
                  · by_cases c6_7 : x2 = 7
                    · have h := h.2.2.2.2.2.2.2.1 c6_7
                      refine lv_tableIn (off := 110) (tgt := 145) hx hb dX5_arm_35 (by rw [c6_7]; decide) (by rw [c6_7]; decide) (by rw [c6_7]; rfl) (by decide) ?_
                      refine lv_aload_n hx hb dX5_arm_145 rfl (lv_at hl 0 rfl) ?_
                      refine lv_iload_n hx hb dX5_arm_146 rfl (lv_at hl 1 rfl) ?_
                      refine z_mcalli (fun _ h => h) (fun I1 hB1 hM => z_runV (rest := []) [.int x1] pk_X5_holds (met_X5_holds hB.1 hM x1 _ h) X hB1 (by decide) q3422 kc_X5 (by decide) (by rw [hB.1.1]) rfl hl.1 (Nat.le_of_ble_eq_true rfl) dX5_arm_147 (Nat.le_refl 0) (Nat.le_refl 0) (by decide) (by decide)) hB (fun r10 M11 H locs h hB => ?_)
                      obtain ⟨h, eM11⟩ := h
                      rw [eM11] at hB
                      obtain ⟨hL, I, hB, hM⟩ := hB
                      exact z_iret X hB ⟨_, rfl, (by rw [hM]; exact h), rfl, rfl⟩ (Nat.le_refl 0) (Nat.le_refl 0) dX5_arm_150
                    · by_cases c6_8 : x2 = 8
                      · have h := h.2.2.2.2.2.2.2.2.1 c6_8
                        refine lv_tableIn (off := 116) (tgt := 151) hx hb dX5_arm_35 (by rw [c6_8]; decide) (by rw [c6_8]; decide) (by rw [c6_8]; rfl) (by decide) ?_
                        refine lv_aload_n hx hb dX5_arm_151 rfl (lv_at hl 0 rfl) ?_
                        refine z_mgeta (j := 20) X hB q3230 rfl (Nat.le_of_ble_eq_true rfl) rfl (by decide) dX5_arm_152 ?_
                        refine lv_iload_n hx hb dX5_arm_155 rfl (lv_at hl 1 rfl) ?_
                        obtain ⟨h1, h⟩ := h
                        refine z_mald (f := 20) X hB (by decide) h1 dX5_arm_156 ?_
                        obtain ⟨hL, I, hB, hM⟩ := hB
                        exact z_iret X hB ⟨_, rfl, (by rw [hM]; exact h), rfl, rfl⟩ (Nat.le_refl 0) (Nat.le_refl 0) dX5_arm_157
                      · have h := h.2.2.2.2.2.2.2.2.2 c6_0 c6_1 c6_2 c6_3 c6_4 c6_5 c6_6 c6_7 c6_8
                        refine lv_tableOut (tgt := 158) hx hb dX5_arm_35 ?_ (by decide) ?_
                        · have q0 := lv_neT c6_0 (a := 0) (by decide)
                          have q1 := lv_neT c6_1 (a := 1) (by decide)
                          have q2 := lv_neT c6_2 (a := 2) (by decide)
                          have q3 := lv_neT c6_3 (a := 3) (by decide)
                          have q4 := lv_neT c6_4 (a := 4) (by decide)
                          have q5 := lv_neT c6_5 (a := 5) (by decide)
                          have q6 := lv_neT c6_6 (a := 6) (by decide)
                          have q7 := lv_neT c6_7 (a := 7) (by decide)
                          have q8 := lv_neT c6_8 (a := 8) (by decide)
                          omega
                        · refine lv_aload_n hx hb dX5_arm_158 rfl (lv_at hl 0 rfl) ?_
                          refine z_mgeta (j := 21) X hB q3231 rfl (Nat.le_of_ble_eq_true rfl) rfl (by decide) dX5_arm_159 ?_
                          refine lv_iload_n hx hb dX5_arm_162 rfl (lv_at hl 1 rfl) ?_
                          obtain ⟨h1, h⟩ := h
                          refine z_mald (f := 21) X hB (by decide) h1 dX5_arm_163 ?_
                          obtain ⟨hL, I, hB, hM⟩ := hB
                          exact z_iret X hB ⟨_, rfl, (by rw [hM]; exact h), rfl, rfl⟩ (Nat.le_refl 0) (Nat.le_refl 0) dX5_arm_164
    · have h := h.2 c4
      refine lv_aload_n hx hb dX5_arm_23 rfl (lv_at hl 0 rfl) ?_
      refine lv_iconst (v := 2) hx hb dX5_arm_24 (by decide) ?_
      refine z_mcalli (fun _ h => h) (fun I1 hB1 hM => z_runV (rest := []) [.int 2] pk_X5_fails (met_X5_fails hB.1 hM 2 _ h) X hB1 (by decide) q3472 kc_X5 (by decide) (by rw [hB.1.1]) rfl hl.1 (Nat.le_of_ble_eq_true rfl) dX5_arm_25 (Nat.le_refl 0) (Nat.le_refl 0) (by decide) (by decide)) hB (fun r12 M13 H locs h hB => ?_)
      obtain ⟨hL, I, hB, hM⟩ := hB
      exact z_iret X hB ⟨_, rfl, (by rw [hM]; exact h), rfl, rfl⟩ (Nat.le_refl 0) (Nat.le_refl 0) dX5_arm_28
  · have h := h.2 c2
    refine lv_aload_n hx hb dX5_arm_7 rfl (lv_at hl 0 rfl) ?_
    refine lv_iconst (v := 1) hx hb dX5_arm_8 (by decide) ?_
    refine z_mcalli (fun _ h => h) (fun I1 hB1 hM => z_runV (rest := []) [.int 1] pk_X5_fails (met_X5_fails hB.1 hM 1 _ h) X hB1 (by decide) q3472 kc_X5 (by decide) (by rw [hB.1.1]) rfl hl.1 (Nat.le_of_ble_eq_true rfl) dX5_arm_9 (Nat.le_refl 0) (Nat.le_refl 0) (by decide) (by decide)) hB (fun r14 M15 H locs h hB => ?_)
    obtain ⟨hL, I, hB, hM⟩ := hB
    exact z_iret X hB ⟨_, rfl, (by rw [hM]; exact h), rfl, rfl⟩ (Nat.le_refl 0) (Nat.le_refl 0) dX5_arm_12
theorem pk_X5_arm : z_PV RX5 yX5_arm cX5_arm 3 (some .int) 2 := ⟨q3538, q3539, q131, q3540, by decide +kernel⟩
theorem met_X5_arm {l : Launch} {G : z_E} {T : z_T} {I : z_I} {Q : z_Q} {o : Nat} {b : Nat → Nat} {M : z_M} (hL : z_lie T Q o b) (hM : z_of I o b = M) (x1 : Int32) (x2 : Int32) (Qk : Int32 → z_M → Prop) (h : wp_X5_arm M x1 x2 Qk) : z_GM l G yX5_arm (ws_ yX5_arm cX5_arm 3 (some .int)) 11 187 0 0 [.ref o, .int x1, .int x2] z_P1c T I Q (z_mi Qk T Q o b) z_no := by
  refine z_body (own := RX5) (nm := "arm") (by decide +kernel) rfl rfl (Nat.le_of_ble_eq_true rfl) (fun p e R s m below meth c A ls X hB hl => ?_)
  exact ww_X5_arm_0 X ⟨hL, I, hB, hM⟩ hl h
/-! X5_waiting -/
theorem ww_X5_waiting_23 {Qk : Int32 → z_M → Prop} (X : z_XM l G A p R s m args meth c cX5_waiting 3 "waiting" (some .int) 10 162) {M : z_M} {H : Heap} {locs : List Loc} {ls : Array Slot} (hB : z_MB G z_P1c A s.heap T I0 Q o b M H locs) (hl : lv_has ls 3 [(0, .ref o)]) (h : wb_X5_waiting_23 Qk M) : W p l e R s m args below meth c H locs 0 0 (z_MQ below G z_P1c A T I0 Q (z_mi Qk T Q o b) z_no args s 0 0) (F0 m 23 ls []) := by
  obtain ⟨hx, hb, -⟩ := id X
  unfold wb_X5_waiting_23 at h
  refine lv_aload_n hx hb dX5_waiting_23 rfl (lv_at hl 0 rfl) ?_
  refine lv_iconst (v := 1) hx hb dX5_waiting_24 (by decide) ?_
  refine z_mcalli (fun _ h => h) (fun I1 hB1 hM => z_runV (rest := []) [.int 1] pk_X5_fails (met_X5_fails hB.1 hM 1 _ h) X hB1 (by decide) q3472 kc_X5 (by decide) (by rw [hB.1.1]) rfl hl.1 (Nat.le_of_ble_eq_true rfl) dX5_waiting_25 (Nat.le_refl 0) (Nat.le_refl 0) (by decide) (by decide)) hB (fun r6 M7 H locs h hB => ?_)
  obtain ⟨hL, I, hB, hM⟩ := hB
  exact z_iret X hB ⟨_, rfl, (by rw [hM]; exact h), rfl, rfl⟩ (Nat.le_refl 0) (Nat.le_refl 0) dX5_waiting_28
theorem ww_X5_waiting_0 {Qk : Int32 → z_M → Prop} (X : z_XM l G A p R s m args meth c cX5_waiting 3 "waiting" (some .int) 10 162) {M : z_M} {x1 : Int32} {x2 : Int32} {H : Heap} {locs : List Loc} {ls : Array Slot} (hB : z_MB G z_P1c A s.heap T I0 Q o b M H locs) (hl : lv_has ls 3 [(0, .ref o), (1, .int x1), (2, .int x2)]) (h : wb_X5_waiting_0 Qk M x1 x2) : W p l e R s m args below meth c H locs 0 0 (z_MQ below G z_P1c A T I0 Q (z_mi Qk T Q o b) z_no args s 0 0) (F0 m 0 ls []) := by
  obtain ⟨hx, hb, -⟩ := id X
  unfold wb_X5_waiting_0 at h
  refine lv_iload_n hx hb dX5_waiting_0 rfl (lv_at hl 1 rfl) ?_
  refine z_mcallzp (fun I1 hB1 hM => z_runS (rest := []) [.int x1] pk_X5_isArm (met_X5_isArm x1 _ h) X hB1 (fun h => h) q3469 rfl hl.1 (Nat.le_of_ble_eq_true rfl) dX5_waiting_1 (Nat.le_refl 0) (Nat.le_refl 0) (by decide) (by decide)) hB (fun r1 H locs hz h hB => ?_)
  have h := h hz
  refine lv_if_eq (tgt := 23) hx hb dX5_waiting_4 (by decide) (fun c2 => ?_) (fun c2 => ?_)
  · have h := h.1 c2
    exact ww_X5_waiting_23 X  hB (lv_sub hl [0] rfl) h
  · have h := h.2 c2
    refine lv_iload_n hx hb dX5_waiting_7 rfl (lv_at hl 2 rfl) ?_
    refine lv_iconst (v := 0) hx hb dX5_waiting_8 (by decide) ?_
    refine lv_aload_n hx hb dX5_waiting_9 rfl (lv_at hl 0 rfl) ?_
    refine z_mgeta (j := 11) X hB q3221 rfl (Nat.le_of_ble_eq_true rfl) rfl (by decide) dX5_waiting_10 ?_
    refine lv_iload_n hx hb dX5_waiting_13 rfl (lv_at hl 1 rfl) ?_
    obtain ⟨h1, h⟩ := h
    refine z_mald (f := 11) X hB (by decide) h1 dX5_waiting_14 ?_
    refine lv_iconst (v := 1) hx hb dX5_waiting_15 (by decide) ?_
    refine lv_isub hx hb dX5_waiting_16 ?_
    refine z_mcallzp (fun I1 hB1 hM => z_runS (rest := []) [.int x2, .int 0, .int ((M 11 x1.toNatClampNeg) - 1)] pk_X5_isBetween (met_X5_isBetween x2 0 ((M 11 x1.toNatClampNeg) - 1) _ h) X hB1 (fun h => h) q3415 rfl hl.1 (Nat.le_of_ble_eq_true rfl) dX5_waiting_17 (Nat.le_refl 0) (Nat.le_refl 0) (by decide) (by decide)) hB (fun r3 H locs hz h hB => ?_)
    have h := h hz
    refine lv_if_ne (tgt := 29) hx hb dX5_waiting_20 (by decide) (fun c4 => ?_) (fun c4 => ?_)
    · have h := h.1 c4
      refine lv_aload_n hx hb dX5_waiting_29 rfl (lv_at hl 0 rfl) ?_
      refine lv_iconst (v := 0) hx hb dX5_waiting_30 (by decide) ?_
      obtain ⟨M5, eM5⟩ : ∃ z, z = z_us M 0 0 := ⟨_, rfl⟩
      have h := h M5 eM5
      refine z_mputs (j := 0) (ty := .int) X hB q3210 rfl (Nat.le_of_ble_eq_true rfl) rfl rfl rfl rfl (Or.inl rfl) rfl dX5_waiting_31 (fun H locs hB => ?_)
      rw [← eM5] at hB
      refine lv_aload_n hx hb dX5_waiting_34 rfl (lv_at hl 0 rfl) ?_
      refine z_mgeta (j := 12) X hB q3222 rfl (Nat.le_of_ble_eq_true rfl) rfl (by decide) dX5_waiting_35 ?_
      refine lv_bipush (v := 30) hx hb dX5_waiting_38 (by decide) ?_
      refine lv_iload_n hx hb dX5_waiting_40 rfl (lv_at hl 1 rfl) ?_
      refine lv_imul hx hb dX5_waiting_41 ?_
      refine lv_iload_n hx hb dX5_waiting_42 rfl (lv_at hl 2 rfl) ?_
      refine lv_iadd hx hb dX5_waiting_43 ?_
      obtain ⟨h1, h⟩ := h
      refine z_mald (f := 12) X hB (by decide) h1 dX5_waiting_44 ?_
      obtain ⟨hL, I, hB, hM⟩ := hB
      exact z_iret X hB ⟨_, rfl, (by rw [hM]; exact h), rfl, rfl⟩ (Nat.le_refl 0) (Nat.le_refl 0) dX5_waiting_45
    · have h := h.2 c4
      exact ww_X5_waiting_23 X  hB (lv_sub hl [0] rfl) h
theorem pk_X5_waiting : z_PV RX5 yX5_waiting cX5_waiting 3 (some .int) 2 := ⟨q3542, q3543, q131, q3544, by decide +kernel⟩
theorem met_X5_waiting {l : Launch} {G : z_E} {T : z_T} {I : z_I} {Q : z_Q} {o : Nat} {b : Nat → Nat} {M : z_M} (hL : z_lie T Q o b) (hM : z_of I o b = M) (x1 : Int32) (x2 : Int32) (Qk : Int32 → z_M → Prop) (h : wp_X5_waiting M x1 x2 Qk) : z_GM l G yX5_waiting (ws_ yX5_waiting cX5_waiting 3 (some .int)) 10 162 0 0 [.ref o, .int x1, .int x2] z_P1c T I Q (z_mi Qk T Q o b) z_no := by
  refine z_body (own := RX5) (nm := "waiting") (by decide +kernel) rfl rfl (Nat.le_of_ble_eq_true rfl) (fun p e R s m below meth c A ls X hB hl => ?_)
  exact ww_X5_waiting_0 X ⟨hL, I, hB, hM⟩ hl h
/-! X5_firstPartOf -/
theorem wv_X5_firstPartOf_21 {Qk : Int32 → z_M → Prop} (X : z_XM l G A p R s m args meth c cX5_firstPartOf 4 "firstPartOf" (some .int) 8 120) : ∀ (n : Nat) {M : z_M} {x1 : Int32} {x2 : Int32} {x3 : Int32} {H : Heap} {locs : List Loc} {ls : Array Slot}, z_MB G z_P1c A s.heap T I0 Q o b M H locs → lv_has ls 4 [(0, .ref o), (1, .int x1), (2, .int x2), (3, .int x3)] → wl_X5_firstPartOf_21 Qk n M x1 x2 x3 → W p l e R s m args below meth c H locs 0 0 (z_MQ below G z_P1c A T I0 Q (z_mi Qk T Q o b) z_no args s 0 0) (F0 m 21 ls []) := by
  intro n
  induction n with
  | zero =>
    intro M x1 x2 x3 H locs ls hB hl h
    exact h.elim
  | succ n ih =>
    intro M x1 x2 x3 H locs ls hB hl h
    obtain ⟨hx, hb, -⟩ := id X
    unfold wl_X5_firstPartOf_21 at h
    refine lv_iload_n hx hb dX5_firstPartOf_21 rfl (lv_at hl 3 rfl) ?_
    refine lv_aload_n hx hb dX5_firstPartOf_22 rfl (lv_at hl 0 rfl) ?_
    refine z_mgeta (j := 4) X hB q3214 rfl (Nat.le_of_ble_eq_true rfl) rfl (by decide) dX5_firstPartOf_23 ?_
    refine lv_iload_n hx hb dX5_firstPartOf_26 rfl (lv_at hl 1 rfl) ?_
    obtain ⟨h1, h⟩ := h
    refine z_mald (f := 4) X hB (by decide) h1 dX5_firstPartOf_27 ?_
    refine lv_icmp_ge (tgt := 59) hx hb dX5_firstPartOf_28 (by decide) (fun c3 => ?_) (fun c3 => ?_)
    · have h := h.1 c3
      refine lv_aload_n hx hb dX5_firstPartOf_59 rfl (lv_at hl 0 rfl) ?_
      refine z_mgeta (j := 7) X hB q3217 rfl (Nat.le_of_ble_eq_true rfl) rfl (by decide) dX5_firstPartOf_60 ?_
      refine lv_iload_n hx hb dX5_firstPartOf_63 rfl (lv_at hl 1 rfl) ?_
      refine lv_dup2_11 hx hb dX5_firstPartOf_64 rfl rfl ?_
      obtain ⟨h1, h⟩ := h
      refine z_mald (f := 7) X hB (by decide) h1 dX5_firstPartOf_65 ?_
      refine lv_iconst (v := 1) hx hb dX5_firstPartOf_66 (by decide) ?_
      refine lv_isub hx hb dX5_firstPartOf_67 ?_
      obtain ⟨h1, h⟩ := h
      obtain ⟨M4, eM4⟩ : ∃ z, z = z_up M 7 x1.toNatClampNeg ((M 7 x1.toNatClampNeg) - 1) := ⟨_, rfl⟩
      have h := h M4 eM4
      refine z_mast (P := z_P1c) (f := 7) rfl X hB (by decide) h1 dX5_firstPartOf_68 (fun H locs hB => ?_)
      rw [← eM4] at hB
      refine lv_aload_n hx hb dX5_firstPartOf_69 rfl (lv_at hl 0 rfl) ?_
      refine z_mgeta (j := 9) X hB q3219 rfl (Nat.le_of_ble_eq_true rfl) rfl (by decide) dX5_firstPartOf_70 ?_
      refine lv_iload_n hx hb dX5_firstPartOf_73 rfl (lv_at hl 1 rfl) ?_
      refine lv_dup2_11 hx hb dX5_firstPartOf_74 rfl rfl ?_
      obtain ⟨h1, h⟩ := h
      refine z_mald (f := 9) X hB (by decide) h1 dX5_firstPartOf_75 ?_
      refine lv_iconst (v := 1) hx hb dX5_firstPartOf_76 (by decide) ?_
      refine lv_iadd hx hb dX5_firstPartOf_77 ?_
      obtain ⟨h1, h⟩ := h
      obtain ⟨M5, eM5⟩ : ∃ z, z = z_up M4 9 x1.toNatClampNeg ((M4 9 x1.toNatClampNeg) + 1) := ⟨_, rfl⟩
      have h := h M5 eM5
      refine z_mast (P := z_P1c) (f := 9) rfl X hB (by decide) h1 dX5_firstPartOf_78 (fun H locs hB => ?_)
      rw [← eM5] at hB
      refine lv_iload_n hx hb dX5_firstPartOf_79 rfl (lv_at hl 2 rfl) ?_
      obtain ⟨hL, I, hB, hM⟩ := hB
      exact z_iret X hB ⟨_, rfl, (by rw [hM]; exact h), rfl, rfl⟩ (Nat.le_refl 0) (Nat.le_refl 0) dX5_firstPartOf_80
    · have h := h.2 c3
      refine lv_aload_n hx hb dX5_firstPartOf_31 rfl (lv_at hl 0 rfl) ?_
      refine z_mgeta (j := 5) X hB q3215 rfl (Nat.le_of_ble_eq_true rfl) rfl (by decide) dX5_firstPartOf_32 ?_
      refine lv_iconst (v := 4) hx hb dX5_firstPartOf_35 (by decide) ?_
      refine lv_iload_n hx hb dX5_firstPartOf_36 rfl (lv_at hl 1 rfl) ?_
      refine lv_imul hx hb dX5_firstPartOf_37 ?_
      refine lv_iload_n hx hb dX5_firstPartOf_38 rfl (lv_at hl 3 rfl) ?_
      refine lv_iadd hx hb dX5_firstPartOf_39 ?_
      refine lv_aload_n hx hb dX5_firstPartOf_40 rfl (lv_at hl 0 rfl) ?_
      refine z_mgeta (j := 5) X hB q3215 rfl (Nat.le_of_ble_eq_true rfl) rfl (by decide) dX5_firstPartOf_41 ?_
      refine lv_iconst (v := 4) hx hb dX5_firstPartOf_44 (by decide) ?_
      refine lv_iload_n hx hb dX5_firstPartOf_45 rfl (lv_at hl 1 rfl) ?_
      refine lv_imul hx hb dX5_firstPartOf_46 ?_
      refine lv_iload_n hx hb dX5_firstPartOf_47 rfl (lv_at hl 3 rfl) ?_
      refine lv_iadd hx hb dX5_firstPartOf_48 ?_
      refine lv_iconst (v := 1) hx hb dX5_firstPartOf_49 (by decide) ?_
      refine lv_iadd hx hb dX5_firstPartOf_50 ?_
      obtain ⟨h1, h⟩ := h
      refine z_mald (f := 5) X hB (by decide) h1 dX5_firstPartOf_51 ?_
      obtain ⟨h1, h⟩ := h
      obtain ⟨M6, eM6⟩ : ∃ z, z = z_up M 5 ((4 * x1) + x3).toNatClampNeg (M 5 (((4 * x1) + x3) + 1).toNatClampNeg) := ⟨_, rfl⟩
      have h := h M6 eM6
      refine z_mast (P := z_P1c) (f := 5) rfl X hB (by decide) h1 dX5_firstPartOf_52 (fun H locs hB => ?_)
      rw [← eM6] at hB
      obtain ⟨y7, ey7⟩ : ∃ z : Int32, z = x3 + 1 := ⟨_, rfl⟩
      have h := h y7 ey7
      refine lv_iinc (v := y7) (lv' := [(3, .int y7), (0, .ref o), (1, .int x1), (2, .int x2)]) hx hb dX5_firstPartOf_53 hl (k := 3) rfl (by rw [ey7]; rfl) (by decide) rfl (fun ls hl => ?_)
      refine lv_goto (tgt := 21) hx hb dX5_firstPartOf_56 (by decide) ?_
      exact ih hB (lv_sub hl [1, 2, 3, 0] rfl) h
theorem ww_X5_firstPartOf_0 {Qk : Int32 → z_M → Prop} (X : z_XM l G A p R s m args meth c cX5_firstPartOf 4 "firstPartOf" (some .int) 8 120) {M : z_M} {x1 : Int32} {H : Heap} {locs : List Loc} {ls : Array Slot} (hB : z_MB G z_P1c A s.heap T I0 Q o b M H locs) (hl : lv_has ls 4 [(0, .ref o), (1, .int x1)]) (h : wb_X5_firstPartOf_0 Qk M x1) : W p l e R s m args below meth c H locs 0 0 (z_MQ below G z_P1c A T I0 Q (z_mi Qk T Q o b) z_no args s 0 0) (F0 m 0 ls []) := by
  obtain ⟨hx, hb, -⟩ := id X
  unfold wb_X5_firstPartOf_0 at h
  refine lv_aload_n hx hb dX5_firstPartOf_0 rfl (lv_at hl 0 rfl) ?_
  refine z_mgeta (j := 5) X hB q3215 rfl (Nat.le_of_ble_eq_true rfl) rfl (by decide) dX5_firstPartOf_1 ?_
  refine lv_iconst (v := 4) hx hb dX5_firstPartOf_4 (by decide) ?_
  refine lv_iload_n hx hb dX5_firstPartOf_5 rfl (lv_at hl 1 rfl) ?_
  refine lv_imul hx hb dX5_firstPartOf_6 ?_
  obtain ⟨h1, h⟩ := h
  refine z_mald (f := 5) X hB (by decide) h1 dX5_firstPartOf_7 ?_
  refine lv_topi (fun y1 ey1 => ?_)
  have h := h y1 ey1
  refine lv_istore_n (lv' := [(2, .int y1), (0, .ref o), (1, .int x1)]) hx hb dX5_firstPartOf_8 rfl hl (by decide) rfl (fun ls hl => ?_)
  refine lv_aload_n hx hb dX5_firstPartOf_9 rfl (lv_at hl 1 rfl) ?_
  refine z_mgeta (j := 4) X hB q3214 rfl (Nat.le_of_ble_eq_true rfl) rfl (by decide) dX5_firstPartOf_10 ?_
  refine lv_iload_n hx hb dX5_firstPartOf_13 rfl (lv_at hl 2 rfl) ?_
  refine lv_dup2_11 hx hb dX5_firstPartOf_14 rfl rfl ?_
  obtain ⟨h1, h⟩ := h
  refine z_mald (f := 4) X hB (by decide) h1 dX5_firstPartOf_15 ?_
  refine lv_iconst (v := 1) hx hb dX5_firstPartOf_16 (by decide) ?_
  refine lv_isub hx hb dX5_firstPartOf_17 ?_
  obtain ⟨h1, h⟩ := h
  obtain ⟨M2, eM2⟩ : ∃ z, z = z_up M 4 x1.toNatClampNeg ((M 4 x1.toNatClampNeg) - 1) := ⟨_, rfl⟩
  have h := h M2 eM2
  refine z_mast (P := z_P1c) (f := 4) rfl X hB (by decide) h1 dX5_firstPartOf_18 (fun H locs hB => ?_)
  rw [← eM2] at hB
  refine lv_iconst (v := 0) hx hb dX5_firstPartOf_19 (by decide) ?_
  refine lv_istore_n (lv' := [(3, .int 0), (2, .int y1), (0, .ref o), (1, .int x1)]) hx hb dX5_firstPartOf_20 rfl hl (by decide) rfl (fun ls hl => ?_)
  obtain ⟨w, h⟩ := h
  exact wv_X5_firstPartOf_21 X  w hB (lv_sub hl [2, 3, 1, 0] rfl) h
theorem pk_X5_firstPartOf : z_PV RX5 yX5_firstPartOf cX5_firstPartOf 4 (some .int) 1 := ⟨q3611, qs80, q131, q3612, by decide +kernel⟩
theorem met_X5_firstPartOf {l : Launch} {G : z_E} {T : z_T} {I : z_I} {Q : z_Q} {o : Nat} {b : Nat → Nat} {M : z_M} (hL : z_lie T Q o b) (hM : z_of I o b = M) (x1 : Int32) (Qk : Int32 → z_M → Prop) (h : wp_X5_firstPartOf M x1 Qk) : z_GM l G yX5_firstPartOf (ws_ yX5_firstPartOf cX5_firstPartOf 4 (some .int)) 8 120 0 0 [.ref o, .int x1] z_P1c T I Q (z_mi Qk T Q o b) z_no := by
  refine z_body (own := RX5) (nm := "firstPartOf") (by decide +kernel) rfl rfl (Nat.le_of_ble_eq_true rfl) (fun p e R s m below meth c A ls X hB hl => ?_)
  exact ww_X5_firstPartOf_0 X ⟨hL, I, hB, hM⟩ hl h
/-! X5_notes -/
theorem ww_X5_notes_55 {Qk : z_M → Prop} (X : z_XM l G A p R s m args meth c cX5_notes 5 "notes" none 8 120) {M : z_M} {x1 : Int32} {x2 : Int32} {x3 : Int32} {H : Heap} {locs : List Loc} {ls : Array Slot} (hB : z_MB G z_P1c A s.heap T I0 Q o b M H locs) (hl : lv_has ls 5 [(0, .ref o), (1, .int x1), (2, .int x2), (3, .int x3)]) (h : wb_X5_notes_55 Qk M x1 x2 x3) : W p l e R s m args below meth c H locs 0 0 (z_MQ below G z_P1c A T I0 Q (z_mv_ Qk T Q o b) z_no args s 0 0) (F0 m 55 ls []) := by
  obtain ⟨hx, hb, -⟩ := id X
  unfold wb_X5_notes_55 at h
  refine lv_iconst (v := 4) hx hb dX5_notes_55 (by decide) ?_
  refine lv_aload_n hx hb dX5_notes_56 rfl (lv_at hl 0 rfl) ?_
  refine z_mgets (j := 40) X hB q3250 rfl (Nat.le_of_ble_eq_true rfl) rfl rfl dX5_notes_57 ?_
  refine lv_imul hx hb dX5_notes_60 ?_
  refine lv_topi (fun y6 ey6 => ?_)
  have h := h y6 ey6
  refine lv_istore (lv' := [(4, .int y6), (0, .ref o), (1, .int x1), (2, .int x2), (3, .int x3)]) hx hb dX5_notes_61 hl (by decide) rfl (fun ls hl => ?_)
  refine lv_aload_n hx hb dX5_notes_63 rfl (lv_at hl 1 rfl) ?_
  refine z_mgeta (j := 32) X hB q3242 rfl (Nat.le_of_ble_eq_true rfl) rfl (by decide) dX5_notes_64 ?_
  refine lv_iload hx hb dX5_notes_67 (lv_at hl 0 rfl) ?_
  refine lv_aload_n hx hb dX5_notes_69 rfl (lv_at hl 1 rfl) ?_
  refine z_mgets (j := 33) X hB q3243 rfl (Nat.le_of_ble_eq_true rfl) rfl rfl dX5_notes_70 ?_
  obtain ⟨h1, h⟩ := h
  obtain ⟨M7, eM7⟩ : ∃ z, z = z_up M 32 y6.toNatClampNeg (M 33 0) := ⟨_, rfl⟩
  have h := h M7 eM7
  refine z_mast (P := z_P1c) (f := 32) rfl X hB (by decide) h1 dX5_notes_73 (fun H locs hB => ?_)
  rw [← eM7] at hB
  refine lv_aload_n hx hb dX5_notes_74 rfl (lv_at hl 1 rfl) ?_
  refine z_mgeta (j := 32) X hB q3242 rfl (Nat.le_of_ble_eq_true rfl) rfl (by decide) dX5_notes_75 ?_
  refine lv_iload hx hb dX5_notes_78 (lv_at hl 0 rfl) ?_
  refine lv_iconst (v := 1) hx hb dX5_notes_80 (by decide) ?_
  refine lv_iadd hx hb dX5_notes_81 ?_
  refine lv_iload_n hx hb dX5_notes_82 rfl (lv_at hl 2 rfl) ?_
  obtain ⟨h1, h⟩ := h
  obtain ⟨M8, eM8⟩ : ∃ z, z = z_up M7 32 (y6 + 1).toNatClampNeg x1 := ⟨_, rfl⟩
  have h := h M8 eM8
  refine z_mast (P := z_P1c) (f := 32) rfl X hB (by decide) h1 dX5_notes_83 (fun H locs hB => ?_)
  rw [← eM8] at hB
  refine lv_aload_n hx hb dX5_notes_84 rfl (lv_at hl 1 rfl) ?_
  refine z_mgeta (j := 32) X hB q3242 rfl (Nat.le_of_ble_eq_true rfl) rfl (by decide) dX5_notes_85 ?_
  refine lv_iload hx hb dX5_notes_88 (lv_at hl 0 rfl) ?_
  refine lv_iconst (v := 2) hx hb dX5_notes_90 (by decide) ?_
  refine lv_iadd hx hb dX5_notes_91 ?_
  refine lv_iload_n hx hb dX5_notes_92 rfl (lv_at hl 3 rfl) ?_
  obtain ⟨h1, h⟩ := h
  obtain ⟨M9, eM9⟩ : ∃ z, z = z_up M8 32 (y6 + 2).toNatClampNeg x2 := ⟨_, rfl⟩
  have h := h M9 eM9
  refine z_mast (P := z_P1c) (f := 32) rfl X hB (by decide) h1 dX5_notes_93 (fun H locs hB => ?_)
  rw [← eM9] at hB
  refine lv_aload_n hx hb dX5_notes_94 rfl (lv_at hl 1 rfl) ?_
  refine z_mgeta (j := 32) X hB q3242 rfl (Nat.le_of_ble_eq_true rfl) rfl (by decide) dX5_notes_95 ?_
  refine lv_iload hx hb dX5_notes_98 (lv_at hl 0 rfl) ?_
  refine lv_iconst (v := 3) hx hb dX5_notes_100 (by decide) ?_
  refine lv_iadd hx hb dX5_notes_101 ?_
  refine lv_iload_n hx hb dX5_notes_102 rfl (lv_at hl 4 rfl) ?_
  obtain ⟨h1, h⟩ := h
  obtain ⟨M10, eM10⟩ : ∃ z, z = z_up M9 32 (y6 + 3).toNatClampNeg x3 := ⟨_, rfl⟩
  have h := h M10 eM10
  refine z_mast (P := z_P1c) (f := 32) rfl X hB (by decide) h1 dX5_notes_103 (fun H locs hB => ?_)
  rw [← eM10] at hB
  refine lv_aload_n hx hb dX5_notes_104 rfl (lv_at hl 1 rfl) ?_
  refine lv_dup hx hb dX5_notes_105 rfl ?_
  refine z_mgets (j := 40) X hB q3250 rfl (Nat.le_of_ble_eq_true rfl) rfl rfl dX5_notes_106 ?_
  refine lv_iconst (v := 1) hx hb dX5_notes_109 (by decide) ?_
  refine lv_iadd hx hb dX5_notes_110 ?_
  obtain ⟨M11, eM11⟩ : ∃ z, z = z_us M10 40 ((M10 40 0) + 1) := ⟨_, rfl⟩
  have h := h M11 eM11
  refine z_mputs (j := 40) (ty := .int) X hB q3250 rfl (Nat.le_of_ble_eq_true rfl) rfl rfl rfl rfl (Or.inl rfl) rfl dX5_notes_111 (fun H locs hB => ?_)
  rw [← eM11] at hB
  obtain ⟨hL, I, hB, hM⟩ := hB
  exact z_vret X hB ⟨rfl, (by rw [hM]; exact h), rfl, rfl⟩ (Nat.le_refl 0) (Nat.le_refl 0) dX5_notes_114
theorem wv_X5_notes_22 {Qk : z_M → Prop} (X : z_XM l G A p R s m args meth c cX5_notes 5 "notes" none 8 120) : ∀ (n : Nat) {M : z_M} {x1 : Int32} {x2 : Int32} {x3 : Int32} {x4 : Int32} {H : Heap} {locs : List Loc} {ls : Array Slot}, z_MB G z_P1c A s.heap T I0 Q o b M H locs → lv_has ls 5 [(0, .ref o), (1, .int x1), (2, .int x2), (3, .int x3), (4, .int x4)] → wl_X5_notes_22 Qk n M x1 x2 x3 x4 → W p l e R s m args below meth c H locs 0 0 (z_MQ below G z_P1c A T I0 Q (z_mv_ Qk T Q o b) z_no args s 0 0) (F0 m 22 ls []) := by
  intro n
  induction n with
  | zero =>
    intro M x1 x2 x3 x4 H locs ls hB hl h
    exact h.elim
  | succ n ih =>
    intro M x1 x2 x3 x4 H locs ls hB hl h
    obtain ⟨hx, hb, -⟩ := id X
    unfold wl_X5_notes_22 at h
    refine lv_iload hx hb dX5_notes_22 (lv_at hl 4 rfl) ?_
    refine lv_iconst (v := 4) hx hb dX5_notes_24 (by decide) ?_
    refine lv_aload_n hx hb dX5_notes_25 rfl (lv_at hl 0 rfl) ?_
    refine z_mgets (j := 40) X hB q3250 rfl (Nat.le_of_ble_eq_true rfl) rfl rfl dX5_notes_26 ?_
    refine lv_imul hx hb dX5_notes_29 ?_
    refine lv_icmp_ge (tgt := 55) hx hb dX5_notes_30 (by decide) (fun c3 => ?_) (fun c3 => ?_)
    · have h := h.1 c3
      exact ww_X5_notes_55 X  hB (lv_sub hl [0, 1, 2, 3] rfl) h
    · have h := h.2 c3
      refine lv_aload_n hx hb dX5_notes_33 rfl (lv_at hl 0 rfl) ?_
      refine z_mgeta (j := 32) X hB q3242 rfl (Nat.le_of_ble_eq_true rfl) rfl (by decide) dX5_notes_34 ?_
      refine lv_iload hx hb dX5_notes_37 (lv_at hl 4 rfl) ?_
      refine lv_aload_n hx hb dX5_notes_39 rfl (lv_at hl 0 rfl) ?_
      refine z_mgeta (j := 32) X hB q3242 rfl (Nat.le_of_ble_eq_true rfl) rfl (by decide) dX5_notes_40 ?_
      refine lv_iload hx hb dX5_notes_43 (lv_at hl 4 rfl) ?_
      refine lv_iconst (v := 4) hx hb dX5_notes_45 (by decide) ?_
      refine lv_iadd hx hb dX5_notes_46 ?_
      obtain ⟨h1, h⟩ := h
      refine z_mald (f := 32) X hB (by decide) h1 dX5_notes_47 ?_
      obtain ⟨h1, h⟩ := h
      obtain ⟨M4, eM4⟩ : ∃ z, z = z_up M 32 x4.toNatClampNeg (M 32 (x4 + 4).toNatClampNeg) := ⟨_, rfl⟩
      have h := h M4 eM4
      refine z_mast (P := z_P1c) (f := 32) rfl X hB (by decide) h1 dX5_notes_48 (fun H locs hB => ?_)
      rw [← eM4] at hB
      obtain ⟨y5, ey5⟩ : ∃ z : Int32, z = x4 + 1 := ⟨_, rfl⟩
      have h := h y5 ey5
      refine lv_iinc (v := y5) (lv' := [(4, .int y5), (0, .ref o), (1, .int x1), (2, .int x2), (3, .int x3)]) hx hb dX5_notes_49 hl (k := 4) rfl (by rw [ey5]; rfl) (by decide) rfl (fun ls hl => ?_)
      refine lv_goto (tgt := 22) hx hb dX5_notes_52 (by decide) ?_
      exact ih hB (lv_sub hl [1, 2, 3, 4, 0] rfl) h
theorem ww_X5_notes_0 {Qk : z_M → Prop} (X : z_XM l G A p R s m args meth c cX5_notes 5 "notes" none 8 120) {M : z_M} {x1 : Int32} {x2 : Int32} {x3 : Int32} {H : Heap} {locs : List Loc} {ls : Array Slot} (hB : z_MB G z_P1c A s.heap T I0 Q o b M H locs) (hl : lv_has ls 5 [(0, .ref o), (1, .int x1), (2, .int x2), (3, .int x3)]) (h : wb_X5_notes_0 Qk M x1 x2 x3) : W p l e R s m args below meth c H locs 0 0 (z_MQ below G z_P1c A T I0 Q (z_mv_ Qk T Q o b) z_no args s 0 0) (F0 m 0 ls []) := by
  obtain ⟨hx, hb, -⟩ := id X
  unfold wb_X5_notes_0 at h
  refine lv_aload_n hx hb dX5_notes_0 rfl (lv_at hl 0 rfl) ?_
  refine z_mgets (j := 40) X hB q3250 rfl (Nat.le_of_ble_eq_true rfl) rfl rfl dX5_notes_1 ?_
  refine lv_bipush (v := 24) hx hb dX5_notes_4 (by decide) ?_
  refine lv_icmp_ne (tgt := 55) hx hb dX5_notes_6 (by decide) (fun c1 => ?_) (fun c1 => ?_)
  · have h := h.1 c1
    exact ww_X5_notes_55 X  hB (lv_sub hl [0, 1, 2, 3] rfl) h
  · have h := h.2 c1
    refine lv_aload_n hx hb dX5_notes_9 rfl (lv_at hl 0 rfl) ?_
    refine lv_dup hx hb dX5_notes_10 rfl ?_
    refine z_mgets (j := 40) X hB q3250 rfl (Nat.le_of_ble_eq_true rfl) rfl rfl dX5_notes_11 ?_
    refine lv_iconst (v := 1) hx hb dX5_notes_14 (by decide) ?_
    refine lv_isub hx hb dX5_notes_15 ?_
    obtain ⟨M2, eM2⟩ : ∃ z, z = z_us M 40 ((M 40 0) - 1) := ⟨_, rfl⟩
    have h := h M2 eM2
    refine z_mputs (j := 40) (ty := .int) X hB q3250 rfl (Nat.le_of_ble_eq_true rfl) rfl rfl rfl rfl (Or.inl rfl) rfl dX5_notes_16 (fun H locs hB => ?_)
    rw [← eM2] at hB
    refine lv_iconst (v := 0) hx hb dX5_notes_19 (by decide) ?_
    refine lv_istore (lv' := [(4, .int 0), (0, .ref o), (1, .int x1), (2, .int x2), (3, .int x3)]) hx hb dX5_notes_20 hl (by decide) rfl (fun ls hl => ?_)
    obtain ⟨w, h⟩ := h
    exact wv_X5_notes_22 X  w hB (lv_sub hl [1, 2, 3, 4, 0] rfl) h
theorem pk_X5_notes : z_PV RX5 yX5_notes cX5_notes 5 none 3 := ⟨q3595, qs76, q131, q3596, by decide +kernel⟩
theorem met_X5_notes {l : Launch} {G : z_E} {T : z_T} {I : z_I} {Q : z_Q} {o : Nat} {b : Nat → Nat} {M : z_M} (hL : z_lie T Q o b) (hM : z_of I o b = M) (x1 : Int32) (x2 : Int32) (x3 : Int32) (Qk : z_M → Prop) (h : wp_X5_notes M x1 x2 x3 Qk) : z_GM l G yX5_notes (ws_ yX5_notes cX5_notes 5 none) 8 120 0 0 [.ref o, .int x1, .int x2, .int x3] z_P1c T I Q (z_mv_ Qk T Q o b) z_no := by
  refine z_body (own := RX5) (nm := "notes") (by decide +kernel) rfl rfl (Nat.le_of_ble_eq_true rfl) (fun p e R s m below meth c A ls X hB hl => ?_)
  exact ww_X5_notes_0 X ⟨hL, I, hB, hM⟩ hl h
/-! X5_ends -/
theorem ww_X5_ends_140 {Qk : z_M → Prop} (X : z_XM l G A p R s m args meth c cX5_ends 4 "ends" none 10 165) {M : z_M} {s1 : Int32} {s2 : Int32} {H : Heap} {locs : List Loc} {ls : Array Slot} (hB : z_MB G z_P1c A s.heap T I0 Q o b M H locs) (hl : lv_has ls 4 []) (h : wb_X5_ends_140 Qk M s1 s2) : W p l e R s m args below meth c H locs 0 0 (z_MQ below G z_P1c A T I0 Q (z_mv_ Qk T Q o b) z_no args s 0 0) (F0 m 140 ls [.int s2, .int s1, .ref o]) := by
  obtain ⟨hx, hb, -⟩ := id X
  unfold wb_X5_ends_140 at h
  refine lv_iadd hx hb dX5_ends_140 ?_
  obtain ⟨M22, eM22⟩ : ∃ z, z = z_us M 36 (s1 + s2) := ⟨_, rfl⟩
  have h := h M22 eM22
  refine z_mputs (j := 36) (ty := .int) X hB q3246 rfl (Nat.le_of_ble_eq_true rfl) rfl rfl rfl rfl (Or.inl rfl) rfl dX5_ends_141 (fun H locs hB => ?_)
  rw [← eM22] at hB
  obtain ⟨hL, I, hB, hM⟩ := hB
  exact z_vret X hB ⟨rfl, (by rw [hM]; exact h), rfl, rfl⟩ (Nat.le_refl 0) (Nat.le_refl 0) dX5_ends_144
theorem ww_X5_ends_164 {Qk : z_M → Prop} (X : z_XM l G A p R s m args meth c cX5_ends 4 "ends" none 10 165) {M : z_M} {x2 : Int32} {x3 : Int32} {H : Heap} {locs : List Loc} {ls : Array Slot} (hB : z_MB G z_P1c A s.heap T I0 Q o b M H locs) (hl : lv_has ls 4 [(0, .ref o), (2, .int x2), (3, .int x3)]) (h : wb_X5_ends_164 Qk M x2 x3) : W p l e R s m args below meth c H locs 0 0 (z_MQ below G z_P1c A T I0 Q (z_mv_ Qk T Q o b) z_no args s 0 0) (F0 m 164 ls []) := by
  obtain ⟨hx, hb, -⟩ := id X
  unfold wb_X5_ends_164 at h
  refine lv_aload_n hx hb dX5_ends_164 rfl (lv_at hl 0 rfl) ?_
  refine z_mgeta (j := 6) X hB q3216 rfl (Nat.le_of_ble_eq_true rfl) rfl (by decide) dX5_ends_165 ?_
  refine lv_aload_n hx hb dX5_ends_168 rfl (lv_at hl 0 rfl) ?_
  refine z_mgeta (j := 28) X hB q3238 rfl (Nat.le_of_ble_eq_true rfl) rfl (by decide) dX5_ends_169 ?_
  refine lv_iload_n hx hb dX5_ends_172 rfl (lv_at hl 1 rfl) ?_
  obtain ⟨h1, h⟩ := h
  refine z_mald (f := 28) X hB (by decide) h1 dX5_ends_173 ?_
  refine lv_dup2_11 hx hb dX5_ends_174 rfl rfl ?_
  obtain ⟨h1, h⟩ := h
  refine z_mald (f := 6) X hB (by decide) h1 dX5_ends_175 ?_
  refine lv_iconst (v := 1) hx hb dX5_ends_176 (by decide) ?_
  refine lv_isub hx hb dX5_ends_177 ?_
  obtain ⟨h1, h⟩ := h
  obtain ⟨M23, eM23⟩ : ∃ z, z = z_up M 6 (M 28 x2.toNatClampNeg).toNatClampNeg ((M 6 (M 28 x2.toNatClampNeg).toNatClampNeg) - 1) := ⟨_, rfl⟩
  have h := h M23 eM23
  refine z_mast (P := z_P1c) (f := 6) rfl X hB (by decide) h1 dX5_ends_178 (fun H locs hB => ?_)
  rw [← eM23] at hB
  refine lv_aload_n hx hb dX5_ends_179 rfl (lv_at hl 0 rfl) ?_
  refine lv_aload_n hx hb dX5_ends_180 rfl (lv_at hl 0 rfl) ?_
  refine z_mgeta (j := 28) X hB q3238 rfl (Nat.le_of_ble_eq_true rfl) rfl (by decide) dX5_ends_181 ?_
  refine lv_iload_n hx hb dX5_ends_184 rfl (lv_at hl 1 rfl) ?_
  obtain ⟨h1, h⟩ := h
  refine z_mald (f := 28) X hB (by decide) h1 dX5_ends_185 ?_
  refine lv_iload_n hx hb dX5_ends_186 rfl (lv_at hl 2 rfl) ?_
  refine z_mcallv (fun _ h => h) (fun I1 hB1 hM => z_runV (rest := []) [.int (M23 28 x2.toNatClampNeg), .int x3] pk_X5_comesPart (met_X5_comesPart hB.1 hM (M23 28 x2.toNatClampNeg) x3 _ h) X hB1 (by decide) q3487 kc_X5 (by decide) (by rw [hB.1.1]) rfl hl.1 (Nat.le_of_ble_eq_true rfl) dX5_ends_187 (Nat.le_refl 0) (Nat.le_refl 0) (by decide) (by decide)) hB (fun M25 H locs h hB => ?_)
  obtain ⟨hL, I, hB, hM⟩ := hB
  exact z_vret X hB ⟨rfl, (by rw [hM]; exact h), rfl, rfl⟩ (Nat.le_refl 0) (Nat.le_refl 0) dX5_ends_190
theorem ww_X5_ends_116 {Qk : z_M → Prop} (X : z_XM l G A p R s m args meth c cX5_ends 4 "ends" none 10 165) {M : z_M} {x2 : Int32} {s0 : Int32} {H : Heap} {locs : List Loc} {ls : Array Slot} (hB : z_MB G z_P1c A s.heap T I0 Q o b M H locs) (hl : lv_has ls 4 [(0, .ref o), (2, .int x2)]) (h : wb_X5_ends_116 Qk M x2 s0) : W p l e R s m args below meth c H locs 0 0 (z_MQ below G z_P1c A T I0 Q (z_mv_ Qk T Q o b) z_no args s 0 0) (F0 m 116 ls [.int s0]) := by
  obtain ⟨hx, hb, -⟩ := id X
  unfold wb_X5_ends_116 at h
  refine lv_istore_n (lv' := [(3, .int s0), (0, .ref o), (2, .int x2)]) hx hb dX5_ends_116 rfl hl (by decide) rfl (fun ls hl => ?_)
  refine lv_aload_n hx hb dX5_ends_117 rfl (lv_at hl 1 rfl) ?_
  refine z_mgeta (j := 28) X hB q3238 rfl (Nat.le_of_ble_eq_true rfl) rfl (by decide) dX5_ends_118 ?_
  refine lv_iload_n hx hb dX5_ends_121 rfl (lv_at hl 2 rfl) ?_
  obtain ⟨h1, h⟩ := h
  refine z_mald (f := 28) X hB (by decide) h1 dX5_ends_122 ?_
  refine lv_if_ge (tgt := 145) hx hb dX5_ends_123 (by decide) (fun c17 => ?_) (fun c17 => ?_)
  · have h := h.1 c17
    refine lv_iload_n hx hb dX5_ends_145 rfl (lv_at hl 0 rfl) ?_
    refine lv_if_ge (tgt := 164) hx hb dX5_ends_146 (by decide) (fun c18 => ?_) (fun c18 => ?_)
    · have h := h.1 c18
      exact ww_X5_ends_164 X  hB (lv_sub hl [1, 2, 0] rfl) h
    · have h := h.2 c18
      refine lv_aload_n hx hb dX5_ends_149 rfl (lv_at hl 1 rfl) ?_
      refine z_mgets (j := 35) X hB q3245 rfl (Nat.le_of_ble_eq_true rfl) rfl rfl dX5_ends_150 ?_
      refine lv_topi (fun y19 ey19 => ?_)
      have h := h y19 ey19
      refine lv_istore_n (lv' := [(3, .int y19), (0, .ref o), (2, .int x2)]) hx hb dX5_ends_153 rfl hl (by decide) rfl (fun ls hl => ?_)
      refine lv_aload_n hx hb dX5_ends_154 rfl (lv_at hl 1 rfl) ?_
      refine lv_dup hx hb dX5_ends_155 rfl ?_
      refine z_mgets (j := 35) X hB q3245 rfl (Nat.le_of_ble_eq_true rfl) rfl rfl dX5_ends_156 ?_
      refine lv_iconst (v := 1) hx hb dX5_ends_159 (by decide) ?_
      refine lv_iadd hx hb dX5_ends_160 ?_
      obtain ⟨M20, eM20⟩ : ∃ z, z = z_us M 35 ((M 35 0) + 1) := ⟨_, rfl⟩
      have h := h M20 eM20
      refine z_mputs (j := 35) (ty := .int) X hB q3245 rfl (Nat.le_of_ble_eq_true rfl) rfl rfl rfl rfl (Or.inl rfl) rfl dX5_ends_161 (fun H locs hB => ?_)
      rw [← eM20] at hB
      exact ww_X5_ends_164 X  hB (lv_sub hl [1, 2, 0] rfl) h
  · have h := h.2 c17
    refine lv_aload_n hx hb dX5_ends_126 rfl (lv_at hl 1 rfl) ?_
    refine lv_dup hx hb dX5_ends_127 rfl ?_
    refine z_mgets (j := 36) X hB q3246 rfl (Nat.le_of_ble_eq_true rfl) rfl rfl dX5_ends_128 ?_
    refine lv_iload_n hx hb dX5_ends_131 rfl (lv_at hl 0 rfl) ?_
    refine lv_if_lt (tgt := 139) hx hb dX5_ends_132 (by decide) (fun c21 => ?_) (fun c21 => ?_)
    · have h := h.1 c21
      refine lv_iconst (v := 0) hx hb dX5_ends_139 (by decide) ?_
      exact ww_X5_ends_140 X  hB (lv_sub hl [] rfl) h
    · have h := h.2 c21
      refine lv_iconst (v := 1) hx hb dX5_ends_135 (by decide) ?_
      refine lv_goto (tgt := 140) hx hb dX5_ends_136 (by decide) ?_
      exact ww_X5_ends_140 X  hB (lv_sub hl [] rfl) h
theorem ww_X5_ends_0 {Qk : z_M → Prop} (X : z_XM l G A p R s m args meth c cX5_ends 4 "ends" none 10 165) {M : z_M} {x1 : Int32} {H : Heap} {locs : List Loc} {ls : Array Slot} (hB : z_MB G z_P1c A s.heap T I0 Q o b M H locs) (hl : lv_has ls 4 [(0, .ref o), (1, .int x1)]) (h : wb_X5_ends_0 Qk M x1) : W p l e R s m args below meth c H locs 0 0 (z_MQ below G z_P1c A T I0 Q (z_mv_ Qk T Q o b) z_no args s 0 0) (F0 m 0 ls []) := by
  obtain ⟨hx, hb, -⟩ := id X
  unfold wb_X5_ends_0 at h
  refine lv_aload_n hx hb dX5_ends_0 rfl (lv_at hl 0 rfl) ?_
  refine z_mgeta (j := 13) X hB q3223 rfl (Nat.le_of_ble_eq_true rfl) rfl (by decide) dX5_ends_1 ?_
  refine lv_iload_n hx hb dX5_ends_4 rfl (lv_at hl 1 rfl) ?_
  obtain ⟨h1, h⟩ := h
  refine z_mald (f := 13) X hB (by decide) h1 dX5_ends_5 ?_
  refine lv_topi (fun y1 ey1 => ?_)
  have h := h y1 ey1
  refine lv_istore_n (lv' := [(2, .int y1), (0, .ref o), (1, .int x1)]) hx hb dX5_ends_6 rfl hl (by decide) rfl (fun ls hl => ?_)
  refine lv_aload_n hx hb dX5_ends_7 rfl (lv_at hl 1 rfl) ?_
  refine lv_iload_n hx hb dX5_ends_8 rfl (lv_at hl 2 rfl) ?_
  refine lv_iconst (v := 3) hx hb dX5_ends_9 (by decide) ?_
  refine lv_aload_n hx hb dX5_ends_10 rfl (lv_at hl 1 rfl) ?_
  refine lv_iload_n hx hb dX5_ends_11 rfl (lv_at hl 2 rfl) ?_
  refine z_mcalli (fun _ h => h) (fun I1 hB1 hM => z_runV (rest := [.int 3, .int x1, .ref o]) [.int x1] pk_X5_zoneOf (met_X5_zoneOf hB.1 hM x1 _ h) X hB1 (by decide) q3426 kc_X5 (by decide) (by rw [hB.1.1]) rfl hl.1 (Nat.le_of_ble_eq_true rfl) dX5_ends_12 (Nat.le_refl 0) (Nat.le_refl 0) (by decide) (by decide)) hB (fun r2 M3 H locs h hB => ?_)
  obtain ⟨h, eM3⟩ := h
  rw [eM3] at hB
  refine z_mcallv (fun _ h => h) (fun I1 hB1 hM => z_runV (rest := []) [.int x1, .int 3, .int r2] pk_X5_notes (met_X5_notes hB.1 hM x1 3 r2 _ h) X hB1 (by decide) q3593 kc_X5 (by decide) (by rw [hB.1.1]) rfl hl.1 (Nat.le_of_ble_eq_true rfl) dX5_ends_15 (Nat.le_refl 0) (Nat.le_refl 0) (by decide) (by decide)) hB (fun M5 H locs h hB => ?_)
  refine lv_aload_n hx hb dX5_ends_18 rfl (lv_at hl 1 rfl) ?_
  refine z_mgeta (j := 14) X hB q3224 rfl (Nat.le_of_ble_eq_true rfl) rfl (by decide) dX5_ends_19 ?_
  refine lv_iload_n hx hb dX5_ends_22 rfl (lv_at hl 2 rfl) ?_
  refine lv_iconst (v := 0) hx hb dX5_ends_23 (by decide) ?_
  obtain ⟨h1, h⟩ := h
  obtain ⟨M6, eM6⟩ : ∃ z, z = z_up M5 14 x1.toNatClampNeg 0 := ⟨_, rfl⟩
  have h := h M6 eM6
  refine z_mast (P := z_P1c) (f := 14) rfl X hB (by decide) h1 dX5_ends_24 (fun H locs hB => ?_)
  rw [← eM6] at hB
  refine lv_aload_n hx hb dX5_ends_25 rfl (lv_at hl 1 rfl) ?_
  refine z_mgeta (j := 13) X hB q3223 rfl (Nat.le_of_ble_eq_true rfl) rfl (by decide) dX5_ends_26 ?_
  refine lv_iload_n hx hb dX5_ends_29 rfl (lv_at hl 2 rfl) ?_
  refine lv_iconst (v := (-1)) hx hb dX5_ends_30 (by decide) ?_
  obtain ⟨h1, h⟩ := h
  obtain ⟨M7, eM7⟩ : ∃ z, z = z_up M6 13 x1.toNatClampNeg (-1) := ⟨_, rfl⟩
  have h := h M7 eM7
  refine z_mast (P := z_P1c) (f := 13) rfl X hB (by decide) h1 dX5_ends_31 (fun H locs hB => ?_)
  rw [← eM7] at hB
  refine lv_aload_n hx hb dX5_ends_32 rfl (lv_at hl 1 rfl) ?_
  refine z_mgeta (j := 15) X hB q3225 rfl (Nat.le_of_ble_eq_true rfl) rfl (by decide) dX5_ends_33 ?_
  refine lv_iload_n hx hb dX5_ends_36 rfl (lv_at hl 2 rfl) ?_
  refine lv_iconst (v := 0) hx hb dX5_ends_37 (by decide) ?_
  obtain ⟨h1, h⟩ := h
  obtain ⟨M8, eM8⟩ : ∃ z, z = z_up M7 15 x1.toNatClampNeg 0 := ⟨_, rfl⟩
  have h := h M8 eM8
  refine z_mast (P := z_P1c) (f := 15) rfl X hB (by decide) h1 dX5_ends_38 (fun H locs hB => ?_)
  rw [← eM8] at hB
  refine lv_aload_n hx hb dX5_ends_39 rfl (lv_at hl 1 rfl) ?_
  refine z_mgeta (j := 16) X hB q3226 rfl (Nat.le_of_ble_eq_true rfl) rfl (by decide) dX5_ends_40 ?_
  refine lv_iload_n hx hb dX5_ends_43 rfl (lv_at hl 2 rfl) ?_
  refine lv_iconst (v := 0) hx hb dX5_ends_44 (by decide) ?_
  obtain ⟨h1, h⟩ := h
  obtain ⟨M9, eM9⟩ : ∃ z, z = z_up M8 16 x1.toNatClampNeg 0 := ⟨_, rfl⟩
  have h := h M9 eM9
  refine z_mast (P := z_P1c) (f := 16) rfl X hB (by decide) h1 dX5_ends_45 (fun H locs hB => ?_)
  rw [← eM9] at hB
  refine lv_aload_n hx hb dX5_ends_46 rfl (lv_at hl 1 rfl) ?_
  refine z_mgeta (j := 29) X hB q3239 rfl (Nat.le_of_ble_eq_true rfl) rfl (by decide) dX5_ends_47 ?_
  refine lv_iload_n hx hb dX5_ends_50 rfl (lv_at hl 0 rfl) ?_
  refine lv_iconst (v := 2) hx hb dX5_ends_51 (by decide) ?_
  obtain ⟨h1, h⟩ := h
  obtain ⟨M10, eM10⟩ : ∃ z, z = z_up M9 29 y1.toNatClampNeg 2 := ⟨_, rfl⟩
  have h := h M10 eM10
  refine z_mast (P := z_P1c) (f := 29) rfl X hB (by decide) h1 dX5_ends_52 (fun H locs hB => ?_)
  rw [← eM10] at hB
  refine lv_aload_n hx hb dX5_ends_53 rfl (lv_at hl 1 rfl) ?_
  refine z_mgeta (j := 31) X hB q3241 rfl (Nat.le_of_ble_eq_true rfl) rfl (by decide) dX5_ends_54 ?_
  refine lv_iload_n hx hb dX5_ends_57 rfl (lv_at hl 0 rfl) ?_
  refine lv_aload_n hx hb dX5_ends_58 rfl (lv_at hl 1 rfl) ?_
  refine z_mgets (j := 33) X hB q3243 rfl (Nat.le_of_ble_eq_true rfl) rfl rfl dX5_ends_59 ?_
  obtain ⟨h1, h⟩ := h
  obtain ⟨M11, eM11⟩ : ∃ z, z = z_up M10 31 y1.toNatClampNeg (M10 33 0) := ⟨_, rfl⟩
  have h := h M11 eM11
  refine z_mast (P := z_P1c) (f := 31) rfl X hB (by decide) h1 dX5_ends_62 (fun H locs hB => ?_)
  rw [← eM11] at hB
  refine lv_aload_n hx hb dX5_ends_63 rfl (lv_at hl 1 rfl) ?_
  refine lv_dup hx hb dX5_ends_64 rfl ?_
  refine z_mgets (j := 37) X hB q3247 rfl (Nat.le_of_ble_eq_true rfl) rfl rfl dX5_ends_65 ?_
  refine lv_iconst (v := 1) hx hb dX5_ends_68 (by decide) ?_
  refine lv_iadd hx hb dX5_ends_69 ?_
  obtain ⟨M12, eM12⟩ : ∃ z, z = z_us M11 37 ((M11 37 0) + 1) := ⟨_, rfl⟩
  have h := h M12 eM12
  refine z_mputs (j := 37) (ty := .int) X hB q3247 rfl (Nat.le_of_ble_eq_true rfl) rfl rfl rfl rfl (Or.inl rfl) rfl dX5_ends_70 (fun H locs hB => ?_)
  rw [← eM12] at hB
  refine lv_aload_n hx hb dX5_ends_73 rfl (lv_at hl 1 rfl) ?_
  refine lv_dup hx hb dX5_ends_74 rfl ?_
  refine z_mgets (j := 39) X hB q3249 rfl (Nat.le_of_ble_eq_true rfl) rfl rfl dX5_ends_75 ?_
  refine lv_aload_n hx hb dX5_ends_78 rfl (lv_at hl 1 rfl) ?_
  refine z_mgets (j := 33) X hB q3243 rfl (Nat.le_of_ble_eq_true rfl) rfl rfl dX5_ends_79 ?_
  refine lv_aload_n hx hb dX5_ends_82 rfl (lv_at hl 1 rfl) ?_
  refine z_mgeta (j := 30) X hB q3240 rfl (Nat.le_of_ble_eq_true rfl) rfl (by decide) dX5_ends_83 ?_
  refine lv_iload_n hx hb dX5_ends_86 rfl (lv_at hl 0 rfl) ?_
  obtain ⟨h1, h⟩ := h
  refine z_mald (f := 30) X hB (by decide) h1 dX5_ends_87 ?_
  refine lv_isub hx hb dX5_ends_88 ?_
  refine lv_iadd hx hb dX5_ends_89 ?_
  obtain ⟨M13, eM13⟩ : ∃ z, z = z_us M12 39 ((M12 39 0) + ((M12 33 0) - (M12 30 y1.toNatClampNeg))) := ⟨_, rfl⟩
  have h := h M13 eM13
  refine z_mputs (j := 39) (ty := .int) X hB q3249 rfl (Nat.le_of_ble_eq_true rfl) rfl rfl rfl rfl (Or.inl rfl) rfl dX5_ends_90 (fun H locs hB => ?_)
  rw [← eM13] at hB
  refine lv_aload_n hx hb dX5_ends_93 rfl (lv_at hl 1 rfl) ?_
  refine z_mgeta (j := 27) X hB q3237 rfl (Nat.le_of_ble_eq_true rfl) rfl (by decide) dX5_ends_94 ?_
  refine lv_iload_n hx hb dX5_ends_97 rfl (lv_at hl 0 rfl) ?_
  obtain ⟨h1, h⟩ := h
  refine z_mald (f := 27) X hB (by decide) h1 dX5_ends_98 ?_
  refine lv_if_lt (tgt := 115) hx hb dX5_ends_99 (by decide) (fun c14 => ?_) (fun c14 => ?_)
  · have h := h.1 c14
    refine lv_iconst (v := (-1)) hx hb dX5_ends_115 (by decide) ?_
    exact ww_X5_ends_116 X  hB (lv_sub hl [1, 0] rfl) h
  · have h := h.2 c14
    refine lv_aload_n hx hb dX5_ends_102 rfl (lv_at hl 1 rfl) ?_
    refine lv_aload_n hx hb dX5_ends_103 rfl (lv_at hl 1 rfl) ?_
    refine z_mgeta (j := 27) X hB q3237 rfl (Nat.le_of_ble_eq_true rfl) rfl (by decide) dX5_ends_104 ?_
    refine lv_iload_n hx hb dX5_ends_107 rfl (lv_at hl 0 rfl) ?_
    obtain ⟨h1, h⟩ := h
    refine z_mald (f := 27) X hB (by decide) h1 dX5_ends_108 ?_
    refine z_mcalli (fun _ h => h) (fun I1 hB1 hM => z_runV (rest := []) [.int (M13 27 y1.toNatClampNeg)] pk_X5_firstPartOf (met_X5_firstPartOf hB.1 hM (M13 27 y1.toNatClampNeg) _ h) X hB1 (by decide) q3609 kc_X5 (by decide) (by rw [hB.1.1]) rfl hl.1 (Nat.le_of_ble_eq_true rfl) dX5_ends_109 (Nat.le_refl 0) (Nat.le_refl 0) (by decide) (by decide)) hB (fun r15 M16 H locs h hB => ?_)
    refine lv_goto (tgt := 116) hx hb dX5_ends_112 (by decide) ?_
    exact ww_X5_ends_116 X  hB (lv_sub hl [1, 0] rfl) h
theorem pk_X5_ends : z_PV RX5 yX5_ends cX5_ends 4 none 1 := ⟨q3607, qs79, q131, q3608, by decide +kernel⟩
theorem met_X5_ends {l : Launch} {G : z_E} {T : z_T} {I : z_I} {Q : z_Q} {o : Nat} {b : Nat → Nat} {M : z_M} (hL : z_lie T Q o b) (hM : z_of I o b = M) (x1 : Int32) (Qk : z_M → Prop) (h : wp_X5_ends M x1 Qk) : z_GM l G yX5_ends (ws_ yX5_ends cX5_ends 4 none) 10 165 0 0 [.ref o, .int x1] z_P1c T I Q (z_mv_ Qk T Q o b) z_no := by
  refine z_body (own := RX5) (nm := "ends") (by decide +kernel) rfl rfl (Nat.le_of_ble_eq_true rfl) (fun p e R s m below meth c A ls X hB hl => ?_)
  exact ww_X5_ends_0 X ⟨hL, I, hB, hM⟩ hl h
end
