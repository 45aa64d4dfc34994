/-! THE REFERENCE: walks 3 -/
set_option maxRecDepth 100000
section
variable {p : Program} {l : Launch} {e : Env} {R : Room} {s : State} {m : MethodId} {args : Array Value} {below : List Frame} {meth : Method} {c : Code}
variable {G : z_E} {A : Nat → Prop} {T T0 : z_T} {I I0 : z_I} {Q Q0 : z_Q} {o : Nat} {b : Nat → Nat} {M : z_M}
/-! X5_takesJob -/
theorem ww_X5_takesJob_98 {Qk : Int32 → z_M → Prop} (X : z_XM l G A p R s m args meth c cX5_takesJob 1 "takesJob" (some .boolean) 11 184) {M : z_M} {H : Heap} {locs : List Loc} {ls : Array Slot} (hB : z_MB G z_P1c A s.heap T I0 Q o b M H locs) (hl : lv_has ls 1 []) (h : wb_X5_takesJob_98 Qk M) : W p l e R s m args below meth c H locs 0 0 (z_MQ below G z_P1c A T I0 Q (z_mz Qk T Q o b) z_no args s 0 0) (F0 m 98 ls []) := by
  obtain ⟨hx, hb, -⟩ := id X
  unfold wb_X5_takesJob_98 at h
  refine lv_iconst (v := 0) hx hb dX5_takesJob_98 (by decide) ?_
  obtain ⟨hL, I, hB, hM⟩ := hB
  exact z_zret X hB (Or.inl rfl) ⟨_, rfl, (Or.inl rfl), (by rw [hM]; exact h), rfl, rfl⟩ (Nat.le_refl 0) (Nat.le_refl 0) dX5_takesJob_99
theorem ww_X5_takesJob_141 {Qk : Int32 → z_M → Prop} (X : z_XM l G A p R s m args meth c cX5_takesJob 1 "takesJob" (some .boolean) 11 184) {M : z_M} {s0 : Int32} {H : Heap} {locs : List Loc} {ls : Array Slot} (hB : z_MB G z_P1c A s.heap T I0 Q o b M H locs) (hl : lv_has ls 1 []) (h : wb_X5_takesJob_141 Qk M s0) : W p l e R s m args below meth c H locs 0 0 (z_MQ below G z_P1c A T I0 Q (z_mz Qk T Q o b) z_no args s 0 0) (F0 m 141 ls [.int s0]) := by
  obtain ⟨hx, hb, -⟩ := id X
  unfold wb_X5_takesJob_141 at h
  obtain ⟨hz, h⟩ := h
  obtain ⟨hL, I, hB, hM⟩ := hB
  exact z_zret X hB hz ⟨_, rfl, hz, (by rw [hM]; exact h), rfl, rfl⟩ (Nat.le_refl 0) (Nat.le_refl 0) dX5_takesJob_141
theorem ww_X5_takesJob_136 {Qk : Int32 → z_M → Prop} (X : z_XM l G A p R s m args meth c cX5_takesJob 1 "takesJob" (some .boolean) 11 184) {M : z_M} {H : Heap} {locs : List Loc} {ls : Array Slot} (hB : z_MB G z_P1c A s.heap T I0 Q o b M H locs) (hl : lv_has ls 1 []) (h : wb_X5_takesJob_136 Qk M) : W p l e R s m args below meth c H locs 0 0 (z_MQ below G z_P1c A T I0 Q (z_mz Qk T Q o b) z_no args s 0 0) (F0 m 136 ls []) := by
  obtain ⟨hx, hb, -⟩ := id X
  unfold wb_X5_takesJob_136 at h
  refine lv_iconst (v := 1) hx hb dX5_takesJob_136 (by decide) ?_
  refine lv_goto (tgt := 141) hx hb dX5_takesJob_137 (by decide) ?_
  exact ww_X5_takesJob_141 X  hB (lv_sub hl [] rfl) h
theorem ww_X5_takesJob_119 {Qk : Int32 → z_M → Prop} (X : z_XM l G A p R s m args meth c cX5_takesJob 1 "takesJob" (some .boolean) 11 184) {M : z_M} {H : Heap} {locs : List Loc} {ls : Array Slot} (hB : z_MB G z_P1c A s.heap T I0 Q o b M H locs) (hl : lv_has ls 1 [(0, .ref o)]) (h : wb_X5_takesJob_119 Qk M) : W p l e R s m args below meth c H locs 0 0 (z_MQ below G z_P1c A T I0 Q (z_mz Qk T Q o b) z_no args s 0 0) (F0 m 119 ls []) := by
  obtain ⟨hx, hb, -⟩ := id X
  unfold wb_X5_takesJob_119 at h
  refine lv_aload_n hx hb dX5_takesJob_119 rfl (lv_at hl 0 rfl) ?_
  refine lv_bipush (v := 62) hx hb dX5_takesJob_120 (by decide) ?_
  refine z_mcallz (fun _ h => h) (fun I1 hB1 hM => z_runV (rest := []) [.int 62] pk_X5_skips (met_X5_skips hB.1 hM 62 _ h) X hB1 (by decide) q3680 kc_X5 (by decide) (by rw [hB.1.1]) rfl hl.1 (Nat.le_of_ble_eq_true rfl) dX5_takesJob_122 (Nat.le_refl 0) (Nat.le_refl 0) (by decide) (by decide)) hB (fun r31 M32 H locs hz h hB => ?_)
  have h := h hz
  refine lv_if_eq (tgt := 136) hx hb dX5_takesJob_125 (by decide) (fun c33 => ?_) (fun c33 => ?_)
  · have h := h.1 c33
    exact ww_X5_takesJob_136 X  hB (lv_sub hl [] rfl) h
  · have h := h.2 c33
    refine lv_aload_n hx hb dX5_takesJob_128 rfl (lv_at hl 0 rfl) ?_
    refine lv_iconst (v := 5) hx hb dX5_takesJob_129 (by decide) ?_
    refine z_mcallz (fun _ h => h) (fun I1 hB1 hM => z_runV (rest := []) [.int 5] pk_X5_takesAt (met_X5_takesAt hB.1 hM 5 _ h) X hB1 (by decide) q3688 kc_X5 (by decide) (by rw [hB.1.1]) rfl hl.1 (Nat.le_of_ble_eq_true rfl) dX5_takesJob_130 (Nat.le_refl 0) (Nat.le_refl 0) (by decide) (by decide)) hB (fun r34 M35 H locs hz h hB => ?_)
    have h := h hz
    refine lv_if_eq (tgt := 140) hx hb dX5_takesJob_133 (by decide) (fun c36 => ?_) (fun c36 => ?_)
    · have h := h.1 c36
      refine lv_iconst (v := 0) hx hb dX5_takesJob_140 (by decide) ?_
      exact ww_X5_takesJob_141 X  hB (lv_sub hl [] rfl) h
    · have h := h.2 c36
      exact ww_X5_takesJob_136 X  hB (lv_sub hl [] rfl) h
theorem ww_X5_takesJob_0 {Qk : Int32 → z_M → Prop} (X : z_XM l G A p R s m args meth c cX5_takesJob 1 "takesJob" (some .boolean) 11 184) {M : z_M} {H : Heap} {locs : List Loc} {ls : Array Slot} (hB : z_MB G z_P1c A s.heap T I0 Q o b M H locs) (hl : lv_has ls 1 [(0, .ref o)]) (h : wb_X5_takesJob_0 Qk M) : W p l e R s m args below meth c H locs 0 0 (z_MQ below G z_P1c A T I0 Q (z_mz Qk T Q o b) z_no args s 0 0) (F0 m 0 ls []) := by
  obtain ⟨hx, hb, -⟩ := id X
  unfold wb_X5_takesJob_0 at h
  refine lv_aload_n hx hb dX5_takesJob_0 rfl (lv_at hl 0 rfl) ?_
  refine z_mgeta (j := 49) X hB q3259 rfl (Nat.le_of_ble_eq_true rfl) rfl (by decide) dX5_takesJob_1 ?_
  refine lv_aload_n hx hb dX5_takesJob_4 rfl (lv_at hl 0 rfl) ?_
  refine z_mgets (j := 53) X hB q3263 rfl (Nat.le_of_ble_eq_true rfl) rfl rfl dX5_takesJob_5 ?_
  refine lv_iconst (v := 0) hx hb dX5_takesJob_8 (by decide) ?_
  obtain ⟨h1, h⟩ := h
  obtain ⟨M1, eM1⟩ : ∃ z, z = z_up M 49 (M 53 0).toNatClampNeg 0 := ⟨_, rfl⟩
  have h := h M1 eM1
  refine z_mast (P := z_P1c) (f := 49) rfl X hB (by decide) h1 dX5_takesJob_9 (fun H locs hB => ?_)
  rw [← eM1] at hB
  refine lv_aload_n hx hb dX5_takesJob_10 rfl (lv_at hl 0 rfl) ?_
  refine z_mgeta (j := 50) X hB q3260 rfl (Nat.le_of_ble_eq_true rfl) rfl (by decide) dX5_takesJob_11 ?_
  refine lv_bipush (v := 6) hx hb dX5_takesJob_14 (by decide) ?_
  refine lv_aload_n hx hb dX5_takesJob_16 rfl (lv_at hl 0 rfl) ?_
  refine z_mgets (j := 53) X hB q3263 rfl (Nat.le_of_ble_eq_true rfl) rfl rfl dX5_takesJob_17 ?_
  refine lv_imul hx hb dX5_takesJob_20 ?_
  refine lv_iconst (v := 4) hx hb dX5_takesJob_21 (by decide) ?_
  refine lv_iadd hx hb dX5_takesJob_22 ?_
  refine lv_iconst (v := (-1)) hx hb dX5_takesJob_23 (by decide) ?_
  obtain ⟨h1, h⟩ := h
  obtain ⟨M2, eM2⟩ : ∃ z, z = z_up M1 50 ((6 * (M1 53 0)) + 4).toNatClampNeg (-1) := ⟨_, rfl⟩
  have h := h M2 eM2
  refine z_mast (P := z_P1c) (f := 50) rfl X hB (by decide) h1 dX5_takesJob_24 (fun H locs hB => ?_)
  rw [← eM2] at hB
  refine lv_aload_n hx hb dX5_takesJob_25 rfl (lv_at hl 0 rfl) ?_
  refine z_mgeta (j := 50) X hB q3260 rfl (Nat.le_of_ble_eq_true rfl) rfl (by decide) dX5_takesJob_26 ?_
  refine lv_bipush (v := 6) hx hb dX5_takesJob_29 (by decide) ?_
  refine lv_aload_n hx hb dX5_takesJob_31 rfl (lv_at hl 0 rfl) ?_
  refine z_mgets (j := 53) X hB q3263 rfl (Nat.le_of_ble_eq_true rfl) rfl rfl dX5_takesJob_32 ?_
  refine lv_imul hx hb dX5_takesJob_35 ?_
  refine lv_iconst (v := 5) hx hb dX5_takesJob_36 (by decide) ?_
  refine lv_iadd hx hb dX5_takesJob_37 ?_
  refine lv_iconst (v := (-1)) hx hb dX5_takesJob_38 (by decide) ?_
  obtain ⟨h1, h⟩ := h
  obtain ⟨M3, eM3⟩ : ∃ z, z = z_up M2 50 ((6 * (M2 53 0)) + 5).toNatClampNeg (-1) := ⟨_, rfl⟩
  have h := h M3 eM3
  refine z_mast (P := z_P1c) (f := 50) rfl X hB (by decide) h1 dX5_takesJob_39 (fun H locs hB => ?_)
  rw [← eM3] at hB
  refine lv_aload_n hx hb dX5_takesJob_40 rfl (lv_at hl 0 rfl) ?_
  refine lv_iconst (v := 0) hx hb dX5_takesJob_41 (by decide) ?_
  refine z_mcallz (fun _ h => h) (fun I1 hB1 hM => z_runV (rest := []) [.int 0] pk_X5_takesAt (met_X5_takesAt hB.1 hM 0 _ h) X hB1 (by decide) q3688 kc_X5 (by decide) (by rw [hB.1.1]) rfl hl.1 (Nat.le_of_ble_eq_true rfl) dX5_takesJob_42 (Nat.le_refl 0) (Nat.le_refl 0) (by decide) (by decide)) hB (fun r4 M5 H locs hz h hB => ?_)
  have h := h hz
  refine lv_if_eq (tgt := 98) hx hb dX5_takesJob_45 (by decide) (fun c6 => ?_) (fun c6 => ?_)
  · have h := h.1 c6
    exact ww_X5_takesJob_98 X  hB (lv_sub hl [] rfl) h
  · have h := h.2 c6
    refine lv_aload_n hx hb dX5_takesJob_48 rfl (lv_at hl 0 rfl) ?_
    refine lv_bipush (v := 58) hx hb dX5_takesJob_49 (by decide) ?_
    refine z_mcallz (fun _ h => h) (fun I1 hB1 hM => z_runV (rest := []) [.int 58] pk_X5_skips (met_X5_skips hB.1 hM 58 _ h) X hB1 (by decide) q3680 kc_X5 (by decide) (by rw [hB.1.1]) rfl hl.1 (Nat.le_of_ble_eq_true rfl) dX5_takesJob_51 (Nat.le_refl 0) (Nat.le_refl 0) (by decide) (by decide)) hB (fun r7 M8 H locs hz h hB => ?_)
    have h := h hz
    refine lv_if_eq (tgt := 98) hx hb dX5_takesJob_54 (by decide) (fun c9 => ?_) (fun c9 => ?_)
    · have h := h.1 c9
      exact ww_X5_takesJob_98 X  hB (lv_sub hl [] rfl) h
    · have h := h.2 c9
      refine lv_aload_n hx hb dX5_takesJob_57 rfl (lv_at hl 0 rfl) ?_
      refine z_mcallz (fun _ h => h) (fun I1 hB1 hM => z_runV (rest := []) [] pk_X5_takesPath (met_X5_takesPath hB.1 hM _ h) X hB1 (by decide) q3696 kc_X5 (by decide) (by rw [hB.1.1]) rfl hl.1 (Nat.le_of_ble_eq_true rfl) dX5_takesJob_58 (Nat.le_refl 0) (Nat.le_refl 0) (by decide) (by decide)) hB (fun r10 M11 H locs hz h hB => ?_)
      have h := h hz
      refine lv_if_eq (tgt := 98) hx hb dX5_takesJob_61 (by decide) (fun c12 => ?_) (fun c12 => ?_)
      · have h := h.1 c12
        exact ww_X5_takesJob_98 X  hB (lv_sub hl [] rfl) h
      · have h := h.2 c12
        refine lv_aload_n hx hb dX5_takesJob_64 rfl (lv_at hl 0 rfl) ?_
        refine lv_bipush (v := 47) hx hb dX5_takesJob_65 (by decide) ?_
        refine z_mcallz (fun _ h => h) (fun I1 hB1 hM => z_runV (rest := []) [.int 47] pk_X5_skips (met_X5_skips hB.1 hM 47 _ h) X hB1 (by decide) q3680 kc_X5 (by decide) (by rw [hB.1.1]) rfl hl.1 (Nat.le_of_ble_eq_true rfl) dX5_takesJob_67 (Nat.le_refl 0) (Nat.le_refl 0) (by decide) (by decide)) hB (fun r13 M14 H locs hz h hB => ?_)
        have h := h hz
        refine lv_if_eq (tgt := 98) hx hb dX5_takesJob_70 (by decide) (fun c15 => ?_) (fun c15 => ?_)
        · have h := h.1 c15
          exact ww_X5_takesJob_98 X  hB (lv_sub hl [] rfl) h
        · have h := h.2 c15
          refine lv_aload_n hx hb dX5_takesJob_73 rfl (lv_at hl 0 rfl) ?_
          refine lv_iconst (v := 2) hx hb dX5_takesJob_74 (by decide) ?_
          refine z_mcallz (fun _ h => h) (fun I1 hB1 hM => z_runV (rest := []) [.int 2] pk_X5_takesAt (met_X5_takesAt hB.1 hM 2 _ h) X hB1 (by decide) q3688 kc_X5 (by decide) (by rw [hB.1.1]) rfl hl.1 (Nat.le_of_ble_eq_true rfl) dX5_takesJob_75 (Nat.le_refl 0) (Nat.le_refl 0) (by decide) (by decide)) hB (fun r16 M17 H locs hz h hB => ?_)
          have h := h hz
          refine lv_if_eq (tgt := 98) hx hb dX5_takesJob_78 (by decide) (fun c18 => ?_) (fun c18 => ?_)
          · have h := h.1 c18
            exact ww_X5_takesJob_98 X  hB (lv_sub hl [] rfl) h
          · have h := h.2 c18
            refine lv_aload_n hx hb dX5_takesJob_81 rfl (lv_at hl 0 rfl) ?_
            refine lv_bipush (v := 119) hx hb dX5_takesJob_82 (by decide) ?_
            refine z_mcallz (fun _ h => h) (fun I1 hB1 hM => z_runV (rest := []) [.int 119] pk_X5_skips (met_X5_skips hB.1 hM 119 _ h) X hB1 (by decide) q3680 kc_X5 (by decide) (by rw [hB.1.1]) rfl hl.1 (Nat.le_of_ble_eq_true rfl) dX5_takesJob_84 (Nat.le_refl 0) (Nat.le_refl 0) (by decide) (by decide)) hB (fun r19 M20 H locs hz h hB => ?_)
            have h := h hz
            refine lv_if_eq (tgt := 98) hx hb dX5_takesJob_87 (by decide) (fun c21 => ?_) (fun c21 => ?_)
            · have h := h.1 c21
              exact ww_X5_takesJob_98 X  hB (lv_sub hl [] rfl) h
            · have h := h.2 c21
              refine lv_aload_n hx hb dX5_takesJob_90 rfl (lv_at hl 0 rfl) ?_
              refine lv_iconst (v := 3) hx hb dX5_takesJob_91 (by decide) ?_
              refine z_mcallz (fun _ h => h) (fun I1 hB1 hM => z_runV (rest := []) [.int 3] pk_X5_takesAt (met_X5_takesAt hB.1 hM 3 _ h) X hB1 (by decide) q3688 kc_X5 (by decide) (by rw [hB.1.1]) rfl hl.1 (Nat.le_of_ble_eq_true rfl) dX5_takesJob_92 (Nat.le_refl 0) (Nat.le_refl 0) (by decide) (by decide)) hB (fun r22 M23 H locs hz h hB => ?_)
              have h := h hz
              refine lv_if_ne (tgt := 100) hx hb dX5_takesJob_95 (by decide) (fun c24 => ?_) (fun c24 => ?_)
              · have h := h.1 c24
                refine lv_aload_n hx hb dX5_takesJob_100 rfl (lv_at hl 0 rfl) ?_
                refine lv_bipush (v := 60) hx hb dX5_takesJob_101 (by decide) ?_
                refine z_mcallz (fun _ h => h) (fun I1 hB1 hM => z_runV (rest := []) [.int 60] pk_X5_skips (met_X5_skips hB.1 hM 60 _ h) X hB1 (by decide) q3680 kc_X5 (by decide) (by rw [hB.1.1]) rfl hl.1 (Nat.le_of_ble_eq_true rfl) dX5_takesJob_103 (Nat.le_refl 0) (Nat.le_refl 0) (by decide) (by decide)) hB (fun r25 M26 H locs hz h hB => ?_)
                have h := h hz
                refine lv_if_eq (tgt := 119) hx hb dX5_takesJob_106 (by decide) (fun c27 => ?_) (fun c27 => ?_)
                · have h := h.1 c27
                  exact ww_X5_takesJob_119 X  hB (lv_sub hl [0] rfl) h
                · have h := h.2 c27
                  refine lv_aload_n hx hb dX5_takesJob_109 rfl (lv_at hl 0 rfl) ?_
                  refine lv_iconst (v := 4) hx hb dX5_takesJob_110 (by decide) ?_
                  refine z_mcallz (fun _ h => h) (fun I1 hB1 hM => z_runV (rest := []) [.int 4] pk_X5_takesAt (met_X5_takesAt hB.1 hM 4 _ h) X hB1 (by decide) q3688 kc_X5 (by decide) (by rw [hB.1.1]) rfl hl.1 (Nat.le_of_ble_eq_true rfl) dX5_takesJob_111 (Nat.le_refl 0) (Nat.le_refl 0) (by decide) (by decide)) hB (fun r28 M29 H locs hz h hB => ?_)
                  have h := h hz
                  refine lv_if_ne (tgt := 119) hx hb dX5_takesJob_114 (by decide) (fun c30 => ?_) (fun c30 => ?_)
                  · have h := h.1 c30
                    exact ww_X5_takesJob_119 X  hB (lv_sub hl [0] rfl) h
                  · have h := h.2 c30
                    refine lv_iconst (v := 0) hx hb dX5_takesJob_117 (by decide) ?_
                    obtain ⟨hL, I, hB, hM⟩ := hB
                    exact z_zret X hB (Or.inl rfl) ⟨_, rfl, (Or.inl rfl), (by rw [hM]; exact h), rfl, rfl⟩ (Nat.le_refl 0) (Nat.le_refl 0) dX5_takesJob_118
              · have h := h.2 c24
                exact ww_X5_takesJob_98 X  hB (lv_sub hl [] rfl) h
theorem pk_X5_takesJob : z_PV RX5 yX5_takesJob cX5_takesJob 1 (some .boolean) 0 := ⟨q3686, qs87, q131, q3687, by decide +kernel⟩
theorem met_X5_takesJob {l : Launch} {G : z_E} {T : z_T} {I : z_I} {Q : z_Q} {o : Nat} {b : Nat → Nat} {M : z_M} (hL : z_lie T Q o b) (hM : z_of I o b = M) (Qk : Int32 → z_M → Prop) (h : wp_X5_takesJob M Qk) : z_GM l G yX5_takesJob (ws_ yX5_takesJob cX5_takesJob 1 (some .boolean)) 11 184 0 0 [.ref o] z_P1c T I Q (z_mz Qk T Q o b) z_no := by
  refine z_body (own := RX5) (nm := "takesJob") (by decide +kernel) rfl rfl (Nat.le_of_ble_eq_true rfl) (fun p e R s m below meth c A ls X hB hl => ?_)
  exact ww_X5_takesJob_0 X ⟨hL, I, hB, hM⟩ hl h
/-! X5_takesTicks -/
theorem ww_X5_takesTicks_59 {Qk : Int32 → z_M → Prop} (X : z_XM l G A p R s m args meth c cX5_takesTicks 1 "takesTicks" (some .boolean) 11 183) {M : z_M} {H : Heap} {locs : List Loc} {ls : Array Slot} (hB : z_MB G z_P1c A s.heap T I0 Q o b M H locs) (hl : lv_has ls 1 []) (h : wb_X5_takesTicks_59 Qk M) : W p l e R s m args below meth c H locs 0 0 (z_MQ below G z_P1c A T I0 Q (z_mz Qk T Q o b) z_no args s 0 0) (F0 m 59 ls []) := by
  obtain ⟨hx, hb, -⟩ := id X
  unfold wb_X5_takesTicks_59 at h
  refine lv_iconst (v := 1) hx hb dX5_takesTicks_59 (by decide) ?_
  obtain ⟨hL, I, hB, hM⟩ := hB
  exact z_zret X hB (Or.inr rfl) ⟨_, rfl, (Or.inr rfl), (by rw [hM]; exact h), rfl, rfl⟩ (Nat.le_refl 0) (Nat.le_refl 0) dX5_takesTicks_60
theorem ww_X5_takesTicks_0 {Qk : Int32 → z_M → Prop} (X : z_XM l G A p R s m args meth c cX5_takesTicks 1 "takesTicks" (some .boolean) 11 183) {M : z_M} {H : Heap} {locs : List Loc} {ls : Array Slot} (hB : z_MB G z_P1c A s.heap T I0 Q o b M H locs) (hl : lv_has ls 1 [(0, .ref o)]) (h : wb_X5_takesTicks_0 Qk M) : W p l e R s m args below meth c H locs 0 0 (z_MQ below G z_P1c A T I0 Q (z_mz Qk T Q o b) z_no args s 0 0) (F0 m 0 ls []) := by
  obtain ⟨hx, hb, -⟩ := id X
  unfold wb_X5_takesTicks_0 at h
  refine lv_aload_n hx hb dX5_takesTicks_0 rfl (lv_at hl 0 rfl) ?_
  refine z_mgeta (j := 49) X hB q3259 rfl (Nat.le_of_ble_eq_true rfl) rfl (by decide) dX5_takesTicks_1 ?_
  refine lv_aload_n hx hb dX5_takesTicks_4 rfl (lv_at hl 0 rfl) ?_
  refine z_mgets (j := 53) X hB q3263 rfl (Nat.le_of_ble_eq_true rfl) rfl rfl dX5_takesTicks_5 ?_
  refine lv_iconst (v := 1) hx hb dX5_takesTicks_8 (by decide) ?_
  obtain ⟨h1, h⟩ := h
  obtain ⟨M1, eM1⟩ : ∃ z, z = z_up M 49 (M 53 0).toNatClampNeg 1 := ⟨_, rfl⟩
  have h := h M1 eM1
  refine z_mast (P := z_P1c) (f := 49) rfl X hB (by decide) h1 dX5_takesTicks_9 (fun H locs hB => ?_)
  rw [← eM1] at hB
  refine lv_aload_n hx hb dX5_takesTicks_10 rfl (lv_at hl 0 rfl) ?_
  refine lv_iconst (v := 0) hx hb dX5_takesTicks_11 (by decide) ?_
  refine z_mcallz (fun _ h => h) (fun I1 hB1 hM => z_runV (rest := []) [.int 0] pk_X5_takesAt (met_X5_takesAt hB.1 hM 0 _ h) X hB1 (by decide) q3688 kc_X5 (by decide) (by rw [hB.1.1]) rfl hl.1 (Nat.le_of_ble_eq_true rfl) dX5_takesTicks_12 (Nat.le_refl 0) (Nat.le_refl 0) (by decide) (by decide)) hB (fun r2 M3 H locs hz h hB => ?_)
  have h := h hz
  refine lv_if_ne (tgt := 20) hx hb dX5_takesTicks_15 (by decide) (fun c4 => ?_) (fun c4 => ?_)
  · have h := h.1 c4
    refine lv_aload_n hx hb dX5_takesTicks_20 rfl (lv_at hl 0 rfl) ?_
    refine z_mcallz (fun _ h => h) (fun I1 hB1 hM => z_runV (rest := []) [] pk_X5_takes (met_X5_takes hB.1 hM _ h) X hB1 (by decide) q3692 kc_X5 (by decide) (by rw [hB.1.1]) rfl hl.1 (Nat.le_of_ble_eq_true rfl) dX5_takesTicks_21 (Nat.le_refl 0) (Nat.le_refl 0) (by decide) (by decide)) hB (fun r5 M6 H locs hz h hB => ?_)
    have h := h hz
    refine lv_if_eq (tgt := 59) hx hb dX5_takesTicks_24 (by decide) (fun c7 => ?_) (fun c7 => ?_)
    · have h := h.1 c7
      exact ww_X5_takesTicks_59 X  hB (lv_sub hl [] rfl) h
    · have h := h.2 c7
      refine lv_aload_n hx hb dX5_takesTicks_27 rfl (lv_at hl 0 rfl) ?_
      refine z_mgeta (j := 50) X hB q3260 rfl (Nat.le_of_ble_eq_true rfl) rfl (by decide) dX5_takesTicks_28 ?_
      refine lv_bipush (v := 6) hx hb dX5_takesTicks_31 (by decide) ?_
      refine lv_aload_n hx hb dX5_takesTicks_33 rfl (lv_at hl 0 rfl) ?_
      refine z_mgets (j := 53) X hB q3263 rfl (Nat.le_of_ble_eq_true rfl) rfl rfl dX5_takesTicks_34 ?_
      refine lv_imul hx hb dX5_takesTicks_37 ?_
      refine lv_bipush (v := 10) hx hb dX5_takesTicks_38 (by decide) ?_
      refine lv_aload_n hx hb dX5_takesTicks_40 rfl (lv_at hl 0 rfl) ?_
      refine z_mgeta (j := 50) X hB q3260 rfl (Nat.le_of_ble_eq_true rfl) rfl (by decide) dX5_takesTicks_41 ?_
      refine lv_bipush (v := 6) hx hb dX5_takesTicks_44 (by decide) ?_
      refine lv_aload_n hx hb dX5_takesTicks_46 rfl (lv_at hl 0 rfl) ?_
      refine z_mgets (j := 53) X hB q3263 rfl (Nat.le_of_ble_eq_true rfl) rfl rfl dX5_takesTicks_47 ?_
      refine lv_imul hx hb dX5_takesTicks_50 ?_
      obtain ⟨h1, h⟩ := h
      refine z_mald (f := 50) X hB (by decide) h1 dX5_takesTicks_51 ?_
      refine lv_imul hx hb dX5_takesTicks_52 ?_
      refine lv_aload_n hx hb dX5_takesTicks_53 rfl (lv_at hl 0 rfl) ?_
      refine z_mgets (j := 54) X hB q3264 rfl (Nat.le_of_ble_eq_true rfl) rfl rfl dX5_takesTicks_54 ?_
      refine lv_iadd hx hb dX5_takesTicks_57 ?_
      obtain ⟨h1, h⟩ := h
      obtain ⟨M8, eM8⟩ : ∃ z, z = z_up M6 50 (6 * (M6 53 0)).toNatClampNeg ((10 * (M6 50 (6 * (M6 53 0)).toNatClampNeg)) + (M6 54 0)) := ⟨_, rfl⟩
      have h := h M8 eM8
      refine z_mast (P := z_P1c) (f := 50) rfl X hB (by decide) h1 dX5_takesTicks_58 (fun H locs hB => ?_)
      rw [← eM8] at hB
      exact ww_X5_takesTicks_59 X  hB (lv_sub hl [] rfl) h
  · have h := h.2 c4
    refine lv_iconst (v := 0) hx hb dX5_takesTicks_18 (by decide) ?_
    obtain ⟨hL, I, hB, hM⟩ := hB
    exact z_zret X hB (Or.inl rfl) ⟨_, rfl, (Or.inl rfl), (by rw [hM]; exact h), rfl, rfl⟩ (Nat.le_refl 0) (Nat.le_refl 0) dX5_takesTicks_19
theorem pk_X5_takesTicks : z_PV RX5 yX5_takesTicks cX5_takesTicks 1 (some .boolean) 0 := ⟨q3702, qs91, q131, q3703, by decide +kernel⟩
theorem met_X5_takesTicks {l : Launch} {G : z_E} {T : z_T} {I : z_I} {Q : z_Q} {o : Nat} {b : Nat → Nat} {M : z_M} (hL : z_lie T Q o b) (hM : z_of I o b = M) (Qk : Int32 → z_M → Prop) (h : wp_X5_takesTicks M Qk) : z_GM l G yX5_takesTicks (ws_ yX5_takesTicks cX5_takesTicks 1 (some .boolean)) 11 183 0 0 [.ref o] z_P1c T I Q (z_mz Qk T Q o b) z_no := by
  refine z_body (own := RX5) (nm := "takesTicks") (by decide +kernel) rfl rfl (Nat.le_of_ble_eq_true rfl) (fun p e R s m below meth c A ls X hB hl => ?_)
  exact ww_X5_takesTicks_0 X ⟨hL, I, hB, hM⟩ hl h
/-! X5_takesCommand -/
theorem ww_X5_takesCommand_68 {Qk : Int32 → z_M → Prop} (X : z_XM l G A p R s m args meth c cX5_takesCommand 1 "takesCommand" (some .boolean) 12 204) {M : z_M} {s0 : Int32} {H : Heap} {locs : List Loc} {ls : Array Slot} (hB : z_MB G z_P1c A s.heap T I0 Q o b M H locs) (hl : lv_has ls 1 []) (h : wb_X5_takesCommand_68 Qk M s0) : W p l e R s m args below meth c H locs 0 0 (z_MQ below G z_P1c A T I0 Q (z_mz Qk T Q o b) z_no args s 0 0) (F0 m 68 ls [.int s0]) := by
  obtain ⟨hx, hb, -⟩ := id X
  unfold wb_X5_takesCommand_68 at h
  obtain ⟨hz, h⟩ := h
  obtain ⟨hL, I, hB, hM⟩ := hB
  exact z_zret X hB hz ⟨_, rfl, hz, (by rw [hM]; exact h), rfl, rfl⟩ (Nat.le_refl 0) (Nat.le_refl 0) dX5_takesCommand_68
theorem ww_X5_takesCommand_67 {Qk : Int32 → z_M → Prop} (X : z_XM l G A p R s m args meth c cX5_takesCommand 1 "takesCommand" (some .boolean) 12 204) {M : z_M} {H : Heap} {locs : List Loc} {ls : Array Slot} (hB : z_MB G z_P1c A s.heap T I0 Q o b M H locs) (hl : lv_has ls 1 []) (h : wb_X5_takesCommand_67 Qk M) : W p l e R s m args below meth c H locs 0 0 (z_MQ below G z_P1c A T I0 Q (z_mz Qk T Q o b) z_no args s 0 0) (F0 m 67 ls []) := by
  obtain ⟨hx, hb, -⟩ := id X
  unfold wb_X5_takesCommand_67 at h
  refine lv_iconst (v := 0) hx hb dX5_takesCommand_67 (by decide) ?_
  exact ww_X5_takesCommand_68 X  hB (lv_sub hl [] rfl) h
theorem ww_X5_takesCommand_0 {Qk : Int32 → z_M → Prop} (X : z_XM l G A p R s m args meth c cX5_takesCommand 1 "takesCommand" (some .boolean) 12 204) {M : z_M} {H : Heap} {locs : List Loc} {ls : Array Slot} (hB : z_MB G z_P1c A s.heap T I0 Q o b M H locs) (hl : lv_has ls 1 [(0, .ref o)]) (h : wb_X5_takesCommand_0 Qk M) : W p l e R s m args below meth c H locs 0 0 (z_MQ below G z_P1c A T I0 Q (z_mz Qk T Q o b) z_no args s 0 0) (F0 m 0 ls []) := by
  obtain ⟨hx, hb, -⟩ := id X
  unfold wb_X5_takesCommand_0 at h
  refine lv_aload_n hx hb dX5_takesCommand_0 rfl (lv_at hl 0 rfl) ?_
  refine lv_bipush (v := 106) hx hb dX5_takesCommand_1 (by decide) ?_
  refine z_mcallz (fun _ h => h) (fun I1 hB1 hM => z_runV (rest := []) [.int 106] pk_X5_skips (met_X5_skips hB.1 hM 106 _ h) X hB1 (by decide) q3680 kc_X5 (by decide) (by rw [hB.1.1]) rfl hl.1 (Nat.le_of_ble_eq_true rfl) dX5_takesCommand_3 (Nat.le_refl 0) (Nat.le_refl 0) (by decide) (by decide)) hB (fun r1 M2 H locs hz h hB => ?_)
  have h := h hz
  refine lv_if_eq (tgt := 14) hx hb dX5_takesCommand_6 (by decide) (fun c3 => ?_) (fun c3 => ?_)
  · have h := h.1 c3
    refine lv_aload_n hx hb dX5_takesCommand_14 rfl (lv_at hl 0 rfl) ?_
    refine lv_bipush (v := 116) hx hb dX5_takesCommand_15 (by decide) ?_
    refine z_mcallz (fun _ h => h) (fun I1 hB1 hM => z_runV (rest := []) [.int 116] pk_X5_skips (met_X5_skips hB.1 hM 116 _ h) X hB1 (by decide) q3680 kc_X5 (by decide) (by rw [hB.1.1]) rfl hl.1 (Nat.le_of_ble_eq_true rfl) dX5_takesCommand_17 (Nat.le_refl 0) (Nat.le_refl 0) (by decide) (by decide)) hB (fun r4 M5 H locs hz h hB => ?_)
    have h := h hz
    refine lv_if_eq (tgt := 28) hx hb dX5_takesCommand_20 (by decide) (fun c6 => ?_) (fun c6 => ?_)
    · have h := h.1 c6
      refine lv_aload_n hx hb dX5_takesCommand_28 rfl (lv_at hl 0 rfl) ?_
      refine z_mgeta (j := 49) X hB q3259 rfl (Nat.le_of_ble_eq_true rfl) rfl (by decide) dX5_takesCommand_29 ?_
      refine lv_aload_n hx hb dX5_takesCommand_32 rfl (lv_at hl 0 rfl) ?_
      refine z_mgets (j := 53) X hB q3263 rfl (Nat.le_of_ble_eq_true rfl) rfl rfl dX5_takesCommand_33 ?_
      refine lv_iconst (v := 2) hx hb dX5_takesCommand_36 (by decide) ?_
      obtain ⟨h1, h⟩ := h
      obtain ⟨M7, eM7⟩ : ∃ z, z = z_up M5 49 (M5 53 0).toNatClampNeg 2 := ⟨_, rfl⟩
      have h := h M7 eM7
      refine z_mast (P := z_P1c) (f := 49) rfl X hB (by decide) h1 dX5_takesCommand_37 (fun H locs hB => ?_)
      rw [← eM7] at hB
      refine lv_aload_n hx hb dX5_takesCommand_38 rfl (lv_at hl 0 rfl) ?_
      refine lv_bipush (v := 105) hx hb dX5_takesCommand_39 (by decide) ?_
      refine z_mcallz (fun _ h => h) (fun I1 hB1 hM => z_runV (rest := []) [.int 105] pk_X5_skips (met_X5_skips hB.1 hM 105 _ h) X hB1 (by decide) q3680 kc_X5 (by decide) (by rw [hB.1.1]) rfl hl.1 (Nat.le_of_ble_eq_true rfl) dX5_takesCommand_41 (Nat.le_refl 0) (Nat.le_refl 0) (by decide) (by decide)) hB (fun r8 M9 H locs hz h hB => ?_)
      have h := h hz
      refine lv_if_eq (tgt := 67) hx hb dX5_takesCommand_44 (by decide) (fun c10 => ?_) (fun c10 => ?_)
      · have h := h.1 c10
        exact ww_X5_takesCommand_67 X  hB (lv_sub hl [] rfl) h
      · have h := h.2 c10
        refine lv_aload_n hx hb dX5_takesCommand_47 rfl (lv_at hl 0 rfl) ?_
        refine lv_iconst (v := 0) hx hb dX5_takesCommand_48 (by decide) ?_
        refine z_mcallz (fun _ h => h) (fun I1 hB1 hM => z_runV (rest := []) [.int 0] pk_X5_takesAt (met_X5_takesAt hB.1 hM 0 _ h) X hB1 (by decide) q3688 kc_X5 (by decide) (by rw [hB.1.1]) rfl hl.1 (Nat.le_of_ble_eq_true rfl) dX5_takesCommand_49 (Nat.le_refl 0) (Nat.le_refl 0) (by decide) (by decide)) hB (fun r11 M12 H locs hz h hB => ?_)
        have h := h hz
        refine lv_if_eq (tgt := 67) hx hb dX5_takesCommand_52 (by decide) (fun c13 => ?_) (fun c13 => ?_)
        · have h := h.1 c13
          exact ww_X5_takesCommand_67 X  hB (lv_sub hl [] rfl) h
        · have h := h.2 c13
          refine lv_aload_n hx hb dX5_takesCommand_55 rfl (lv_at hl 0 rfl) ?_
          refine lv_iconst (v := 1) hx hb dX5_takesCommand_56 (by decide) ?_
          refine z_mcallz (fun _ h => h) (fun I1 hB1 hM => z_runV (rest := []) [.int 1] pk_X5_takesAt (met_X5_takesAt hB.1 hM 1 _ h) X hB1 (by decide) q3688 kc_X5 (by decide) (by rw [hB.1.1]) rfl hl.1 (Nat.le_of_ble_eq_true rfl) dX5_takesCommand_57 (Nat.le_refl 0) (Nat.le_refl 0) (by decide) (by decide)) hB (fun r14 M15 H locs hz h hB => ?_)
          have h := h hz
          refine lv_if_eq (tgt := 67) hx hb dX5_takesCommand_60 (by decide) (fun c16 => ?_) (fun c16 => ?_)
          · have h := h.1 c16
            exact ww_X5_takesCommand_67 X  hB (lv_sub hl [] rfl) h
          · have h := h.2 c16
            refine lv_iconst (v := 1) hx hb dX5_takesCommand_63 (by decide) ?_
            refine lv_goto (tgt := 68) hx hb dX5_takesCommand_64 (by decide) ?_
            exact ww_X5_takesCommand_68 X  hB (lv_sub hl [] rfl) h
    · have h := h.2 c6
      refine lv_aload_n hx hb dX5_takesCommand_23 rfl (lv_at hl 0 rfl) ?_
      refine z_mcallz (fun _ h => h) (fun I1 hB1 hM => z_runV (rest := []) [] pk_X5_takesTicks (met_X5_takesTicks hB.1 hM _ h) X hB1 (by decide) q3700 kc_X5 (by decide) (by rw [hB.1.1]) rfl hl.1 (Nat.le_of_ble_eq_true rfl) dX5_takesCommand_24 (Nat.le_refl 0) (Nat.le_refl 0) (by decide) (by decide)) hB (fun r17 M18 H locs hz h hB => ?_)
      have h := h hz
      obtain ⟨hz, h⟩ := h
      obtain ⟨hL, I, hB, hM⟩ := hB
      exact z_zret X hB hz ⟨_, rfl, hz, (by rw [hM]; exact h), rfl, rfl⟩ (Nat.le_refl 0) (Nat.le_refl 0) dX5_takesCommand_27
  · have h := h.2 c3
    refine lv_aload_n hx hb dX5_takesCommand_9 rfl (lv_at hl 0 rfl) ?_
    refine z_mcallz (fun _ h => h) (fun I1 hB1 hM => z_runV (rest := []) [] pk_X5_takesJob (met_X5_takesJob hB.1 hM _ h) X hB1 (by decide) q3684 kc_X5 (by decide) (by rw [hB.1.1]) rfl hl.1 (Nat.le_of_ble_eq_true rfl) dX5_takesCommand_10 (Nat.le_refl 0) (Nat.le_refl 0) (by decide) (by decide)) hB (fun r19 M20 H locs hz h hB => ?_)
    have h := h hz
    obtain ⟨hz, h⟩ := h
    obtain ⟨hL, I, hB, hM⟩ := hB
    exact z_zret X hB hz ⟨_, rfl, hz, (by rw [hM]; exact h), rfl, rfl⟩ (Nat.le_refl 0) (Nat.le_refl 0) dX5_takesCommand_13
theorem pk_X5_takesCommand : z_PV RX5 yX5_takesCommand cX5_takesCommand 1 (some .boolean) 0 := ⟨q3678, qs85, q131, q3679, by decide +kernel⟩
theorem met_X5_takesCommand {l : Launch} {G : z_E} {T : z_T} {I : z_I} {Q : z_Q} {o : Nat} {b : Nat → Nat} {M : z_M} (hL : z_lie T Q o b) (hM : z_of I o b = M) (Qk : Int32 → z_M → Prop) (h : wp_X5_takesCommand M Qk) : z_GM l G yX5_takesCommand (ws_ yX5_takesCommand cX5_takesCommand 1 (some .boolean)) 12 204 0 0 [.ref o] z_P1c T I Q (z_mz Qk T Q o b) z_no := by
  refine z_body (own := RX5) (nm := "takesCommand") (by decide +kernel) rfl rfl (Nat.le_of_ble_eq_true rfl) (fun p e R s m below meth c A ls X hB hl => ?_)
  exact ww_X5_takesCommand_0 X ⟨hL, I, hB, hM⟩ hl h
/-! X5_takesText -/
theorem ww_X5_takesText_54 {Qk : Int32 → z_M → Prop} (X : z_XM l G A p R s m args meth c cX5_takesText 1 "takesText" (some .boolean) 13 224) {M : z_M} {s0 : Int32} {H : Heap} {locs : List Loc} {ls : Array Slot} (hB : z_MB G z_P1c A s.heap T I0 Q o b M H locs) (hl : lv_has ls 1 []) (h : wb_X5_takesText_54 Qk M s0) : W p l e R s m args below meth c H locs 0 0 (z_MQ below G z_P1c A T I0 Q (z_mz Qk T Q o b) z_no args s 0 0) (F0 m 54 ls [.int s0]) := by
  obtain ⟨hx, hb, -⟩ := id X
  unfold wb_X5_takesText_54 at h
  obtain ⟨hz, h⟩ := h
  obtain ⟨hL, I, hB, hM⟩ := hB
  exact z_zret X hB hz ⟨_, rfl, hz, (by rw [hM]; exact h), rfl, rfl⟩ (Nat.le_refl 0) (Nat.le_refl 0) dX5_takesText_54
theorem wv_X5_takesText_10 {Qk : Int32 → z_M → Prop} (X : z_XM l G A p R s m args meth c cX5_takesText 1 "takesText" (some .boolean) 13 224) : ∀ (n : Nat) {M : z_M} {H : Heap} {locs : List Loc} {ls : Array Slot}, z_MB G z_P1c A s.heap T I0 Q o b M H locs → lv_has ls 1 [(0, .ref o)] → wl_X5_takesText_10 Qk n M → W p l e R s m args below meth c H locs 0 0 (z_MQ below G z_P1c A T I0 Q (z_mz Qk T Q o b) z_no args s 0 0) (F0 m 10 ls []) := by
  intro n
  induction n with
  | zero =>
    intro M H locs ls hB hl h
    exact h.elim
  | succ n ih =>
    intro M H locs ls hB hl h
    obtain ⟨hx, hb, -⟩ := id X
    unfold wl_X5_takesText_10 at h
    refine lv_aload_n hx hb dX5_takesText_10 rfl (lv_at hl 0 rfl) ?_
    refine z_mcallz (fun _ h => h) (fun I1 hB1 hM => z_runV (rest := []) [] pk_X5_takesCommand (met_X5_takesCommand hB.1 hM _ h) X hB1 (by decide) q3676 kc_X5 (by decide) (by rw [hB.1.1]) rfl hl.1 (Nat.le_of_ble_eq_true rfl) dX5_takesText_11 (Nat.le_refl 0) (Nat.le_refl 0) (by decide) (by decide)) hB (fun r3 M4 H locs hz h hB => ?_)
    have h := h hz
    refine lv_if_ne (tgt := 19) hx hb dX5_takesText_14 (by decide) (fun c5 => ?_) (fun c5 => ?_)
    · have h := h.1 c5
      refine lv_aload_n hx hb dX5_takesText_19 rfl (lv_at hl 0 rfl) ?_
      refine lv_dup hx hb dX5_takesText_20 rfl ?_
      refine z_mgets (j := 53) X hB q3263 rfl (Nat.le_of_ble_eq_true rfl) rfl rfl dX5_takesText_21 ?_
      refine lv_iconst (v := 1) hx hb dX5_takesText_24 (by decide) ?_
      refine lv_iadd hx hb dX5_takesText_25 ?_
      obtain ⟨M6, eM6⟩ : ∃ z, z = z_us M4 53 ((M4 53 0) + 1) := ⟨_, rfl⟩
      have h := h M6 eM6
      refine z_mputs (j := 53) (ty := .int) X hB q3263 rfl (Nat.le_of_ble_eq_true rfl) rfl rfl rfl rfl (Or.inl rfl) rfl dX5_takesText_26 (fun H locs hB => ?_)
      rw [← eM6] at hB
      refine lv_aload_n hx hb dX5_takesText_29 rfl (lv_at hl 0 rfl) ?_
      refine lv_bipush (v := 59) hx hb dX5_takesText_30 (by decide) ?_
      refine z_mcallz (fun _ h => h) (fun I1 hB1 hM => z_runV (rest := []) [.int 59] pk_X5_skips (met_X5_skips hB.1 hM 59 _ h) X hB1 (by decide) q3680 kc_X5 (by decide) (by rw [hB.1.1]) rfl hl.1 (Nat.le_of_ble_eq_true rfl) dX5_takesText_32 (Nat.le_refl 0) (Nat.le_refl 0) (by decide) (by decide)) hB (fun r7 M8 H locs hz h hB => ?_)
      have h := h hz
      refine lv_if_ne (tgt := 10) hx hb dX5_takesText_35 (by decide) (fun c9 => ?_) (fun c9 => ?_)
      · have h := h.1 c9
        exact ih hB (lv_sub hl [0] rfl) h
      · have h := h.2 c9
        refine lv_aload_n hx hb dX5_takesText_38 rfl (lv_at hl 0 rfl) ?_
        refine z_mgets (j := 52) X hB q3262 rfl (Nat.le_of_ble_eq_true rfl) rfl rfl dX5_takesText_39 ?_
        refine lv_aload_n hx hb dX5_takesText_42 rfl (lv_at hl 0 rfl) ?_
        refine z_mgets (j := 51) X hB q3261 rfl (Nat.le_of_ble_eq_true rfl) rfl rfl dX5_takesText_43 ?_
        refine lv_icmp_ne (tgt := 53) hx hb dX5_takesText_46 (by decide) (fun c10 => ?_) (fun c10 => ?_)
        · have h := h.1 c10
          refine lv_iconst (v := 0) hx hb dX5_takesText_53 (by decide) ?_
          exact ww_X5_takesText_54 X  hB (lv_sub hl [] rfl) h
        · have h := h.2 c10
          refine lv_iconst (v := 1) hx hb dX5_takesText_49 (by decide) ?_
          refine lv_goto (tgt := 54) hx hb dX5_takesText_50 (by decide) ?_
          exact ww_X5_takesText_54 X  hB (lv_sub hl [] rfl) h
    · have h := h.2 c5
      refine lv_iconst (v := 0) hx hb dX5_takesText_17 (by decide) ?_
      obtain ⟨hL, I, hB, hM⟩ := hB
      exact z_zret X hB (Or.inl rfl) ⟨_, rfl, (Or.inl rfl), (by rw [hM]; exact h), rfl, rfl⟩ (Nat.le_refl 0) (Nat.le_refl 0) dX5_takesText_18
theorem ww_X5_takesText_0 {Qk : Int32 → z_M → Prop} (X : z_XM l G A p R s m args meth c cX5_takesText 1 "takesText" (some .boolean) 13 224) {M : z_M} {H : Heap} {locs : List Loc} {ls : Array Slot} (hB : z_MB G z_P1c A s.heap T I0 Q o b M H locs) (hl : lv_has ls 1 [(0, .ref o)]) (h : wb_X5_takesText_0 Qk M) : W p l e R s m args below meth c H locs 0 0 (z_MQ below G z_P1c A T I0 Q (z_mz Qk T Q o b) z_no args s 0 0) (F0 m 0 ls []) := by
  obtain ⟨hx, hb, -⟩ := id X
  unfold wb_X5_takesText_0 at h
  refine lv_aload_n hx hb dX5_takesText_0 rfl (lv_at hl 0 rfl) ?_
  refine lv_iconst (v := 0) hx hb dX5_takesText_1 (by decide) ?_
  obtain ⟨M1, eM1⟩ : ∃ z, z = z_us M 52 0 := ⟨_, rfl⟩
  have h := h M1 eM1
  refine z_mputs (j := 52) (ty := .int) X hB q3262 rfl (Nat.le_of_ble_eq_true rfl) rfl rfl rfl rfl (Or.inl rfl) rfl dX5_takesText_2 (fun H locs hB => ?_)
  rw [← eM1] at hB
  refine lv_aload_n hx hb dX5_takesText_5 rfl (lv_at hl 0 rfl) ?_
  refine lv_iconst (v := 0) hx hb dX5_takesText_6 (by decide) ?_
  obtain ⟨M2, eM2⟩ : ∃ z, z = z_us M1 53 0 := ⟨_, rfl⟩
  have h := h M2 eM2
  refine z_mputs (j := 53) (ty := .int) X hB q3263 rfl (Nat.le_of_ble_eq_true rfl) rfl rfl rfl rfl (Or.inl rfl) rfl dX5_takesText_7 (fun H locs hB => ?_)
  rw [← eM2] at hB
  obtain ⟨w, h⟩ := h
  exact wv_X5_takesText_10 X  w hB (lv_sub hl [0] rfl) h
theorem pk_X5_takesText : z_PV RX5 yX5_takesText cX5_takesText 1 (some .boolean) 0 := ⟨q3674, qs84, q131, q3675, by decide +kernel⟩
theorem met_X5_takesText {l : Launch} {G : z_E} {T : z_T} {I : z_I} {Q : z_Q} {o : Nat} {b : Nat → Nat} {M : z_M} (hL : z_lie T Q o b) (hM : z_of I o b = M) (Qk : Int32 → z_M → Prop) (h : wp_X5_takesText M Qk) : z_GM l G yX5_takesText (ws_ yX5_takesText cX5_takesText 1 (some .boolean)) 13 224 0 0 [.ref o] z_P1c T I Q (z_mz Qk T Q o b) z_no := by
  refine z_body (own := RX5) (nm := "takesText") (by decide +kernel) rfl rfl (Nat.le_of_ble_eq_true rfl) (fun p e R s m below meth c A ls X hB hl => ?_)
  exact ww_X5_takesText_0 X ⟨hL, I, hB, hM⟩ hl h
/-! X5_perform -/
theorem wv_X5_perform_39 {Qk : Int32 → z_M → Prop} (X : z_XM l G A p R s m args meth c cX5_perform 3 "perform" (some .int) 18 349) : ∀ (n : Nat) {M : z_M} {x2 : Int32} {H : Heap} {locs : List Loc} {ls : Array Slot}, z_MB G z_P1c A s.heap T I0 Q o b M H locs → lv_has ls 3 [(0, .ref o), (2, .int x2)] → wl_X5_perform_39 Qk n M x2 → W p l e R s m args below meth c H locs 0 0 (z_MQ below G z_P1c A T I0 Q (z_mi Qk T Q o b) z_no args s 0 0) (F0 m 39 ls []) := by
  intro n
  induction n with
  | zero =>
    intro M x2 H locs ls hB hl h
    exact h.elim
  | succ n ih =>
    intro M x2 H locs ls hB hl h
    obtain ⟨hx, hb, -⟩ := id X
    unfold wl_X5_perform_39 at h
    refine lv_iload_n hx hb dX5_perform_39 rfl (lv_at hl 1 rfl) ?_
    refine lv_aload_n hx hb dX5_perform_40 rfl (lv_at hl 0 rfl) ?_
    refine z_mgets (j := 53) X hB q3263 rfl (Nat.le_of_ble_eq_true rfl) rfl rfl dX5_perform_41 ?_
    refine lv_icmp_ge (tgt := 80) hx hb dX5_perform_44 (by decide) (fun c8 => ?_) (fun c8 => ?_)
    · have h := h.1 c8
      refine lv_aload_n hx hb dX5_perform_80 rfl (lv_at hl 0 rfl) ?_
      refine lv_aload_n hx hb dX5_perform_81 rfl (lv_at hl 0 rfl) ?_
      refine z_mgeta (j := 57) X hB q3267 rfl (Nat.le_of_ble_eq_true rfl) rfl (by decide) dX5_perform_82 ?_
      refine lv_iconst (v := 0) hx hb dX5_perform_85 (by decide) ?_
      refine lv_iconst (v := 1) hx hb dX5_perform_86 (by decide) ?_
      refine z_mcallv (fun _ h => h) (fun I1 hB1 hM => z_runV (rest := []) [.ref (b 57), .int 0, .int 1] pk_X5_passAll (met_X5_passAll hB.1 hM (by decide) 0 1 _ h) X hB1 (by decide) q3441 kc_X5 (by decide) (by rw [hB.1.1]) rfl hl.1 (Nat.le_of_ble_eq_true rfl) dX5_perform_87 (Nat.le_refl 0) (Nat.le_refl 0) (by decide) (by decide)) hB (fun M10 H locs h hB => ?_)
      refine lv_aload_n hx hb dX5_perform_90 rfl (lv_at hl 0 rfl) ?_
      refine lv_aload_n hx hb dX5_perform_91 rfl (lv_at hl 0 rfl) ?_
      refine z_mgeta (j := 58) X hB q3268 rfl (Nat.le_of_ble_eq_true rfl) rfl (by decide) dX5_perform_92 ?_
      refine lv_iconst (v := 0) hx hb dX5_perform_95 (by decide) ?_
      refine lv_iconst (v := 0) hx hb dX5_perform_96 (by decide) ?_
      refine z_mcallv (fun _ h => h) (fun I1 hB1 hM => z_runV (rest := []) [.ref (b 58), .int 0, .int 0] pk_X5_passAll (met_X5_passAll hB.1 hM (by decide) 0 0 _ h) X hB1 (by decide) q3441 kc_X5 (by decide) (by rw [hB.1.1]) rfl hl.1 (Nat.le_of_ble_eq_true rfl) dX5_perform_97 (Nat.le_refl 0) (Nat.le_refl 0) (by decide) (by decide)) hB (fun M12 H locs h hB => ?_)
      refine lv_aload_n hx hb dX5_perform_100 rfl (lv_at hl 0 rfl) ?_
      refine z_mcallv (fun _ h => h) (fun I1 hB1 hM => z_runV (rest := []) [] pk_X5_remembers (met_X5_remembers hB.1 hM _ h) X hB1 (by decide) q3437 kc_X5 (by decide) (by rw [hB.1.1]) rfl hl.1 (Nat.le_of_ble_eq_true rfl) dX5_perform_101 (Nat.le_refl 0) (Nat.le_refl 0) (by decide) (by decide)) hB (fun M14 H locs h hB => ?_)
      refine lv_aload_n hx hb dX5_perform_104 rfl (lv_at hl 0 rfl) ?_
      refine lv_aload_n hx hb dX5_perform_105 rfl (lv_at hl 0 rfl) ?_
      refine z_mgeta (j := 57) X hB q3267 rfl (Nat.le_of_ble_eq_true rfl) rfl (by decide) dX5_perform_106 ?_
      refine lv_iconst (v := 0) hx hb dX5_perform_109 (by decide) ?_
      refine lv_iconst (v := 0) hx hb dX5_perform_110 (by decide) ?_
      refine z_mcallv (fun _ h => h) (fun I1 hB1 hM => z_runV (rest := []) [.ref (b 57), .int 0, .int 0] pk_X5_passAll (met_X5_passAll hB.1 hM (by decide) 0 0 _ h) X hB1 (by decide) q3441 kc_X5 (by decide) (by rw [hB.1.1]) rfl hl.1 (Nat.le_of_ble_eq_true rfl) dX5_perform_111 (Nat.le_refl 0) (Nat.le_refl 0) (by decide) (by decide)) hB (fun M16 H locs h hB => ?_)
      refine lv_aload_n hx hb dX5_perform_114 rfl (lv_at hl 0 rfl) ?_
      refine z_mgets (j := 53) X hB q3263 rfl (Nat.le_of_ble_eq_true rfl) rfl rfl dX5_perform_115 ?_
      obtain ⟨hL, I, hB, hM⟩ := hB
      exact z_iret X hB ⟨_, rfl, (by rw [hM]; exact h), rfl, rfl⟩ (Nat.le_refl 0) (Nat.le_refl 0) dX5_perform_118
    · have h := h.2 c8
      refine lv_aload_n hx hb dX5_perform_47 rfl (lv_at hl 0 rfl) ?_
      refine lv_iload_n hx hb dX5_perform_48 rfl (lv_at hl 1 rfl) ?_
      refine z_mcallz (fun _ h => h) (fun I1 hB1 hM => z_runV (rest := []) [.int x2] pk_X5_does (met_X5_does hB.1 hM x2 _ h) X hB1 (by decide) q3704 kc_X5 (by decide) (by rw [hB.1.1]) rfl hl.1 (Nat.le_of_ble_eq_true rfl) dX5_perform_49 (Nat.le_refl 0) (Nat.le_refl 0) (by decide) (by decide)) hB (fun r17 M18 H locs hz h hB => ?_)
      have h := h hz
      refine lv_if_eq (tgt := 58) hx hb dX5_perform_52 (by decide) (fun c19 => ?_) (fun c19 => ?_)
      · have h := h.1 c19
        refine lv_aload_n hx hb dX5_perform_58 rfl (lv_at hl 0 rfl) ?_
        refine lv_aload_n hx hb dX5_perform_59 rfl (lv_at hl 0 rfl) ?_
        refine z_mgeta (j := 58) X hB q3268 rfl (Nat.le_of_ble_eq_true rfl) rfl (by decide) dX5_perform_60 ?_
        refine lv_iconst (v := 0) hx hb dX5_perform_63 (by decide) ?_
        refine lv_iconst (v := 0) hx hb dX5_perform_64 (by decide) ?_
        refine z_mcallv (fun _ h => h) (fun I1 hB1 hM => z_runV (rest := []) [.ref (b 58), .int 0, .int 0] pk_X5_passAll (met_X5_passAll hB.1 hM (by decide) 0 0 _ h) X hB1 (by decide) q3441 kc_X5 (by decide) (by rw [hB.1.1]) rfl hl.1 (Nat.le_of_ble_eq_true rfl) dX5_perform_65 (Nat.le_refl 0) (Nat.le_refl 0) (by decide) (by decide)) hB (fun M21 H locs h hB => ?_)
        refine lv_aload_n hx hb dX5_perform_68 rfl (lv_at hl 0 rfl) ?_
        refine lv_iconst (v := 1) hx hb dX5_perform_69 (by decide) ?_
        refine z_mcalli (fun _ h => h) (fun I1 hB1 hM => z_runV (rest := []) [.int 1] pk_X5_fails (met_X5_fails hB.1 hM 1 _ h) X hB1 (by decide) q3472 kc_X5 (by decide) (by rw [hB.1.1]) rfl hl.1 (Nat.le_of_ble_eq_true rfl) dX5_perform_70 (Nat.le_refl 0) (Nat.le_refl 0) (by decide) (by decide)) hB (fun r22 M23 H locs h hB => ?_)
        obtain ⟨hL, I, hB, hM⟩ := hB
        exact z_iret X hB ⟨_, rfl, (by rw [hM]; exact h), rfl, rfl⟩ (Nat.le_refl 0) (Nat.le_refl 0) dX5_perform_73
      · have h := h.2 c19
        refine lv_goto (tgt := 74) hx hb dX5_perform_55 (by decide) ?_
        obtain ⟨y24, ey24⟩ : ∃ z : Int32, z = x2 + 1 := ⟨_, rfl⟩
        have h := h y24 ey24
        refine lv_iinc (v := y24) (lv' := [(2, .int y24), (0, .ref o)]) hx hb dX5_perform_74 hl (k := 1) rfl (by rw [ey24]; rfl) (by decide) rfl (fun ls hl => ?_)
        refine lv_goto (tgt := 39) hx hb dX5_perform_77 (by decide) ?_
        exact ih hB (lv_sub hl [1, 0] rfl) h
theorem ww_X5_perform_0 {Qk : Int32 → z_M → Prop} (X : z_XM l G A p R s m args meth c cX5_perform 3 "perform" (some .int) 18 349) {M : z_M} {H : Heap} {locs : List Loc} {ls : Array Slot} (hB : z_MB G z_P1c A s.heap T I0 Q o b M H locs) (hl : lv_has ls 3 [(0, .ref o)]) (h : wb_X5_perform_0 Qk M) : W p l e R s m args below meth c H locs 0 0 (z_MQ below G z_P1c A T I0 Q (z_mi Qk T Q o b) z_no args s 0 0) (F0 m 0 ls []) := by
  obtain ⟨hx, hb, -⟩ := id X
  unfold wb_X5_perform_0 at h
  refine lv_aload_n hx hb dX5_perform_0 rfl (lv_at hl 0 rfl) ?_
  refine z_mcallz (fun _ h => h) (fun I1 hB1 hM => z_runV (rest := []) [] pk_X5_takesText (met_X5_takesText hB.1 hM _ h) X hB1 (by decide) q3672 kc_X5 (by decide) (by rw [hB.1.1]) rfl hl.1 (Nat.le_of_ble_eq_true rfl) dX5_perform_1 (Nat.le_refl 0) (Nat.le_refl 0) (by decide) (by decide)) hB (fun r1 M2 H locs hz h hB => ?_)
  have h := h hz
  refine lv_istore_n (lv' := [(1, .int r1), (0, .ref o)]) hx hb dX5_perform_4 rfl hl (by decide) rfl (fun ls hl => ?_)
  refine lv_aload_n hx hb dX5_perform_5 rfl (lv_at hl 1 rfl) ?_
  refine lv_iconst (v := 0) hx hb dX5_perform_6 (by decide) ?_
  obtain ⟨M3, eM3⟩ : ∃ z, z = z_us M2 51 0 := ⟨_, rfl⟩
  have h := h M3 eM3
  refine z_mputs (j := 51) (ty := .int) X hB q3261 rfl (Nat.le_of_ble_eq_true rfl) rfl rfl rfl rfl (Or.inl rfl) rfl dX5_perform_7 (fun H locs hB => ?_)
  rw [← eM3] at hB
  refine lv_aload_n hx hb dX5_perform_10 rfl (lv_at hl 1 rfl) ?_
  refine lv_iconst (v := 0) hx hb dX5_perform_11 (by decide) ?_
  obtain ⟨M4, eM4⟩ : ∃ z, z = z_us M3 0 0 := ⟨_, rfl⟩
  have h := h M4 eM4
  refine z_mputs (j := 0) (ty := .int) X hB q3210 rfl (Nat.le_of_ble_eq_true rfl) rfl rfl rfl rfl (Or.inl rfl) rfl dX5_perform_12 (fun H locs hB => ?_)
  rw [← eM4] at hB
  refine lv_iload_n hx hb dX5_perform_15 rfl (lv_at hl 0 rfl) ?_
  refine lv_if_ne (tgt := 27) hx hb dX5_perform_16 (by decide) (fun c5 => ?_) (fun c5 => ?_)
  · have h := h.1 c5
    refine lv_aload_n hx hb dX5_perform_27 rfl (lv_at hl 1 rfl) ?_
    refine lv_aload_n hx hb dX5_perform_28 rfl (lv_at hl 1 rfl) ?_
    refine z_mgeta (j := 58) X hB q3268 rfl (Nat.le_of_ble_eq_true rfl) rfl (by decide) dX5_perform_29 ?_
    refine lv_iconst (v := 0) hx hb dX5_perform_32 (by decide) ?_
    refine lv_iconst (v := 1) hx hb dX5_perform_33 (by decide) ?_
    refine z_mcallv (fun _ h => h) (fun I1 hB1 hM => z_runV (rest := []) [.ref (b 58), .int 0, .int 1] pk_X5_passAll (met_X5_passAll hB.1 hM (by decide) 0 1 _ h) X hB1 (by decide) q3441 kc_X5 (by decide) (by rw [hB.1.1]) rfl hl.1 (Nat.le_of_ble_eq_true rfl) dX5_perform_34 (Nat.le_refl 0) (Nat.le_refl 0) (by decide) (by decide)) hB (fun M7 H locs h hB => ?_)
    refine lv_iconst (v := 0) hx hb dX5_perform_37 (by decide) ?_
    refine lv_istore_n (lv' := [(2, .int 0), (1, .int r1), (0, .ref o)]) hx hb dX5_perform_38 rfl hl (by decide) rfl (fun ls hl => ?_)
    obtain ⟨w, h⟩ := h
    exact wv_X5_perform_39 X  w hB (lv_sub hl [2, 0] rfl) h
  · have h := h.2 c5
    refine lv_bipush (v := (-100)) hx hb dX5_perform_19 (by decide) ?_
    refine lv_aload_n hx hb dX5_perform_21 rfl (lv_at hl 1 rfl) ?_
    refine z_mgets (j := 52) X hB q3262 rfl (Nat.le_of_ble_eq_true rfl) rfl rfl dX5_perform_22 ?_
    refine lv_isub hx hb dX5_perform_25 ?_
    obtain ⟨hL, I, hB, hM⟩ := hB
    exact z_iret X hB ⟨_, rfl, (by rw [hM]; exact h), rfl, rfl⟩ (Nat.le_refl 0) (Nat.le_refl 0) dX5_perform_26
theorem pk_X5_perform : z_PV RX5 yX5_perform cX5_perform 3 (some .int) 0 := ⟨q3669, q3670, q131, q3671, by decide +kernel⟩
theorem met_X5_perform {l : Launch} {G : z_E} {T : z_T} {I : z_I} {Q : z_Q} {o : Nat} {b : Nat → Nat} {M : z_M} (hL : z_lie T Q o b) (hM : z_of I o b = M) (Qk : Int32 → z_M → Prop) (h : wp_X5_perform M Qk) : z_GM l G yX5_perform (ws_ yX5_perform cX5_perform 3 (some .int)) 18 349 0 0 [.ref o] z_P1c T I Q (z_mi Qk T Q o b) z_no := by
  refine z_body (own := RX5) (nm := "perform") (by decide +kernel) rfl rfl (Nat.le_of_ble_eq_true rfl) (fun p e R s m below meth c A ls X hB hl => ?_)
  exact ww_X5_perform_0 X ⟨hL, I, hB, hM⟩ hl h
/-! X5_undo -/
theorem ww_X5_undo_0 {Qk : Int32 → z_M → Prop} (X : z_XM l G A p R s m args meth c cX5_undo 1 "undo" (some .int) 11 187) {M : z_M} {H : Heap} {locs : List Loc} {ls : Array Slot} (hB : z_MB G z_P1c A s.heap T I0 Q o b M H locs) (hl : lv_has ls 1 [(0, .ref o)]) (h : wb_X5_undo_0 Qk M) : W p l e R s m args below meth c H locs 0 0 (z_MQ below G z_P1c A T I0 Q (z_mi Qk T Q o b) z_no args s 0 0) (F0 m 0 ls []) := by
  obtain ⟨hx, hb, -⟩ := id X
  unfold wb_X5_undo_0 at h
  refine lv_aload_n hx hb dX5_undo_0 rfl (lv_at hl 0 rfl) ?_
  refine z_mgets (j := 59) X hB q3269 rfl (Nat.le_of_ble_eq_true rfl) rfl rfl dX5_undo_1 ?_
  refine lv_if_ne (tgt := 13) hx hb dX5_undo_4 (by decide) (fun c1 => ?_) (fun c1 => ?_)
  · have h := h.1 c1
    refine lv_aload_n hx hb dX5_undo_13 rfl (lv_at hl 0 rfl) ?_
    refine lv_iconst (v := 0) hx hb dX5_undo_14 (by decide) ?_
    obtain ⟨M2, eM2⟩ : ∃ z, z = z_us M 0 0 := ⟨_, rfl⟩
    have h := h M2 eM2
    refine z_mputs (j := 0) (ty := .int) X hB q3210 rfl (Nat.le_of_ble_eq_true rfl) rfl rfl rfl rfl (Or.inl rfl) rfl dX5_undo_15 (fun H locs hB => ?_)
    rw [← eM2] at hB
    refine lv_aload_n hx hb dX5_undo_18 rfl (lv_at hl 0 rfl) ?_
    refine lv_dup hx hb dX5_undo_19 rfl ?_
    refine z_mgets (j := 59) X hB q3269 rfl (Nat.le_of_ble_eq_true rfl) rfl rfl dX5_undo_20 ?_
    refine lv_iconst (v := 1) hx hb dX5_undo_23 (by decide) ?_
    refine lv_isub hx hb dX5_undo_24 ?_
    obtain ⟨M3, eM3⟩ : ∃ z, z = z_us M2 59 ((M2 59 0) - 1) := ⟨_, rfl⟩
    have h := h M3 eM3
    refine z_mputs (j := 59) (ty := .int) X hB q3269 rfl (Nat.le_of_ble_eq_true rfl) rfl rfl rfl rfl (Or.inl rfl) rfl dX5_undo_25 (fun H locs hB => ?_)
    rw [← eM3] at hB
    refine lv_aload_n hx hb dX5_undo_28 rfl (lv_at hl 0 rfl) ?_
    refine lv_aload_n hx hb dX5_undo_29 rfl (lv_at hl 0 rfl) ?_
    refine z_mgeta (j := 55) X hB q3265 rfl (Nat.le_of_ble_eq_true rfl) rfl (by decide) dX5_undo_30 ?_
    refine lv_sipush (v := 573) hx hb dX5_undo_33 (by decide) ?_
    refine lv_aload_n hx hb dX5_undo_36 rfl (lv_at hl 0 rfl) ?_
    refine z_mgets (j := 59) X hB q3269 rfl (Nat.le_of_ble_eq_true rfl) rfl rfl dX5_undo_37 ?_
    refine lv_imul hx hb dX5_undo_40 ?_
    refine lv_iconst (v := 0) hx hb dX5_undo_41 (by decide) ?_
    refine z_mcallv (fun _ h => h) (fun I1 hB1 hM => z_runV (rest := []) [.ref (b 55), .int (573 * (M3 59 0)), .int 0] pk_X5_passAll (met_X5_passAll hB.1 hM (by decide) (573 * (M3 59 0)) 0 _ h) X hB1 (by decide) q3441 kc_X5 (by decide) (by rw [hB.1.1]) rfl hl.1 (Nat.le_of_ble_eq_true rfl) dX5_undo_42 (Nat.le_refl 0) (Nat.le_refl 0) (by decide) (by decide)) hB (fun M5 H locs h hB => ?_)
    refine lv_aload_n hx hb dX5_undo_45 rfl (lv_at hl 0 rfl) ?_
    refine z_mgets (j := 59) X hB q3269 rfl (Nat.le_of_ble_eq_true rfl) rfl rfl dX5_undo_46 ?_
    obtain ⟨hL, I, hB, hM⟩ := hB
    exact z_iret X hB ⟨_, rfl, (by rw [hM]; exact h), rfl, rfl⟩ (Nat.le_refl 0) (Nat.le_refl 0) dX5_undo_49
  · have h := h.2 c1
    refine lv_aload_n hx hb dX5_undo_7 rfl (lv_at hl 0 rfl) ?_
    refine lv_iconst (v := 1) hx hb dX5_undo_8 (by decide) ?_
    refine z_mcalli (fun _ h => h) (fun I1 hB1 hM => z_runV (rest := []) [.int 1] pk_X5_fails (met_X5_fails hB.1 hM 1 _ h) X hB1 (by decide) q3472 kc_X5 (by decide) (by rw [hB.1.1]) rfl hl.1 (Nat.le_of_ble_eq_true rfl) dX5_undo_9 (Nat.le_refl 0) (Nat.le_refl 0) (by decide) (by decide)) hB (fun r6 M7 H locs h hB => ?_)
    obtain ⟨hL, I, hB, hM⟩ := hB
    exact z_iret X hB ⟨_, rfl, (by rw [hM]; exact h), rfl, rfl⟩ (Nat.le_refl 0) (Nat.le_refl 0) dX5_undo_12
theorem pk_X5_undo : z_PV RX5 yX5_undo cX5_undo 1 (some .int) 0 := ⟨q3709, q3710, q131, q3711, by decide +kernel⟩
theorem met_X5_undo {l : Launch} {G : z_E} {T : z_T} {I : z_I} {Q : z_Q} {o : Nat} {b : Nat → Nat} {M : z_M} (hL : z_lie T Q o b) (hM : z_of I o b = M) (Qk : Int32 → z_M → Prop) (h : wp_X5_undo M Qk) : z_GM l G yX5_undo (ws_ yX5_undo cX5_undo 1 (some .int)) 11 187 0 0 [.ref o] z_P1c T I Q (z_mi Qk T Q o b) z_no := by
  refine z_body (own := RX5) (nm := "undo") (by decide +kernel) rfl rfl (Nat.le_of_ble_eq_true rfl) (fun p e R s m below meth c A ls X hB hl => ?_)
  exact ww_X5_undo_0 X ⟨hL, I, hB, hM⟩ hl h
/-! X5_save -/
theorem ww_X5_save_0 {Qk : Int32 → z_M → Prop} (X : z_XM l G A p R s m args meth c cX5_save 1 "save" (some .int) 11 187) {M : z_M} {H : Heap} {locs : List Loc} {ls : Array Slot} (hB : z_MB G z_P1c A s.heap T I0 Q o b M H locs) (hl : lv_has ls 1 [(0, .ref o)]) (h : wb_X5_save_0 Qk M) : W p l e R s m args below meth c H locs 0 0 (z_MQ below G z_P1c A T I0 Q (z_mi Qk T Q o b) z_no args s 0 0) (F0 m 0 ls []) := by
  obtain ⟨hx, hb, -⟩ := id X
  unfold wb_X5_save_0 at h
  refine lv_aload_n hx hb dX5_save_0 rfl (lv_at hl 0 rfl) ?_
  refine lv_iconst (v := 0) hx hb dX5_save_1 (by decide) ?_
  obtain ⟨M1, eM1⟩ : ∃ z, z = z_us M 0 0 := ⟨_, rfl⟩
  have h := h M1 eM1
  refine z_mputs (j := 0) (ty := .int) X hB q3210 rfl (Nat.le_of_ble_eq_true rfl) rfl rfl rfl rfl (Or.inl rfl) rfl dX5_save_2 (fun H locs hB => ?_)
  rw [← eM1] at hB
  refine lv_aload_n hx hb dX5_save_5 rfl (lv_at hl 0 rfl) ?_
  refine lv_iconst (v := 1) hx hb dX5_save_6 (by decide) ?_
  obtain ⟨M2, eM2⟩ : ∃ z, z = z_us M1 61 1 := ⟨_, rfl⟩
  have h := h M2 eM2
  refine z_mputs (j := 61) (ty := .boolean) X hB q3271 rfl (Nat.le_of_ble_eq_true rfl) rfl rfl rfl rfl (Or.inr ⟨rfl, Or.inr rfl⟩) rfl dX5_save_7 (fun H locs hB => ?_)
  rw [← eM2] at hB
  refine lv_aload_n hx hb dX5_save_10 rfl (lv_at hl 0 rfl) ?_
  refine lv_aload_n hx hb dX5_save_11 rfl (lv_at hl 0 rfl) ?_
  refine z_mgeta (j := 56) X hB q3266 rfl (Nat.le_of_ble_eq_true rfl) rfl (by decide) dX5_save_12 ?_
  refine lv_iconst (v := 0) hx hb dX5_save_15 (by decide) ?_
  refine lv_iconst (v := 1) hx hb dX5_save_16 (by decide) ?_
  refine z_mcallv (fun _ h => h) (fun I1 hB1 hM => z_runV (rest := []) [.ref (b 56), .int 0, .int 1] pk_X5_passAll (met_X5_passAll hB.1 hM (by decide) 0 1 _ h) X hB1 (by decide) q3441 kc_X5 (by decide) (by rw [hB.1.1]) rfl hl.1 (Nat.le_of_ble_eq_true rfl) dX5_save_17 (Nat.le_refl 0) (Nat.le_refl 0) (by decide) (by decide)) hB (fun M4 H locs h hB => ?_)
  refine lv_aload_n hx hb dX5_save_20 rfl (lv_at hl 0 rfl) ?_
  refine z_mgets (j := 33) X hB q3243 rfl (Nat.le_of_ble_eq_true rfl) rfl rfl dX5_save_21 ?_
  obtain ⟨hL, I, hB, hM⟩ := hB
  exact z_iret X hB ⟨_, rfl, (by rw [hM]; exact h), rfl, rfl⟩ (Nat.le_refl 0) (Nat.le_refl 0) dX5_save_24
theorem pk_X5_save : z_PV RX5 yX5_save cX5_save 1 (some .int) 0 := ⟨q3713, q3714, q131, q3715, by decide +kernel⟩
theorem met_X5_save {l : Launch} {G : z_E} {T : z_T} {I : z_I} {Q : z_Q} {o : Nat} {b : Nat → Nat} {M : z_M} (hL : z_lie T Q o b) (hM : z_of I o b = M) (Qk : Int32 → z_M → Prop) (h : wp_X5_save M Qk) : z_GM l G yX5_save (ws_ yX5_save cX5_save 1 (some .int)) 11 187 0 0 [.ref o] z_P1c T I Q (z_mi Qk T Q o b) z_no := by
  refine z_body (own := RX5) (nm := "save") (by decide +kernel) rfl rfl (Nat.le_of_ble_eq_true rfl) (fun p e R s m below meth c A ls X hB hl => ?_)
  exact ww_X5_save_0 X ⟨hL, I, hB, hM⟩ hl h
/-! X5_restore -/
theorem ww_X5_restore_0 {Qk : Int32 → z_M → Prop} (X : z_XM l G A p R s m args meth c cX5_restore 1 "restore" (some .int) 11 187) {M : z_M} {H : Heap} {locs : List Loc} {ls : Array Slot} (hB : z_MB G z_P1c A s.heap T I0 Q o b M H locs) (hl : lv_has ls 1 [(0, .ref o)]) (h : wb_X5_restore_0 Qk M) : W p l e R s m args below meth c H locs 0 0 (z_MQ below G z_P1c A T I0 Q (z_mi Qk T Q o b) z_no args s 0 0) (F0 m 0 ls []) := by
  obtain ⟨hx, hb, -⟩ := id X
  unfold wb_X5_restore_0 at h
  refine lv_aload_n hx hb dX5_restore_0 rfl (lv_at hl 0 rfl) ?_
  refine z_mgets (j := 61) X hB q3271 rfl (Nat.le_of_ble_eq_true rfl) rfl rfl dX5_restore_1 ?_
  refine lv_if_ne (tgt := 13) hx hb dX5_restore_4 (by decide) (fun c1 => ?_) (fun c1 => ?_)
  · have h := h.1 c1
    refine lv_aload_n hx hb dX5_restore_13 rfl (lv_at hl 0 rfl) ?_
    refine lv_iconst (v := 0) hx hb dX5_restore_14 (by decide) ?_
    obtain ⟨M2, eM2⟩ : ∃ z, z = z_us M 0 0 := ⟨_, rfl⟩
    have h := h M2 eM2
    refine z_mputs (j := 0) (ty := .int) X hB q3210 rfl (Nat.le_of_ble_eq_true rfl) rfl rfl rfl rfl (Or.inl rfl) rfl dX5_restore_15 (fun H locs hB => ?_)
    rw [← eM2] at hB
    refine lv_aload_n hx hb dX5_restore_18 rfl (lv_at hl 0 rfl) ?_
    refine lv_aload_n hx hb dX5_restore_19 rfl (lv_at hl 0 rfl) ?_
    refine z_mgeta (j := 56) X hB q3266 rfl (Nat.le_of_ble_eq_true rfl) rfl (by decide) dX5_restore_20 ?_
    refine lv_iconst (v := 0) hx hb dX5_restore_23 (by decide) ?_
    refine lv_iconst (v := 0) hx hb dX5_restore_24 (by decide) ?_
    refine z_mcallv (fun _ h => h) (fun I1 hB1 hM => z_runV (rest := []) [.ref (b 56), .int 0, .int 0] pk_X5_passAll (met_X5_passAll hB.1 hM (by decide) 0 0 _ h) X hB1 (by decide) q3441 kc_X5 (by decide) (by rw [hB.1.1]) rfl hl.1 (Nat.le_of_ble_eq_true rfl) dX5_restore_25 (Nat.le_refl 0) (Nat.le_refl 0) (by decide) (by decide)) hB (fun M4 H locs h hB => ?_)
    refine lv_aload_n hx hb dX5_restore_28 rfl (lv_at hl 0 rfl) ?_
    refine lv_iconst (v := 0) hx hb dX5_restore_29 (by decide) ?_
    obtain ⟨M5, eM5⟩ : ∃ z, z = z_us M4 59 0 := ⟨_, rfl⟩
    have h := h M5 eM5
    refine z_mputs (j := 59) (ty := .int) X hB q3269 rfl (Nat.le_of_ble_eq_true rfl) rfl rfl rfl rfl (Or.inl rfl) rfl dX5_restore_30 (fun H locs hB => ?_)
    rw [← eM5] at hB
    refine lv_aload_n hx hb dX5_restore_33 rfl (lv_at hl 0 rfl) ?_
    refine z_mgets (j := 33) X hB q3243 rfl (Nat.le_of_ble_eq_true rfl) rfl rfl dX5_restore_34 ?_
    obtain ⟨hL, I, hB, hM⟩ := hB
    exact z_iret X hB ⟨_, rfl, (by rw [hM]; exact h), rfl, rfl⟩ (Nat.le_refl 0) (Nat.le_refl 0) dX5_restore_37
  · have h := h.2 c1
    refine lv_aload_n hx hb dX5_restore_7 rfl (lv_at hl 0 rfl) ?_
    refine lv_iconst (v := 1) hx hb dX5_restore_8 (by decide) ?_
    refine z_mcalli (fun _ h => h) (fun I1 hB1 hM => z_runV (rest := []) [.int 1] pk_X5_fails (met_X5_fails hB.1 hM 1 _ h) X hB1 (by decide) q3472 kc_X5 (by decide) (by rw [hB.1.1]) rfl hl.1 (Nat.le_of_ble_eq_true rfl) dX5_restore_9 (Nat.le_refl 0) (Nat.le_refl 0) (by decide) (by decide)) hB (fun r6 M7 H locs h hB => ?_)
    obtain ⟨hL, I, hB, hM⟩ := hB
    exact z_iret X hB ⟨_, rfl, (by rw [hM]; exact h), rfl, rfl⟩ (Nat.le_refl 0) (Nat.le_refl 0) dX5_restore_12
theorem pk_X5_restore : z_PV RX5 yX5_restore cX5_restore 1 (some .int) 0 := ⟨q3717, q3718, q131, q3719, by decide +kernel⟩
theorem met_X5_restore {l : Launch} {G : z_E} {T : z_T} {I : z_I} {Q : z_Q} {o : Nat} {b : Nat → Nat} {M : z_M} (hL : z_lie T Q o b) (hM : z_of I o b = M) (Qk : Int32 → z_M → Prop) (h : wp_X5_restore M Qk) : z_GM l G yX5_restore (ws_ yX5_restore cX5_restore 1 (some .int)) 11 187 0 0 [.ref o] z_P1c T I Q (z_mi Qk T Q o b) z_no := by
  refine z_body (own := RX5) (nm := "restore") (by decide +kernel) rfl rfl (Nat.le_of_ble_eq_true rfl) (fun p e R s m below meth c A ls X hB hl => ?_)
  exact ww_X5_restore_0 X ⟨hL, I, hB, hM⟩ hl h
end
