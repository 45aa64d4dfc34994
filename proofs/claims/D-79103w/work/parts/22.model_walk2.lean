/-! THE REFERENCE: walks 2 -/
set_option maxRecDepth 100000
section
variable {p : Program} {l : Launch} {e : Env} {R : Room} {s : State} {m : MethodId} {args : Array Value} {below : List Frame} {meth : Method} {c : Code}
variable {G : z_E} {A : Nat → Prop} {T T0 : z_T} {I I0 : z_I} {Q Q0 : z_Q} {o : Nat} {b : Nat → Nat} {M : z_M}
/-! X5_isBeside -/
theorem ww_X5_isBeside_28 {M : z_M} {k5 : Int32 → Int32 → Int32 → Int32 → Prop} {Qk : Int32 → Prop} (X : z_XM l G A p R s m args meth c cX5_isBeside 5 "isBeside" (some .boolean) 11 187) (hk5 : ∀ {x1 : Int32} {x2 : Int32} {x3 : Int32} {x4 : Int32} {H : Heap} {locs : List Loc} {ls : Array Slot}, z_MB G z_P1c A s.heap T I0 Q o b M H locs → lv_has ls 5 [(0, .ref o), (1, .int x1), (2, .int x2), (3, .int x3), (4, .int x4)] → k5 x1 x2 x3 x4 → W p l e R s m args below meth c H locs 0 0 (z_MQ below G z_P1c A T I0 Q (z_mz (fun r M1 => Qk r ∧ M1 = M) T Q o b) z_no args s 0 0) (F0 m 5 ls [])) {x1 : Int32} {x2 : Int32} {x4 : Int32} {s0 : Int32} {s1 : Int32} {H : Heap} {locs : List Loc} {ls : Array Slot} (hB : z_MB G z_P1c A s.heap T I0 Q o b M H locs) (hl : lv_has ls 5 [(0, .ref o), (1, .int x1), (2, .int x2), (4, .int x4)]) (h : wb_X5_isBeside_28 M k5 Qk x1 x2 x4 s0 s1) : W p l e R s m args below meth c H locs 0 0 (z_MQ below G z_P1c A T I0 Q (z_mz (fun r M1 => Qk r ∧ M1 = M) T Q o b) z_no args s 0 0) (F0 m 28 ls [.int s1, .int s0]) := by
  obtain ⟨hx, hb, -⟩ := id X
  unfold wb_X5_isBeside_28 at h
  refine lv_ior hx hb dX5_isBeside_28 ?_
  refine lv_topi (fun y6 ey6 => ?_)
  have h := h y6 ey6
  refine lv_istore_n (lv' := [(3, .int y6), (0, .ref o), (1, .int x1), (2, .int x2), (4, .int x4)]) hx hb dX5_isBeside_29 rfl hl (by decide) rfl (fun ls hl => ?_)
  obtain ⟨y7, ey7⟩ : ∃ z : Int32, z = x4 + 1 := ⟨_, rfl⟩
  have h := h y7 ey7
  refine lv_iinc (v := y7) (lv' := [(4, .int y7), (3, .int y6), (0, .ref o), (1, .int x1), (2, .int x2)]) hx hb dX5_isBeside_30 hl (k := 4) rfl (by rw [ey7]; rfl) (by decide) rfl (fun ls hl => ?_)
  refine lv_goto (tgt := 5) hx hb dX5_isBeside_33 (by decide) ?_
  exact hk5 hB (lv_sub hl [2, 3, 4, 1, 0] rfl) h
theorem ww_X5_isBeside_57 {M : z_M} {Qk : Int32 → Prop} (X : z_XM l G A p R s m args meth c cX5_isBeside 5 "isBeside" (some .boolean) 11 187) {s0 : Int32} {H : Heap} {locs : List Loc} {ls : Array Slot} (hB : z_MB G z_P1c A s.heap T I0 Q o b M H locs) (hl : lv_has ls 5 []) (h : wb_X5_isBeside_57 M Qk s0) : W p l e R s m args below meth c H locs 0 0 (z_MQ below G z_P1c A T I0 Q (z_mz (fun r M1 => Qk r ∧ M1 = M) T Q o b) z_no args s 0 0) (F0 m 57 ls [.int s0]) := by
  obtain ⟨hx, hb, -⟩ := id X
  unfold wb_X5_isBeside_57 at h
  obtain ⟨hz, h⟩ := h
  obtain ⟨hL, I, hB, hM⟩ := hB
  exact z_zret X hB hz ⟨_, rfl, hz, ⟨h, hM⟩, rfl, rfl⟩ (Nat.le_refl 0) (Nat.le_refl 0) dX5_isBeside_57
theorem wv_X5_isBeside_5 {M : z_M} {Qk : Int32 → Prop} (X : z_XM l G A p R s m args meth c cX5_isBeside 5 "isBeside" (some .boolean) 11 187) : ∀ (n : Nat) {x1 : Int32} {x2 : Int32} {x3 : Int32} {x4 : Int32} {H : Heap} {locs : List Loc} {ls : Array Slot}, z_MB G z_P1c A s.heap T I0 Q o b M H locs → lv_has ls 5 [(0, .ref o), (1, .int x1), (2, .int x2), (3, .int x3), (4, .int x4)] → wl_X5_isBeside_5 M Qk n x1 x2 x3 x4 → W p l e R s m args below meth c H locs 0 0 (z_MQ below G z_P1c A T I0 Q (z_mz (fun r M1 => Qk r ∧ M1 = M) T Q o b) z_no args s 0 0) (F0 m 5 ls []) := by
  intro n
  induction n with
  | zero =>
    intro x1 x2 x3 x4 H locs ls hB hl h
    exact h.elim
  | succ n ih =>
    intro x1 x2 x3 x4 H locs ls hB hl h
    obtain ⟨hx, hb, -⟩ := id X
    unfold wl_X5_isBeside_5 at h
    refine lv_iload hx hb dX5_isBeside_5 (lv_at hl 4 rfl) ?_
    refine lv_iconst (v := 3) hx hb dX5_isBeside_7 (by decide) ?_
    refine lv_icmp_ge (tgt := 36) hx hb dX5_isBeside_8 (by decide) (fun c1 => ?_) (fun c1 => ?_)
    · have h := h.1 c1
      refine lv_iload_n hx hb dX5_isBeside_36 rfl (lv_at hl 3 rfl) ?_
      refine lv_iconst (v := 1) hx hb dX5_isBeside_37 (by decide) ?_
      refine lv_iload_n hx hb dX5_isBeside_38 rfl (lv_at hl 2 rfl) ?_
      refine lv_iconst (v := 1) hx hb dX5_isBeside_39 (by decide) ?_
      refine lv_iadd hx hb dX5_isBeside_40 ?_
      refine lv_ishl hx hb dX5_isBeside_41 ?_
      refine lv_iconst (v := 1) hx hb dX5_isBeside_42 (by decide) ?_
      refine lv_iload_n hx hb dX5_isBeside_43 rfl (lv_at hl 2 rfl) ?_
      refine lv_ishl hx hb dX5_isBeside_44 ?_
      refine lv_iconst (v := 1) hx hb dX5_isBeside_45 (by decide) ?_
      refine lv_ishr hx hb dX5_isBeside_46 ?_
      refine lv_ior hx hb dX5_isBeside_47 ?_
      refine lv_iand hx hb dX5_isBeside_48 ?_
      refine lv_if_eq (tgt := 56) hx hb dX5_isBeside_49 (by decide) (fun c2 => ?_) (fun c2 => ?_)
      · have h := h.1 c2
        refine lv_iconst (v := 0) hx hb dX5_isBeside_56 (by decide) ?_
        exact ww_X5_isBeside_57 X  hB (lv_sub hl [] rfl) h
      · have h := h.2 c2
        refine lv_iconst (v := 1) hx hb dX5_isBeside_52 (by decide) ?_
        refine lv_goto (tgt := 57) hx hb dX5_isBeside_53 (by decide) ?_
        exact ww_X5_isBeside_57 X  hB (lv_sub hl [] rfl) h
    · have h := h.2 c1
      refine lv_iload_n hx hb dX5_isBeside_11 rfl (lv_at hl 3 rfl) ?_
      refine lv_iload hx hb dX5_isBeside_12 (lv_at hl 4 rfl) ?_
      refine lv_iload_n hx hb dX5_isBeside_14 rfl (lv_at hl 1 rfl) ?_
      refine lv_icmp_eq (tgt := 27) hx hb dX5_isBeside_15 (by decide) (fun c3 => ?_) (fun c3 => ?_)
      · have h := h.1 c3
        refine lv_iconst (v := 0) hx hb dX5_isBeside_27 (by decide) ?_
        exact ww_X5_isBeside_28 X (fun hB hl h => ih hB hl h) hB (lv_sub hl [0, 1, 2, 4] rfl) h
      · have h := h.2 c3
        refine lv_aload_n hx hb dX5_isBeside_18 rfl (lv_at hl 0 rfl) ?_
        refine lv_iload hx hb dX5_isBeside_19 (lv_at hl 4 rfl) ?_
        refine z_mcalli (fun _ h => h) (fun I1 hB1 hM => z_runV (rest := [.int x3]) [.int x4] pk_X5_holds (met_X5_holds hB.1 hM x4 _ h) X hB1 (by decide) q3422 kc_X5 (by decide) (by rw [hB.1.1]) rfl hl.1 (Nat.le_of_ble_eq_true rfl) dX5_isBeside_21 (Nat.le_refl 0) (Nat.le_refl 0) (by decide) (by decide)) hB (fun r4 M5 H locs h hB => ?_)
        obtain ⟨h, eM5⟩ := h
        rw [eM5] at hB
        refine lv_goto (tgt := 28) hx hb dX5_isBeside_24 (by decide) ?_
        exact ww_X5_isBeside_28 X (fun hB hl h => ih hB hl h) hB (lv_sub hl [0, 1, 2, 4] rfl) h
theorem ww_X5_isBeside_0 {M : z_M} {Qk : Int32 → Prop} (X : z_XM l G A p R s m args meth c cX5_isBeside 5 "isBeside" (some .boolean) 11 187) {x1 : Int32} {x2 : Int32} {H : Heap} {locs : List Loc} {ls : Array Slot} (hB : z_MB G z_P1c A s.heap T I0 Q o b M H locs) (hl : lv_has ls 5 [(0, .ref o), (1, .int x1), (2, .int x2)]) (h : wb_X5_isBeside_0 M Qk x1 x2) : W p l e R s m args below meth c H locs 0 0 (z_MQ below G z_P1c A T I0 Q (z_mz (fun r M1 => Qk r ∧ M1 = M) T Q o b) z_no args s 0 0) (F0 m 0 ls []) := by
  obtain ⟨hx, hb, -⟩ := id X
  unfold wb_X5_isBeside_0 at h
  refine lv_iconst (v := 0) hx hb dX5_isBeside_0 (by decide) ?_
  refine lv_istore_n (lv' := [(3, .int 0), (0, .ref o), (1, .int x1), (2, .int x2)]) hx hb dX5_isBeside_1 rfl hl (by decide) rfl (fun ls hl => ?_)
  refine lv_iconst (v := 0) hx hb dX5_isBeside_2 (by decide) ?_
  refine lv_istore (lv' := [(4, .int 0), (3, .int 0), (0, .ref o), (1, .int x1), (2, .int x2)]) hx hb dX5_isBeside_3 hl (by decide) rfl (fun ls hl => ?_)
  obtain ⟨w, h⟩ := h
  exact wv_X5_isBeside_5 X  w hB (lv_sub hl [2, 3, 4, 1, 0] rfl) h
theorem pk_X5_isBeside : z_PV RX5 yX5_isBeside cX5_isBeside 5 (some .boolean) 2 := ⟨q3603, qs78, q131, q3604, by decide +kernel⟩
theorem met_X5_isBeside {l : Launch} {G : z_E} {T : z_T} {I : z_I} {Q : z_Q} {o : Nat} {b : Nat → Nat} {M : z_M} (hL : z_lie T Q o b) (hM : z_of I o b = M) (x1 : Int32) (x2 : Int32) (Qk : Int32 → Prop) (h : wp_X5_isBeside M x1 x2 Qk) : z_GM l G yX5_isBeside (ws_ yX5_isBeside cX5_isBeside 5 (some .boolean)) 11 187 0 0 [.ref o, .int x1, .int x2] z_P1c T I Q (z_mz (fun r M1 => Qk r ∧ M1 = M) T Q o b) z_no := by
  refine z_body (own := RX5) (nm := "isBeside") (by decide +kernel) rfl rfl (Nat.le_of_ble_eq_true rfl) (fun p e R s m below meth c A ls X hB hl => ?_)
  exact ww_X5_isBeside_0 X ⟨hL, I, hB, hM⟩ hl h
/-! X5_findNow -/
theorem ww_X5_findNow_56 {k2 : z_M → Int32 → Prop} {Qk : z_M → Prop} (X : z_XM l G A p R s m args meth c cX5_findNow 2 "findNow" none 11 187) (hk2 : ∀ {M : z_M} {x1 : Int32} {H : Heap} {locs : List Loc} {ls : Array Slot}, z_MB G z_P1c A s.heap T I0 Q o b M H locs → lv_has ls 2 [(0, .ref o), (1, .int x1)] → k2 M x1 → W p l e R s m args below meth c H locs 0 0 (z_MQ below G z_P1c A T I0 Q (z_mv_ Qk T Q o b) z_no args s 0 0) (F0 m 2 ls [])) {M : z_M} {x1 : Int32} {s0 : Nat} {s1 : Int32} {s2 : Int32} {s3 : Int32} {H : Heap} {locs : List Loc} {ls : Array Slot} (hf_s0 : z_ln s0 ≠ 0) (hB : z_MB G z_P1c A s.heap T I0 Q o b M H locs) (hl : lv_has ls 2 [(0, .ref o), (1, .int x1)]) (h : wb_X5_findNow_56 k2 Qk M x1 s0 s1 s2 s3) : W p l e R s m args below meth c H locs 0 0 (z_MQ below G z_P1c A T I0 Q (z_mv_ Qk T Q o b) z_no args s 0 0) (F0 m 56 ls [.int s3, .int s2, .int s1, .ref (b s0)]) := by
  obtain ⟨hx, hb, -⟩ := id X
  unfold wb_X5_findNow_56 at h
  refine lv_iadd hx hb dX5_findNow_56 ?_
  obtain ⟨h1, h⟩ := h
  obtain ⟨M7, eM7⟩ : ∃ z, z = z_up M s0 s1.toNatClampNeg (s2 + s3) := ⟨_, rfl⟩
  have h := h M7 eM7
  refine z_mast (P := z_P1c) (f := s0) rfl X hB hf_s0 h1 dX5_findNow_57 (fun H locs hB => ?_)
  rw [← eM7] at hB
  obtain ⟨y8, ey8⟩ : ∃ z : Int32, z = x1 + 1 := ⟨_, rfl⟩
  have h := h y8 ey8
  refine lv_iinc (v := y8) (lv' := [(1, .int y8), (0, .ref o)]) hx hb dX5_findNow_58 hl (k := 1) rfl (by rw [ey8]; rfl) (by decide) rfl (fun ls hl => ?_)
  refine lv_goto (tgt := 2) hx hb dX5_findNow_61 (by decide) ?_
  exact hk2 hB (lv_sub hl [1, 0] rfl) h
theorem wv_X5_findNow_2 {Qk : z_M → Prop} (X : z_XM l G A p R s m args meth c cX5_findNow 2 "findNow" none 11 187) : ∀ (n : Nat) {M : z_M} {x1 : Int32} {H : Heap} {locs : List Loc} {ls : Array Slot}, z_MB G z_P1c A s.heap T I0 Q o b M H locs → lv_has ls 2 [(0, .ref o), (1, .int x1)] → wl_X5_findNow_2 Qk n M x1 → W p l e R s m args below meth c H locs 0 0 (z_MQ below G z_P1c A T I0 Q (z_mv_ Qk T Q o b) z_no args s 0 0) (F0 m 2 ls []) := by
  intro n
  induction n with
  | zero =>
    intro M x1 H locs ls hB hl h
    exact h.elim
  | succ n ih =>
    intro M x1 H locs ls hB hl h
    obtain ⟨hx, hb, -⟩ := id X
    unfold wl_X5_findNow_2 at h
    refine lv_iload_n hx hb dX5_findNow_2 rfl (lv_at hl 1 rfl) ?_
    refine lv_iconst (v := 3) hx hb dX5_findNow_3 (by decide) ?_
    refine lv_icmp_ge (tgt := 64) hx hb dX5_findNow_4 (by decide) (fun c1 => ?_) (fun c1 => ?_)
    · have h := h.1 c1
      obtain ⟨hL, I, hB, hM⟩ := hB
      exact z_vret X hB ⟨rfl, (by rw [hM]; exact h), rfl, rfl⟩ (Nat.le_refl 0) (Nat.le_refl 0) dX5_findNow_64
    · have h := h.2 c1
      refine lv_aload_n hx hb dX5_findNow_7 rfl (lv_at hl 0 rfl) ?_
      refine z_mgeta (j := 41) X hB q3251 rfl (Nat.le_of_ble_eq_true rfl) rfl (by decide) dX5_findNow_8 ?_
      refine lv_iload_n hx hb dX5_findNow_11 rfl (lv_at hl 1 rfl) ?_
      refine lv_aload_n hx hb dX5_findNow_12 rfl (lv_at hl 0 rfl) ?_
      refine lv_iload_n hx hb dX5_findNow_13 rfl (lv_at hl 1 rfl) ?_
      refine z_mcalli (fun _ h => h) (fun I1 hB1 hM => z_runV (rest := [.int x1, .ref (b 41)]) [.int x1] pk_X5_holds (met_X5_holds hB.1 hM x1 _ h) X hB1 (by decide) q3422 kc_X5 (by decide) (by rw [hB.1.1]) rfl hl.1 (Nat.le_of_ble_eq_true rfl) dX5_findNow_14 (Nat.le_refl 0) (Nat.le_refl 0) (by decide) (by decide)) hB (fun r2 M3 H locs h hB => ?_)
      obtain ⟨h, eM3⟩ := h
      rw [eM3] at hB
      obtain ⟨h1, h⟩ := h
      obtain ⟨M4, eM4⟩ : ∃ z, z = z_up M 41 x1.toNatClampNeg r2 := ⟨_, rfl⟩
      have h := h M4 eM4
      refine z_mast (P := z_P1c) (f := 41) rfl X hB (by decide) h1 dX5_findNow_17 (fun H locs hB => ?_)
      rw [← eM4] at hB
      refine lv_aload_n hx hb dX5_findNow_18 rfl (lv_at hl 0 rfl) ?_
      refine z_mgeta (j := 42) X hB q3252 rfl (Nat.le_of_ble_eq_true rfl) rfl (by decide) dX5_findNow_19 ?_
      refine lv_iload_n hx hb dX5_findNow_22 rfl (lv_at hl 1 rfl) ?_
      refine lv_aload_n hx hb dX5_findNow_23 rfl (lv_at hl 0 rfl) ?_
      refine z_mgeta (j := 13) X hB q3223 rfl (Nat.le_of_ble_eq_true rfl) rfl (by decide) dX5_findNow_24 ?_
      refine lv_iload_n hx hb dX5_findNow_27 rfl (lv_at hl 1 rfl) ?_
      obtain ⟨h1, h⟩ := h
      refine z_mald (f := 13) X hB (by decide) h1 dX5_findNow_28 ?_
      obtain ⟨h1, h⟩ := h
      obtain ⟨M5, eM5⟩ : ∃ z, z = z_up M4 42 x1.toNatClampNeg (M4 13 x1.toNatClampNeg) := ⟨_, rfl⟩
      have h := h M5 eM5
      refine z_mast (P := z_P1c) (f := 42) rfl X hB (by decide) h1 dX5_findNow_29 (fun H locs hB => ?_)
      rw [← eM5] at hB
      refine lv_aload_n hx hb dX5_findNow_30 rfl (lv_at hl 0 rfl) ?_
      refine z_mgeta (j := 43) X hB q3253 rfl (Nat.le_of_ble_eq_true rfl) rfl (by decide) dX5_findNow_31 ?_
      refine lv_iload_n hx hb dX5_findNow_34 rfl (lv_at hl 1 rfl) ?_
      refine lv_aload_n hx hb dX5_findNow_35 rfl (lv_at hl 0 rfl) ?_
      refine z_mgeta (j := 15) X hB q3225 rfl (Nat.le_of_ble_eq_true rfl) rfl (by decide) dX5_findNow_36 ?_
      refine lv_iload_n hx hb dX5_findNow_39 rfl (lv_at hl 1 rfl) ?_
      obtain ⟨h1, h⟩ := h
      refine z_mald (f := 15) X hB (by decide) h1 dX5_findNow_40 ?_
      refine lv_aload_n hx hb dX5_findNow_41 rfl (lv_at hl 0 rfl) ?_
      refine z_mgeta (j := 14) X hB q3224 rfl (Nat.le_of_ble_eq_true rfl) rfl (by decide) dX5_findNow_42 ?_
      refine lv_iload_n hx hb dX5_findNow_45 rfl (lv_at hl 1 rfl) ?_
      obtain ⟨h1, h⟩ := h
      refine z_mald (f := 14) X hB (by decide) h1 dX5_findNow_46 ?_
      refine lv_iconst (v := 2) hx hb dX5_findNow_47 (by decide) ?_
      refine lv_icmp_ne (tgt := 55) hx hb dX5_findNow_48 (by decide) (fun c6 => ?_) (fun c6 => ?_)
      · have h := h.1 c6
        refine lv_iconst (v := 1) hx hb dX5_findNow_55 (by decide) ?_
        exact ww_X5_findNow_56 X (fun hB hl h => ih hB hl h) (by decide) hB (lv_sub hl [0, 1] rfl) h
      · have h := h.2 c6
        refine lv_iconst (v := 2) hx hb dX5_findNow_51 (by decide) ?_
        refine lv_goto (tgt := 56) hx hb dX5_findNow_52 (by decide) ?_
        exact ww_X5_findNow_56 X (fun hB hl h => ih hB hl h) (by decide) hB (lv_sub hl [0, 1] rfl) h
theorem ww_X5_findNow_0 {Qk : z_M → Prop} (X : z_XM l G A p R s m args meth c cX5_findNow 2 "findNow" none 11 187) {M : z_M} {H : Heap} {locs : List Loc} {ls : Array Slot} (hB : z_MB G z_P1c A s.heap T I0 Q o b M H locs) (hl : lv_has ls 2 [(0, .ref o)]) (h : wb_X5_findNow_0 Qk M) : W p l e R s m args below meth c H locs 0 0 (z_MQ below G z_P1c A T I0 Q (z_mv_ Qk T Q o b) z_no args s 0 0) (F0 m 0 ls []) := by
  obtain ⟨hx, hb, -⟩ := id X
  unfold wb_X5_findNow_0 at h
  refine lv_iconst (v := 0) hx hb dX5_findNow_0 (by decide) ?_
  refine lv_istore_n (lv' := [(1, .int 0), (0, .ref o)]) hx hb dX5_findNow_1 rfl hl (by decide) rfl (fun ls hl => ?_)
  obtain ⟨w, h⟩ := h
  exact wv_X5_findNow_2 X  w hB (lv_sub hl [1, 0] rfl) h
theorem pk_X5_findNow : z_PV RX5 yX5_findNow cX5_findNow 2 none 0 := ⟨q3579, qs72, q131, q3580, by decide +kernel⟩
theorem met_X5_findNow {l : Launch} {G : z_E} {T : z_T} {I : z_I} {Q : z_Q} {o : Nat} {b : Nat → Nat} {M : z_M} (hL : z_lie T Q o b) (hM : z_of I o b = M) (Qk : z_M → Prop) (h : wp_X5_findNow M Qk) : z_GM l G yX5_findNow (ws_ yX5_findNow cX5_findNow 2 none) 11 187 0 0 [.ref o] z_P1c T I Q (z_mv_ Qk T Q o b) z_no := by
  refine z_body (own := RX5) (nm := "findNow") (by decide +kernel) rfl rfl (Nat.le_of_ble_eq_true rfl) (fun p e R s m below meth c A ls X hB hl => ?_)
  exact ww_X5_findNow_0 X ⟨hL, I, hB, hM⟩ hl h
/-! X5_canFinish -/
theorem ww_X5_canFinish_34 {M : z_M} {k4 : Int32 → Int32 → Int32 → Prop} {Qk : Int32 → Prop} (X : z_XM l G A p R s m args meth c cX5_canFinish 4 "canFinish" (some .boolean) 9 144) (hk4 : ∀ {x1 : Int32} {x2 : Int32} {x3 : Int32} {H : Heap} {locs : List Loc} {ls : Array Slot}, z_MB G z_P1c A s.heap T I0 Q o b M H locs → lv_has ls 4 [(0, .ref o), (1, .int x1), (2, .int x2), (3, .int x3)] → k4 x1 x2 x3 → W p l e R s m args below meth c H locs 0 0 (z_MQ below G z_P1c A T I0 Q (z_mz (fun r M1 => Qk r ∧ M1 = M) T Q o b) z_no args s 0 0) (F0 m 4 ls [])) {x1 : Int32} {x3 : Int32} {s0 : Int32} {s1 : Int32} {H : Heap} {locs : List Loc} {ls : Array Slot} (hB : z_MB G z_P1c A s.heap T I0 Q o b M H locs) (hl : lv_has ls 4 [(0, .ref o), (1, .int x1), (3, .int x3)]) (h : wb_X5_canFinish_34 M k4 Qk x1 x3 s0 s1) : W p l e R s m args below meth c H locs 0 0 (z_MQ below G z_P1c A T I0 Q (z_mz (fun r M1 => Qk r ∧ M1 = M) T Q o b) z_no args s 0 0) (F0 m 34 ls [.int s1, .int s0]) := by
  obtain ⟨hx, hb, -⟩ := id X
  unfold wb_X5_canFinish_34 at h
  refine lv_ior hx hb dX5_canFinish_34 ?_
  refine lv_topi (fun y5 ey5 => ?_)
  have h := h y5 ey5
  refine lv_istore_n (lv' := [(2, .int y5), (0, .ref o), (1, .int x1), (3, .int x3)]) hx hb dX5_canFinish_35 rfl hl (by decide) rfl (fun ls hl => ?_)
  obtain ⟨y6, ey6⟩ : ∃ z : Int32, z = x3 + 1 := ⟨_, rfl⟩
  have h := h y6 ey6
  refine lv_iinc (v := y6) (lv' := [(3, .int y6), (2, .int y5), (0, .ref o), (1, .int x1)]) hx hb dX5_canFinish_36 hl (k := 3) rfl (by rw [ey6]; rfl) (by decide) rfl (fun ls hl => ?_)
  refine lv_goto (tgt := 4) hx hb dX5_canFinish_39 (by decide) ?_
  exact hk4 hB (lv_sub hl [2, 3, 1, 0] rfl) h
theorem ww_X5_canFinish_33 {M : z_M} {k4 : Int32 → Int32 → Int32 → Prop} {Qk : Int32 → Prop} (X : z_XM l G A p R s m args meth c cX5_canFinish 4 "canFinish" (some .boolean) 9 144) (hk4 : ∀ {x1 : Int32} {x2 : Int32} {x3 : Int32} {H : Heap} {locs : List Loc} {ls : Array Slot}, z_MB G z_P1c A s.heap T I0 Q o b M H locs → lv_has ls 4 [(0, .ref o), (1, .int x1), (2, .int x2), (3, .int x3)] → k4 x1 x2 x3 → W p l e R s m args below meth c H locs 0 0 (z_MQ below G z_P1c A T I0 Q (z_mz (fun r M1 => Qk r ∧ M1 = M) T Q o b) z_no args s 0 0) (F0 m 4 ls [])) {x1 : Int32} {x3 : Int32} {s0 : Int32} {H : Heap} {locs : List Loc} {ls : Array Slot} (hB : z_MB G z_P1c A s.heap T I0 Q o b M H locs) (hl : lv_has ls 4 [(0, .ref o), (1, .int x1), (3, .int x3)]) (h : wb_X5_canFinish_33 M k4 Qk x1 x3 s0) : W p l e R s m args below meth c H locs 0 0 (z_MQ below G z_P1c A T I0 Q (z_mz (fun r M1 => Qk r ∧ M1 = M) T Q o b) z_no args s 0 0) (F0 m 33 ls [.int s0]) := by
  obtain ⟨hx, hb, -⟩ := id X
  unfold wb_X5_canFinish_33 at h
  refine lv_iconst (v := 0) hx hb dX5_canFinish_33 (by decide) ?_
  exact ww_X5_canFinish_34 X hk4 hB (lv_sub hl [0, 1, 2] rfl) h
theorem wv_X5_canFinish_49 {M : z_M} {Qk : Int32 → Prop} (X : z_XM l G A p R s m args meth c cX5_canFinish 4 "canFinish" (some .boolean) 9 144) : ∀ (n : Nat) {x1 : Int32} {x2 : Int32} {x3 : Int32} {H : Heap} {locs : List Loc} {ls : Array Slot}, z_MB G z_P1c A s.heap T I0 Q o b M H locs → lv_has ls 4 [(0, .ref o), (1, .int x1), (2, .int x2), (3, .int x3)] → wl_X5_canFinish_49 M Qk n x1 x2 x3 → W p l e R s m args below meth c H locs 0 0 (z_MQ below G z_P1c A T I0 Q (z_mz (fun r M1 => Qk r ∧ M1 = M) T Q o b) z_no args s 0 0) (F0 m 49 ls []) := by
  intro n
  induction n with
  | zero =>
    intro x1 x2 x3 H locs ls hB hl h
    exact h.elim
  | succ n ih =>
    intro x1 x2 x3 H locs ls hB hl h
    obtain ⟨hx, hb, -⟩ := id X
    unfold wl_X5_canFinish_49 at h
    refine lv_iload_n hx hb dX5_canFinish_49 rfl (lv_at hl 3 rfl) ?_
    refine lv_aload_n hx hb dX5_canFinish_50 rfl (lv_at hl 0 rfl) ?_
    refine z_mgeta (j := 24) X hB q3234 rfl (Nat.le_of_ble_eq_true rfl) rfl (by decide) dX5_canFinish_51 ?_
    refine lv_aload_n hx hb dX5_canFinish_54 rfl (lv_at hl 0 rfl) ?_
    refine z_mgeta (j := 42) X hB q3252 rfl (Nat.le_of_ble_eq_true rfl) rfl (by decide) dX5_canFinish_55 ?_
    refine lv_iload_n hx hb dX5_canFinish_58 rfl (lv_at hl 1 rfl) ?_
    obtain ⟨h1, h⟩ := h
    refine z_mald (f := 42) X hB (by decide) h1 dX5_canFinish_59 ?_
    obtain ⟨h1, h⟩ := h
    refine z_mald (f := 24) X hB (by decide) h1 dX5_canFinish_60 ?_
    refine lv_icmp_ge (tgt := 92) hx hb dX5_canFinish_61 (by decide) (fun c7 => ?_) (fun c7 => ?_)
    · have h := h.1 c7
      refine lv_iconst (v := 1) hx hb dX5_canFinish_92 (by decide) ?_
      obtain ⟨hL, I, hB, hM⟩ := hB
      exact z_zret X hB (Or.inr rfl) ⟨_, rfl, (Or.inr rfl), ⟨h, hM⟩, rfl, rfl⟩ (Nat.le_refl 0) (Nat.le_refl 0) dX5_canFinish_93
    · have h := h.2 c7
      refine lv_aload_n hx hb dX5_canFinish_64 rfl (lv_at hl 0 rfl) ?_
      refine lv_aload_n hx hb dX5_canFinish_65 rfl (lv_at hl 0 rfl) ?_
      refine lv_aload_n hx hb dX5_canFinish_66 rfl (lv_at hl 0 rfl) ?_
      refine z_mgeta (j := 42) X hB q3252 rfl (Nat.le_of_ble_eq_true rfl) rfl (by decide) dX5_canFinish_67 ?_
      refine lv_iload_n hx hb dX5_canFinish_70 rfl (lv_at hl 1 rfl) ?_
      obtain ⟨h1, h⟩ := h
      refine z_mald (f := 42) X hB (by decide) h1 dX5_canFinish_71 ?_
      refine lv_iload_n hx hb dX5_canFinish_72 rfl (lv_at hl 3 rfl) ?_
      refine z_mcalli (fun _ h => h) (fun I1 hB1 hM => z_runV (rest := [.ref o]) [.int (M 42 x1.toNatClampNeg), .int x3] pk_X5_zoneAt (met_X5_zoneAt hB.1 hM (M 42 x1.toNatClampNeg) x3 _ h) X hB1 (by decide) q3430 kc_X5 (by decide) (by rw [hB.1.1]) rfl hl.1 (Nat.le_of_ble_eq_true rfl) dX5_canFinish_73 (Nat.le_refl 0) (Nat.le_refl 0) (by decide) (by decide)) hB (fun r8 M9 H locs h hB => ?_)
      obtain ⟨h, eM9⟩ := h
      rw [eM9] at hB
      refine z_mcalli (fun _ h => h) (fun I1 hB1 hM => z_runV (rest := []) [.int r8] pk_X5_conflicts (met_X5_conflicts hB.1 hM r8 _ h) X hB1 (by decide) q3495 kc_X5 (by decide) (by rw [hB.1.1]) rfl hl.1 (Nat.le_of_ble_eq_true rfl) dX5_canFinish_76 (Nat.le_refl 0) (Nat.le_refl 0) (by decide) (by decide)) hB (fun r10 M11 H locs h hB => ?_)
      obtain ⟨h, eM11⟩ := h
      rw [eM11] at hB
      refine lv_iload_n hx hb dX5_canFinish_79 rfl (lv_at hl 2 rfl) ?_
      refine lv_iand hx hb dX5_canFinish_80 ?_
      refine lv_if_eq (tgt := 86) hx hb dX5_canFinish_81 (by decide) (fun c12 => ?_) (fun c12 => ?_)
      · have h := h.1 c12
        obtain ⟨y13, ey13⟩ : ∃ z : Int32, z = x3 + 1 := ⟨_, rfl⟩
        have h := h y13 ey13
        refine lv_iinc (v := y13) (lv' := [(3, .int y13), (0, .ref o), (1, .int x1), (2, .int x2)]) hx hb dX5_canFinish_86 hl (k := 3) rfl (by rw [ey13]; rfl) (by decide) rfl (fun ls hl => ?_)
        refine lv_goto (tgt := 49) hx hb dX5_canFinish_89 (by decide) ?_
        exact ih hB (lv_sub hl [1, 2, 3, 0] rfl) h
      · have h := h.2 c12
        refine lv_iconst (v := 0) hx hb dX5_canFinish_84 (by decide) ?_
        obtain ⟨hL, I, hB, hM⟩ := hB
        exact z_zret X hB (Or.inl rfl) ⟨_, rfl, (Or.inl rfl), ⟨h, hM⟩, rfl, rfl⟩ (Nat.le_refl 0) (Nat.le_refl 0) dX5_canFinish_85
theorem wv_X5_canFinish_4 {M : z_M} {Qk : Int32 → Prop} (X : z_XM l G A p R s m args meth c cX5_canFinish 4 "canFinish" (some .boolean) 9 144) : ∀ (n : Nat) {x1 : Int32} {x2 : Int32} {x3 : Int32} {H : Heap} {locs : List Loc} {ls : Array Slot}, z_MB G z_P1c A s.heap T I0 Q o b M H locs → lv_has ls 4 [(0, .ref o), (1, .int x1), (2, .int x2), (3, .int x3)] → wl_X5_canFinish_4 M Qk n x1 x2 x3 → W p l e R s m args below meth c H locs 0 0 (z_MQ below G z_P1c A T I0 Q (z_mz (fun r M1 => Qk r ∧ M1 = M) T Q o b) z_no args s 0 0) (F0 m 4 ls []) := by
  intro n
  induction n with
  | zero =>
    intro x1 x2 x3 H locs ls hB hl h
    exact h.elim
  | succ n ih =>
    intro x1 x2 x3 H locs ls hB hl h
    obtain ⟨hx, hb, -⟩ := id X
    unfold wl_X5_canFinish_4 at h
    refine lv_iload_n hx hb dX5_canFinish_4 rfl (lv_at hl 3 rfl) ?_
    refine lv_iconst (v := 3) hx hb dX5_canFinish_5 (by decide) ?_
    refine lv_icmp_ge (tgt := 42) hx hb dX5_canFinish_6 (by decide) (fun c1 => ?_) (fun c1 => ?_)
    · have h := h.1 c1
      refine lv_aload_n hx hb dX5_canFinish_42 rfl (lv_at hl 0 rfl) ?_
      refine z_mgeta (j := 43) X hB q3253 rfl (Nat.le_of_ble_eq_true rfl) rfl (by decide) dX5_canFinish_43 ?_
      refine lv_iload_n hx hb dX5_canFinish_46 rfl (lv_at hl 1 rfl) ?_
      obtain ⟨h1, h⟩ := h
      refine z_mald (f := 43) X hB (by decide) h1 dX5_canFinish_47 ?_
      refine lv_topi (fun y2 ey2 => ?_)
      have h := h y2 ey2
      refine lv_istore_n (lv' := [(3, .int y2), (0, .ref o), (1, .int x1), (2, .int x2)]) hx hb dX5_canFinish_48 rfl hl (by decide) rfl (fun ls hl => ?_)
      obtain ⟨w, h⟩ := h
      exact wv_X5_canFinish_49 X  w hB (lv_sub hl [1, 2, 3, 0] rfl) h
    · have h := h.2 c1
      refine lv_iload_n hx hb dX5_canFinish_9 rfl (lv_at hl 2 rfl) ?_
      refine lv_iload_n hx hb dX5_canFinish_10 rfl (lv_at hl 3 rfl) ?_
      refine lv_iload_n hx hb dX5_canFinish_11 rfl (lv_at hl 1 rfl) ?_
      refine lv_icmp_eq (tgt := 33) hx hb dX5_canFinish_12 (by decide) (fun c3 => ?_) (fun c3 => ?_)
      · have h := h.1 c3
        exact ww_X5_canFinish_33 X (fun hB hl h => ih hB hl h) hB (lv_sub hl [0, 1, 3] rfl) h
      · have h := h.2 c3
        refine lv_aload_n hx hb dX5_canFinish_15 rfl (lv_at hl 0 rfl) ?_
        refine z_mgeta (j := 42) X hB q3252 rfl (Nat.le_of_ble_eq_true rfl) rfl (by decide) dX5_canFinish_16 ?_
        refine lv_iload_n hx hb dX5_canFinish_19 rfl (lv_at hl 3 rfl) ?_
        obtain ⟨h1, h⟩ := h
        refine z_mald (f := 42) X hB (by decide) h1 dX5_canFinish_20 ?_
        refine lv_if_lt (tgt := 33) hx hb dX5_canFinish_21 (by decide) (fun c4 => ?_) (fun c4 => ?_)
        · have h := h.1 c4
          exact ww_X5_canFinish_33 X (fun hB hl h => ih hB hl h) hB (lv_sub hl [0, 1, 3] rfl) h
        · have h := h.2 c4
          refine lv_aload_n hx hb dX5_canFinish_24 rfl (lv_at hl 0 rfl) ?_
          refine z_mgeta (j := 41) X hB q3251 rfl (Nat.le_of_ble_eq_true rfl) rfl (by decide) dX5_canFinish_25 ?_
          refine lv_iload_n hx hb dX5_canFinish_28 rfl (lv_at hl 3 rfl) ?_
          obtain ⟨h1, h⟩ := h
          refine z_mald (f := 41) X hB (by decide) h1 dX5_canFinish_29 ?_
          refine lv_goto (tgt := 34) hx hb dX5_canFinish_30 (by decide) ?_
          exact ww_X5_canFinish_34 X (fun hB hl h => ih hB hl h) hB (lv_sub hl [0, 1, 3] rfl) h
theorem ww_X5_canFinish_0 {M : z_M} {Qk : Int32 → Prop} (X : z_XM l G A p R s m args meth c cX5_canFinish 4 "canFinish" (some .boolean) 9 144) {x1 : Int32} {H : Heap} {locs : List Loc} {ls : Array Slot} (hB : z_MB G z_P1c A s.heap T I0 Q o b M H locs) (hl : lv_has ls 4 [(0, .ref o), (1, .int x1)]) (h : wb_X5_canFinish_0 M Qk x1) : W p l e R s m args below meth c H locs 0 0 (z_MQ below G z_P1c A T I0 Q (z_mz (fun r M1 => Qk r ∧ M1 = M) T Q o b) z_no args s 0 0) (F0 m 0 ls []) := by
  obtain ⟨hx, hb, -⟩ := id X
  unfold wb_X5_canFinish_0 at h
  refine lv_iconst (v := 0) hx hb dX5_canFinish_0 (by decide) ?_
  refine lv_istore_n (lv' := [(2, .int 0), (0, .ref o), (1, .int x1)]) hx hb dX5_canFinish_1 rfl hl (by decide) rfl (fun ls hl => ?_)
  refine lv_iconst (v := 0) hx hb dX5_canFinish_2 (by decide) ?_
  refine lv_istore_n (lv' := [(3, .int 0), (2, .int 0), (0, .ref o), (1, .int x1)]) hx hb dX5_canFinish_3 rfl hl (by decide) rfl (fun ls hl => ?_)
  obtain ⟨w, h⟩ := h
  exact wv_X5_canFinish_4 X  w hB (lv_sub hl [2, 3, 1, 0] rfl) h
theorem pk_X5_canFinish : z_PV RX5 yX5_canFinish cX5_canFinish 4 (some .boolean) 1 := ⟨q3587, qs74, q131, q3588, by decide +kernel⟩
theorem met_X5_canFinish {l : Launch} {G : z_E} {T : z_T} {I : z_I} {Q : z_Q} {o : Nat} {b : Nat → Nat} {M : z_M} (hL : z_lie T Q o b) (hM : z_of I o b = M) (x1 : Int32) (Qk : Int32 → Prop) (h : wp_X5_canFinish M x1 Qk) : z_GM l G yX5_canFinish (ws_ yX5_canFinish cX5_canFinish 4 (some .boolean)) 9 144 0 0 [.ref o, .int x1] z_P1c T I Q (z_mz (fun r M1 => Qk r ∧ M1 = M) T Q o b) z_no := by
  refine z_body (own := RX5) (nm := "canFinish") (by decide +kernel) rfl rfl (Nat.le_of_ble_eq_true rfl) (fun p e R s m below meth c A ls X hB hl => ?_)
  exact ww_X5_canFinish_0 X ⟨hL, I, hB, hM⟩ hl h
/-! X5_findStuck -/
theorem ww_X5_findStuck_44 {k2 : z_M → Int32 → Prop} {k10 : z_M → Int32 → Int32 → Prop} {Qk : Int32 → z_M → Prop} (X : z_XM l G A p R s m args meth c cX5_findStuck 3 "findStuck" (some .int) 10 167) (hk2 : ∀ {M : z_M} {x1 : Int32} {H : Heap} {locs : List Loc} {ls : Array Slot}, z_MB G z_P1c A s.heap T I0 Q o b M H locs → lv_has ls 3 [(0, .ref o), (1, .int x1)] → k2 M x1 → W p l e R s m args below meth c H locs 0 0 (z_MQ below G z_P1c A T I0 Q (z_mi Qk T Q o b) z_no args s 0 0) (F0 m 2 ls [])) (hk10 : ∀ {M : z_M} {x1 : Int32} {x2 : Int32} {H : Heap} {locs : List Loc} {ls : Array Slot}, z_MB G z_P1c A s.heap T I0 Q o b M H locs → lv_has ls 3 [(0, .ref o), (1, .int x1), (2, .int x2)] → k10 M x1 x2 → W p l e R s m args below meth c H locs 0 0 (z_MQ below G z_P1c A T I0 Q (z_mi Qk T Q o b) z_no args s 0 0) (F0 m 10 ls [])) {M : z_M} {x1 : Int32} {x2 : Int32} {H : Heap} {locs : List Loc} {ls : Array Slot} (hB : z_MB G z_P1c A s.heap T I0 Q o b M H locs) (hl : lv_has ls 3 [(0, .ref o), (1, .int x1), (2, .int x2)]) (h : wb_X5_findStuck_44 k2 k10 Qk M x1 x2) : W p l e R s m args below meth c H locs 0 0 (z_MQ below G z_P1c A T I0 Q (z_mi Qk T Q o b) z_no args s 0 0) (F0 m 44 ls []) := by
  obtain ⟨hx, hb, -⟩ := id X
  unfold wb_X5_findStuck_44 at h
  obtain ⟨y8, ey8⟩ : ∃ z : Int32, z = x2 + 1 := ⟨_, rfl⟩
  have h := h y8 ey8
  refine lv_iinc (v := y8) (lv' := [(2, .int y8), (0, .ref o), (1, .int x1)]) hx hb dX5_findStuck_44 hl (k := 2) rfl (by rw [ey8]; rfl) (by decide) rfl (fun ls hl => ?_)
  refine lv_goto (tgt := 10) hx hb dX5_findStuck_47 (by decide) ?_
  exact hk10 hB (lv_sub hl [1, 2, 0] rfl) h
theorem wv_X5_findStuck_10 {k2 : z_M → Int32 → Prop} {Qk : Int32 → z_M → Prop} (X : z_XM l G A p R s m args meth c cX5_findStuck 3 "findStuck" (some .int) 10 167) (hk2 : ∀ {M : z_M} {x1 : Int32} {H : Heap} {locs : List Loc} {ls : Array Slot}, z_MB G z_P1c A s.heap T I0 Q o b M H locs → lv_has ls 3 [(0, .ref o), (1, .int x1)] → k2 M x1 → W p l e R s m args below meth c H locs 0 0 (z_MQ below G z_P1c A T I0 Q (z_mi Qk T Q o b) z_no args s 0 0) (F0 m 2 ls [])) : ∀ (n : Nat) {M : z_M} {x1 : Int32} {x2 : Int32} {H : Heap} {locs : List Loc} {ls : Array Slot}, z_MB G z_P1c A s.heap T I0 Q o b M H locs → lv_has ls 3 [(0, .ref o), (1, .int x1), (2, .int x2)] → wl_X5_findStuck_10 k2 Qk n M x1 x2 → W p l e R s m args below meth c H locs 0 0 (z_MQ below G z_P1c A T I0 Q (z_mi Qk T Q o b) z_no args s 0 0) (F0 m 10 ls []) := by
  intro n
  induction n with
  | zero =>
    intro M x1 x2 H locs ls hB hl h
    exact h.elim
  | succ n ih =>
    intro M x1 x2 H locs ls hB hl h
    obtain ⟨hx, hb, -⟩ := id X
    unfold wl_X5_findStuck_10 at h
    refine lv_iload_n hx hb dX5_findStuck_10 rfl (lv_at hl 2 rfl) ?_
    refine lv_iconst (v := 3) hx hb dX5_findStuck_11 (by decide) ?_
    refine lv_icmp_ge (tgt := 50) hx hb dX5_findStuck_12 (by decide) (fun c2 => ?_) (fun c2 => ?_)
    · have h := h.1 c2
      refine lv_goto (tgt := 2) hx hb dX5_findStuck_50 (by decide) ?_
      exact hk2 hB (lv_sub hl [0, 1] rfl) h
    · have h := h.2 c2
      refine lv_aload_n hx hb dX5_findStuck_15 rfl (lv_at hl 0 rfl) ?_
      refine z_mgeta (j := 42) X hB q3252 rfl (Nat.le_of_ble_eq_true rfl) rfl (by decide) dX5_findStuck_16 ?_
      refine lv_iload_n hx hb dX5_findStuck_19 rfl (lv_at hl 2 rfl) ?_
      obtain ⟨h1, h⟩ := h
      refine z_mald (f := 42) X hB (by decide) h1 dX5_findStuck_20 ?_
      refine lv_if_lt (tgt := 44) hx hb dX5_findStuck_21 (by decide) (fun c3 => ?_) (fun c3 => ?_)
      · have h := h.1 c3
        exact ww_X5_findStuck_44 X hk2 (fun hB hl h => ih hB hl h) hB (lv_sub hl [0, 1, 2] rfl) h
      · have h := h.2 c3
        refine lv_aload_n hx hb dX5_findStuck_24 rfl (lv_at hl 0 rfl) ?_
        refine lv_iload_n hx hb dX5_findStuck_25 rfl (lv_at hl 2 rfl) ?_
        refine z_mcallz (fun _ h => h) (fun I1 hB1 hM => z_runV (rest := []) [.int x2] pk_X5_canFinish (met_X5_canFinish hB.1 hM x2 _ h) X hB1 (by decide) q3585 kc_X5 (by decide) (by rw [hB.1.1]) rfl hl.1 (Nat.le_of_ble_eq_true rfl) dX5_findStuck_26 (Nat.le_refl 0) (Nat.le_refl 0) (by decide) (by decide)) hB (fun r4 M5 H locs hz h hB => ?_)
        obtain ⟨h, eM5⟩ := h
        rw [eM5] at hB
        have h := h hz
        refine lv_if_ne (tgt := 35) hx hb dX5_findStuck_29 (by decide) (fun c6 => ?_) (fun c6 => ?_)
        · have h := h.1 c6
          refine lv_aload_n hx hb dX5_findStuck_35 rfl (lv_at hl 0 rfl) ?_
          refine z_mgeta (j := 42) X hB q3252 rfl (Nat.le_of_ble_eq_true rfl) rfl (by decide) dX5_findStuck_36 ?_
          refine lv_iload_n hx hb dX5_findStuck_39 rfl (lv_at hl 2 rfl) ?_
          refine lv_iconst (v := (-1)) hx hb dX5_findStuck_40 (by decide) ?_
          obtain ⟨h1, h⟩ := h
          obtain ⟨M7, eM7⟩ : ∃ z, z = z_up M 42 x2.toNatClampNeg (-1) := ⟨_, rfl⟩
          have h := h M7 eM7
          refine z_mast (P := z_P1c) (f := 42) rfl X hB (by decide) h1 dX5_findStuck_41 (fun H locs hB => ?_)
          rw [← eM7] at hB
          refine lv_iconst (v := 1) hx hb dX5_findStuck_42 (by decide) ?_
          refine lv_istore_n (lv' := [(1, .int 1), (0, .ref o), (2, .int x2)]) hx hb dX5_findStuck_43 rfl hl (by decide) rfl (fun ls hl => ?_)
          exact ww_X5_findStuck_44 X hk2 (fun hB hl h => ih hB hl h) hB (lv_sub hl [1, 0, 2] rfl) h
        · have h := h.2 c6
          refine lv_goto (tgt := 44) hx hb dX5_findStuck_32 (by decide) ?_
          exact ww_X5_findStuck_44 X hk2 (fun hB hl h => ih hB hl h) hB (lv_sub hl [0, 1, 2] rfl) h
theorem wv_X5_findStuck_55 {Qk : Int32 → z_M → Prop} (X : z_XM l G A p R s m args meth c cX5_findStuck 3 "findStuck" (some .int) 10 167) : ∀ (n : Nat) {M : z_M} {x2 : Int32} {H : Heap} {locs : List Loc} {ls : Array Slot}, z_MB G z_P1c A s.heap T I0 Q o b M H locs → lv_has ls 3 [(0, .ref o), (2, .int x2)] → wl_X5_findStuck_55 Qk n M x2 → W p l e R s m args below meth c H locs 0 0 (z_MQ below G z_P1c A T I0 Q (z_mi Qk T Q o b) z_no args s 0 0) (F0 m 55 ls []) := by
  intro n
  induction n with
  | zero =>
    intro M x2 H locs ls hB hl h
    exact h.elim
  | succ n ih =>
    intro M x2 H locs ls hB hl h
    obtain ⟨hx, hb, -⟩ := id X
    unfold wl_X5_findStuck_55 at h
    refine lv_iload_n hx hb dX5_findStuck_55 rfl (lv_at hl 1 rfl) ?_
    refine lv_iconst (v := 3) hx hb dX5_findStuck_56 (by decide) ?_
    refine lv_icmp_ge (tgt := 77) hx hb dX5_findStuck_57 (by decide) (fun c9 => ?_) (fun c9 => ?_)
    · have h := h.1 c9
      refine lv_iconst (v := (-1)) hx hb dX5_findStuck_77 (by decide) ?_
      obtain ⟨hL, I, hB, hM⟩ := hB
      exact z_iret X hB ⟨_, rfl, (by rw [hM]; exact h), rfl, rfl⟩ (Nat.le_refl 0) (Nat.le_refl 0) dX5_findStuck_78
    · have h := h.2 c9
      refine lv_aload_n hx hb dX5_findStuck_60 rfl (lv_at hl 0 rfl) ?_
      refine z_mgeta (j := 42) X hB q3252 rfl (Nat.le_of_ble_eq_true rfl) rfl (by decide) dX5_findStuck_61 ?_
      refine lv_iload_n hx hb dX5_findStuck_64 rfl (lv_at hl 1 rfl) ?_
      obtain ⟨h1, h⟩ := h
      refine z_mald (f := 42) X hB (by decide) h1 dX5_findStuck_65 ?_
      refine lv_if_lt (tgt := 71) hx hb dX5_findStuck_66 (by decide) (fun c10 => ?_) (fun c10 => ?_)
      · have h := h.1 c10
        obtain ⟨y11, ey11⟩ : ∃ z : Int32, z = x2 + 1 := ⟨_, rfl⟩
        have h := h y11 ey11
        refine lv_iinc (v := y11) (lv' := [(2, .int y11), (0, .ref o)]) hx hb dX5_findStuck_71 hl (k := 1) rfl (by rw [ey11]; rfl) (by decide) rfl (fun ls hl => ?_)
        refine lv_goto (tgt := 55) hx hb dX5_findStuck_74 (by decide) ?_
        exact ih hB (lv_sub hl [1, 0] rfl) h
      · have h := h.2 c10
        refine lv_iload_n hx hb dX5_findStuck_69 rfl (lv_at hl 1 rfl) ?_
        obtain ⟨hL, I, hB, hM⟩ := hB
        exact z_iret X hB ⟨_, rfl, (by rw [hM]; exact h), rfl, rfl⟩ (Nat.le_refl 0) (Nat.le_refl 0) dX5_findStuck_70
theorem wv_X5_findStuck_2 {Qk : Int32 → z_M → Prop} (X : z_XM l G A p R s m args meth c cX5_findStuck 3 "findStuck" (some .int) 10 167) : ∀ (n : Nat) {M : z_M} {x1 : Int32} {H : Heap} {locs : List Loc} {ls : Array Slot}, z_MB G z_P1c A s.heap T I0 Q o b M H locs → lv_has ls 3 [(0, .ref o), (1, .int x1)] → wl_X5_findStuck_2 Qk n M x1 → W p l e R s m args below meth c H locs 0 0 (z_MQ below G z_P1c A T I0 Q (z_mi Qk T Q o b) z_no args s 0 0) (F0 m 2 ls []) := by
  intro n
  induction n with
  | zero =>
    intro M x1 H locs ls hB hl h
    exact h.elim
  | succ n ih =>
    intro M x1 H locs ls hB hl h
    obtain ⟨hx, hb, -⟩ := id X
    unfold wl_X5_findStuck_2 at h
    refine lv_iload_n hx hb dX5_findStuck_2 rfl (lv_at hl 1 rfl) ?_
    refine lv_if_eq (tgt := 53) hx hb dX5_findStuck_3 (by decide) (fun c1 => ?_) (fun c1 => ?_)
    · have h := h.1 c1
      refine lv_iconst (v := 0) hx hb dX5_findStuck_53 (by decide) ?_
      refine lv_istore_n (lv' := [(2, .int 0), (0, .ref o), (1, .int x1)]) hx hb dX5_findStuck_54 rfl hl (by decide) rfl (fun ls hl => ?_)
      obtain ⟨w, h⟩ := h
      exact wv_X5_findStuck_55 X  w hB (lv_sub hl [1, 0] rfl) h
    · have h := h.2 c1
      refine lv_iconst (v := 0) hx hb dX5_findStuck_6 (by decide) ?_
      refine lv_istore_n (lv' := [(1, .int 0), (0, .ref o)]) hx hb dX5_findStuck_7 rfl hl (by decide) rfl (fun ls hl => ?_)
      refine lv_iconst (v := 0) hx hb dX5_findStuck_8 (by decide) ?_
      refine lv_istore_n (lv' := [(2, .int 0), (1, .int 0), (0, .ref o)]) hx hb dX5_findStuck_9 rfl hl (by decide) rfl (fun ls hl => ?_)
      obtain ⟨w, h⟩ := h
      exact wv_X5_findStuck_10 X (fun hB hl h => ih hB hl h) w hB (lv_sub hl [2, 1, 0] rfl) h
theorem ww_X5_findStuck_0 {Qk : Int32 → z_M → Prop} (X : z_XM l G A p R s m args meth c cX5_findStuck 3 "findStuck" (some .int) 10 167) {M : z_M} {H : Heap} {locs : List Loc} {ls : Array Slot} (hB : z_MB G z_P1c A s.heap T I0 Q o b M H locs) (hl : lv_has ls 3 [(0, .ref o)]) (h : wb_X5_findStuck_0 Qk M) : W p l e R s m args below meth c H locs 0 0 (z_MQ below G z_P1c A T I0 Q (z_mi Qk T Q o b) z_no args s 0 0) (F0 m 0 ls []) := by
  obtain ⟨hx, hb, -⟩ := id X
  unfold wb_X5_findStuck_0 at h
  refine lv_iconst (v := 1) hx hb dX5_findStuck_0 (by decide) ?_
  refine lv_istore_n (lv' := [(1, .int 1), (0, .ref o)]) hx hb dX5_findStuck_1 rfl hl (by decide) rfl (fun ls hl => ?_)
  obtain ⟨w, h⟩ := h
  exact wv_X5_findStuck_2 X  w hB (lv_sub hl [1, 0] rfl) h
theorem pk_X5_findStuck : z_PV RX5 yX5_findStuck cX5_findStuck 3 (some .int) 0 := ⟨q3583, qs73, q131, q3584, by decide +kernel⟩
theorem met_X5_findStuck {l : Launch} {G : z_E} {T : z_T} {I : z_I} {Q : z_Q} {o : Nat} {b : Nat → Nat} {M : z_M} (hL : z_lie T Q o b) (hM : z_of I o b = M) (Qk : Int32 → z_M → Prop) (h : wp_X5_findStuck M Qk) : z_GM l G yX5_findStuck (ws_ yX5_findStuck cX5_findStuck 3 (some .int)) 10 167 0 0 [.ref o] z_P1c T I Q (z_mi Qk T Q o b) z_no := by
  refine z_body (own := RX5) (nm := "findStuck") (by decide +kernel) rfl rfl (Nat.le_of_ble_eq_true rfl) (fun p e R s m below meth c A ls X hB hl => ?_)
  exact ww_X5_findStuck_0 X ⟨hL, I, hB, hM⟩ hl h
/-! X5_reasons -/
theorem ww_X5_reasons_0 {Qk : Int32 → z_M → Prop} (X : z_XM l G A p R s m args meth c cX5_reasons 3 "reasons" (some .int) 8 120) {M : z_M} {x1 : Int32} {x2 : Int32} {H : Heap} {locs : List Loc} {ls : Array Slot} (hB : z_MB G z_P1c A s.heap T I0 Q o b M H locs) (hl : lv_has ls 3 [(0, .ref o), (1, .int x1), (2, .int x2)]) (h : wb_X5_reasons_0 Qk M x1 x2) : W p l e R s m args below meth c H locs 0 0 (z_MQ below G z_P1c A T I0 Q (z_mi Qk T Q o b) z_no args s 0 0) (F0 m 0 ls []) := by
  obtain ⟨hx, hb, -⟩ := id X
  unfold wb_X5_reasons_0 at h
  refine lv_aload_n hx hb dX5_reasons_0 rfl (lv_at hl 0 rfl) ?_
  refine lv_iload_n hx hb dX5_reasons_1 rfl (lv_at hl 1 rfl) ?_
  obtain ⟨M1, eM1⟩ : ∃ z, z = z_us M 44 x1 := ⟨_, rfl⟩
  have h := h M1 eM1
  refine z_mputs (j := 44) (ty := .int) X hB q3254 rfl (Nat.le_of_ble_eq_true rfl) rfl rfl rfl rfl (Or.inl rfl) rfl dX5_reasons_2 (fun H locs hB => ?_)
  rw [← eM1] at hB
  refine lv_aload_n hx hb dX5_reasons_5 rfl (lv_at hl 0 rfl) ?_
  refine lv_iload_n hx hb dX5_reasons_6 rfl (lv_at hl 2 rfl) ?_
  obtain ⟨M2, eM2⟩ : ∃ z, z = z_us M1 45 x2 := ⟨_, rfl⟩
  have h := h M2 eM2
  refine z_mputs (j := 45) (ty := .int) X hB q3255 rfl (Nat.le_of_ble_eq_true rfl) rfl rfl rfl rfl (Or.inl rfl) rfl dX5_reasons_7 (fun H locs hB => ?_)
  rw [← eM2] at hB
  refine lv_iload_n hx hb dX5_reasons_10 rfl (lv_at hl 1 rfl) ?_
  obtain ⟨hL, I, hB, hM⟩ := hB
  exact z_iret X hB ⟨_, rfl, (by rw [hM]; exact h), rfl, rfl⟩ (Nat.le_refl 0) (Nat.le_refl 0) dX5_reasons_11
theorem pk_X5_reasons : z_PV RX5 yX5_reasons cX5_reasons 3 (some .int) 2 := ⟨q3575, qs71, q131, q3576, by decide +kernel⟩
theorem met_X5_reasons {l : Launch} {G : z_E} {T : z_T} {I : z_I} {Q : z_Q} {o : Nat} {b : Nat → Nat} {M : z_M} (hL : z_lie T Q o b) (hM : z_of I o b = M) (x1 : Int32) (x2 : Int32) (Qk : Int32 → z_M → Prop) (h : wp_X5_reasons M x1 x2 Qk) : z_GM l G yX5_reasons (ws_ yX5_reasons cX5_reasons 3 (some .int)) 8 120 0 0 [.ref o, .int x1, .int x2] z_P1c T I Q (z_mi Qk T Q o b) z_no := by
  refine z_body (own := RX5) (nm := "reasons") (by decide +kernel) rfl rfl (Nat.le_of_ble_eq_true rfl) (fun p e R s m below meth c A ls X hB hl => ?_)
  exact ww_X5_reasons_0 X ⟨hL, I, hB, hM⟩ hl h
/-! X5_answers -/
theorem ww_X5_answers_141 {k105 : z_M → Int32 → Int32 → Int32 → Int32 → Int32 → Prop} {Qk : Int32 → z_M → Prop} (X : z_XM l G A p R s m args meth c cX5_answers 9 "answers" (some .int) 12 208) (hk105 : ∀ {M : z_M} {x1 : Int32} {x2 : Int32} {x3 : Int32} {x7 : Int32} {x8 : Int32} {H : Heap} {locs : List Loc} {ls : Array Slot}, z_MB G z_P1c A s.heap T I0 Q o b M H locs → lv_has ls 9 [(0, .ref o), (1, .int x1), (2, .int x2), (3, .int x3), (7, .int x7), (8, .int x8)] → k105 M x1 x2 x3 x7 x8 → W p l e R s m args below meth c H locs 0 0 (z_MQ below G z_P1c A T I0 Q (z_mi Qk T Q o b) z_no args s 0 0) (F0 m 105 ls [])) {M : z_M} {x1 : Int32} {x2 : Int32} {x3 : Int32} {x7 : Int32} {x8 : Int32} {H : Heap} {locs : List Loc} {ls : Array Slot} (hB : z_MB G z_P1c A s.heap T I0 Q o b M H locs) (hl : lv_has ls 9 [(0, .ref o), (1, .int x1), (2, .int x2), (3, .int x3), (7, .int x7), (8, .int x8)]) (h : wb_X5_answers_141 k105 Qk M x1 x2 x3 x7 x8) : W p l e R s m args below meth c H locs 0 0 (z_MQ below G z_P1c A T I0 Q (z_mi Qk T Q o b) z_no args s 0 0) (F0 m 141 ls []) := by
  obtain ⟨hx, hb, -⟩ := id X
  unfold wb_X5_answers_141 at h
  obtain ⟨y36, ey36⟩ : ∃ z : Int32, z = x8 + 1 := ⟨_, rfl⟩
  have h := h y36 ey36
  refine lv_iinc (v := y36) (lv' := [(8, .int y36), (0, .ref o), (1, .int x1), (2, .int x2), (3, .int x3), (7, .int x7)]) hx hb dX5_answers_141 hl (k := 5) rfl (by rw [ey36]; rfl) (by decide) rfl (fun ls hl => ?_)
  refine lv_goto (tgt := 105) hx hb dX5_answers_144 (by decide) ?_
  exact hk105 hB (lv_sub hl [1, 2, 3, 4, 5, 0] rfl) h
theorem ww_X5_answers_207 {Qk : Int32 → z_M → Prop} (X : z_XM l G A p R s m args meth c cX5_answers 9 "answers" (some .int) 12 208) {M : z_M} {s0 : Int32} {H : Heap} {locs : List Loc} {ls : Array Slot} (hB : z_MB G z_P1c A s.heap T I0 Q o b M H locs) (hl : lv_has ls 9 []) (h : wb_X5_answers_207 Qk M s0) : W p l e R s m args below meth c H locs 0 0 (z_MQ below G z_P1c A T I0 Q (z_mi Qk T Q o b) z_no args s 0 0) (F0 m 207 ls [.int s0]) := by
  obtain ⟨hx, hb, -⟩ := id X
  unfold wb_X5_answers_207 at h
  obtain ⟨hL, I, hB, hM⟩ := hB
  exact z_iret X hB ⟨_, rfl, (by rw [hM]; exact h), rfl, rfl⟩ (Nat.le_refl 0) (Nat.le_refl 0) dX5_answers_207
theorem wv_X5_answers_105 {Qk : Int32 → z_M → Prop} (X : z_XM l G A p R s m args meth c cX5_answers 9 "answers" (some .int) 12 208) : ∀ (n : Nat) {M : z_M} {x1 : Int32} {x2 : Int32} {x3 : Int32} {x7 : Int32} {x8 : Int32} {H : Heap} {locs : List Loc} {ls : Array Slot}, z_MB G z_P1c A s.heap T I0 Q o b M H locs → lv_has ls 9 [(0, .ref o), (1, .int x1), (2, .int x2), (3, .int x3), (7, .int x7), (8, .int x8)] → wl_X5_answers_105 Qk n M x1 x2 x3 x7 x8 → W p l e R s m args below meth c H locs 0 0 (z_MQ below G z_P1c A T I0 Q (z_mi Qk T Q o b) z_no args s 0 0) (F0 m 105 ls []) := by
  intro n
  induction n with
  | zero =>
    intro M x1 x2 x3 x7 x8 H locs ls hB hl h
    exact h.elim
  | succ n ih =>
    intro M x1 x2 x3 x7 x8 H locs ls hB hl h
    obtain ⟨hx, hb, -⟩ := id X
    unfold wl_X5_answers_105 at h
    refine lv_iload hx hb dX5_answers_105 (lv_at hl 5 rfl) ?_
    refine lv_iconst (v := 3) hx hb dX5_answers_107 (by decide) ?_
    refine lv_icmp_ge (tgt := 147) hx hb dX5_answers_108 (by decide) (fun c15 => ?_) (fun c15 => ?_)
    · have h := h.1 c15
      refine lv_aload_n hx hb dX5_answers_147 rfl (lv_at hl 0 rfl) ?_
      refine z_mcallv (fun _ h => h) (fun I1 hB1 hM => z_runV (rest := []) [] pk_X5_findNow (met_X5_findNow hB.1 hM _ h) X hB1 (by decide) q3577 kc_X5 (by decide) (by rw [hB.1.1]) rfl hl.1 (Nat.le_of_ble_eq_true rfl) dX5_answers_148 (Nat.le_refl 0) (Nat.le_refl 0) (by decide) (by decide)) hB (fun M17 H locs h hB => ?_)
      refine lv_aload_n hx hb dX5_answers_151 rfl (lv_at hl 0 rfl) ?_
      refine z_mgeta (j := 41) X hB q3251 rfl (Nat.le_of_ble_eq_true rfl) rfl (by decide) dX5_answers_152 ?_
      refine lv_iload_n hx hb dX5_answers_155 rfl (lv_at hl 1 rfl) ?_
      refine lv_dup2_11 hx hb dX5_answers_156 rfl rfl ?_
      obtain ⟨h1, h⟩ := h
      refine z_mald (f := 41) X hB (by decide) h1 dX5_answers_157 ?_
      refine lv_iconst (v := 1) hx hb dX5_answers_158 (by decide) ?_
      refine lv_iload hx hb dX5_answers_159 (lv_at hl 4 rfl) ?_
      refine lv_ishl hx hb dX5_answers_161 ?_
      refine lv_ior hx hb dX5_answers_162 ?_
      obtain ⟨h1, h⟩ := h
      obtain ⟨M18, eM18⟩ : ∃ z, z = z_up M17 41 x1.toNatClampNeg ((M17 41 x1.toNatClampNeg) ||| (1 <<< (x7 &&& 31))) := ⟨_, rfl⟩
      have h := h M18 eM18
      refine z_mast (P := z_P1c) (f := 41) rfl X hB (by decide) h1 dX5_answers_163 (fun H locs hB => ?_)
      rw [← eM18] at hB
      refine lv_aload_n hx hb dX5_answers_164 rfl (lv_at hl 0 rfl) ?_
      refine z_mgeta (j := 42) X hB q3252 rfl (Nat.le_of_ble_eq_true rfl) rfl (by decide) dX5_answers_165 ?_
      refine lv_iload_n hx hb dX5_answers_168 rfl (lv_at hl 1 rfl) ?_
      refine lv_iload_n hx hb dX5_answers_169 rfl (lv_at hl 2 rfl) ?_
      obtain ⟨h1, h⟩ := h
      obtain ⟨M19, eM19⟩ : ∃ z, z = z_up M18 42 x1.toNatClampNeg x2 := ⟨_, rfl⟩
      have h := h M19 eM19
      refine z_mast (P := z_P1c) (f := 42) rfl X hB (by decide) h1 dX5_answers_170 (fun H locs hB => ?_)
      rw [← eM19] at hB
      refine lv_aload_n hx hb dX5_answers_171 rfl (lv_at hl 0 rfl) ?_
      refine z_mgeta (j := 43) X hB q3253 rfl (Nat.le_of_ble_eq_true rfl) rfl (by decide) dX5_answers_172 ?_
      refine lv_iload_n hx hb dX5_answers_175 rfl (lv_at hl 1 rfl) ?_
      refine lv_iload_n hx hb dX5_answers_176 rfl (lv_at hl 3 rfl) ?_
      refine lv_iconst (v := 1) hx hb dX5_answers_177 (by decide) ?_
      refine lv_iadd hx hb dX5_answers_178 ?_
      obtain ⟨h1, h⟩ := h
      obtain ⟨M20, eM20⟩ : ∃ z, z = z_up M19 43 x1.toNatClampNeg (x3 + 1) := ⟨_, rfl⟩
      have h := h M20 eM20
      refine z_mast (P := z_P1c) (f := 43) rfl X hB (by decide) h1 dX5_answers_179 (fun H locs hB => ?_)
      rw [← eM20] at hB
      refine lv_aload_n hx hb dX5_answers_180 rfl (lv_at hl 0 rfl) ?_
      refine z_mcalli (fun _ h => h) (fun I1 hB1 hM => z_runV (rest := []) [] pk_X5_findStuck (met_X5_findStuck hB.1 hM _ h) X hB1 (by decide) q3581 kc_X5 (by decide) (by rw [hB.1.1]) rfl hl.1 (Nat.le_of_ble_eq_true rfl) dX5_answers_181 (Nat.le_refl 0) (Nat.le_refl 0) (by decide) (by decide)) hB (fun r21 M22 H locs h hB => ?_)
      refine lv_istore (lv' := [(8, .int r21), (0, .ref o), (1, .int x1), (2, .int x2), (3, .int x3), (7, .int x7)]) hx hb dX5_answers_184 hl (by decide) rfl (fun ls hl => ?_)
      refine lv_iload hx hb dX5_answers_186 (lv_at hl 0 rfl) ?_
      refine lv_if_ge (tgt := 200) hx hb dX5_answers_188 (by decide) (fun c23 => ?_) (fun c23 => ?_)
      · have h := h.1 c23
        refine lv_aload_n hx hb dX5_answers_200 rfl (lv_at hl 1 rfl) ?_
        refine lv_iconst (v := 4) hx hb dX5_answers_201 (by decide) ?_
        refine lv_iload hx hb dX5_answers_202 (lv_at hl 0 rfl) ?_
        refine z_mcalli (fun _ h => h) (fun I1 hB1 hM => z_runV (rest := []) [.int 4, .int r21] pk_X5_reasons (met_X5_reasons hB.1 hM 4 r21 _ h) X hB1 (by decide) q3573 kc_X5 (by decide) (by rw [hB.1.1]) rfl hl.1 (Nat.le_of_ble_eq_true rfl) dX5_answers_204 (Nat.le_refl 0) (Nat.le_refl 0) (by decide) (by decide)) hB (fun r24 M25 H locs h hB => ?_)
        exact ww_X5_answers_207 X  hB (lv_sub hl [] rfl) h
      · have h := h.2 c23
        refine lv_aload_n hx hb dX5_answers_191 rfl (lv_at hl 1 rfl) ?_
        refine lv_iconst (v := 0) hx hb dX5_answers_192 (by decide) ?_
        refine lv_iconst (v := (-1)) hx hb dX5_answers_193 (by decide) ?_
        refine z_mcalli (fun _ h => h) (fun I1 hB1 hM => z_runV (rest := []) [.int 0, .int (-1)] pk_X5_reasons (met_X5_reasons hB.1 hM 0 (-1) _ h) X hB1 (by decide) q3573 kc_X5 (by decide) (by rw [hB.1.1]) rfl hl.1 (Nat.le_of_ble_eq_true rfl) dX5_answers_194 (Nat.le_refl 0) (Nat.le_refl 0) (by decide) (by decide)) hB (fun r26 M27 H locs h hB => ?_)
        refine lv_goto (tgt := 207) hx hb dX5_answers_197 (by decide) ?_
        exact ww_X5_answers_207 X  hB (lv_sub hl [] rfl) h
    · have h := h.2 c15
      refine lv_iload hx hb dX5_answers_111 (lv_at hl 5 rfl) ?_
      refine lv_iload_n hx hb dX5_answers_113 rfl (lv_at hl 1 rfl) ?_
      refine lv_icmp_eq (tgt := 141) hx hb dX5_answers_114 (by decide) (fun c28 => ?_) (fun c28 => ?_)
      · have h := h.1 c28
        exact ww_X5_answers_141 X (fun hB hl h => ih hB hl h) hB (lv_sub hl [0, 1, 2, 3, 4, 5] rfl) h
      · have h := h.2 c28
        refine lv_aload_n hx hb dX5_answers_117 rfl (lv_at hl 0 rfl) ?_
        refine lv_iload hx hb dX5_answers_118 (lv_at hl 5 rfl) ?_
        refine z_mcalli (fun _ h => h) (fun I1 hB1 hM => z_runV (rest := []) [.int x8] pk_X5_holds (met_X5_holds hB.1 hM x8 _ h) X hB1 (by decide) q3422 kc_X5 (by decide) (by rw [hB.1.1]) rfl hl.1 (Nat.le_of_ble_eq_true rfl) dX5_answers_120 (Nat.le_refl 0) (Nat.le_refl 0) (by decide) (by decide)) hB (fun r29 M30 H locs h hB => ?_)
        obtain ⟨h, eM30⟩ := h
        rw [eM30] at hB
        refine lv_aload_n hx hb dX5_answers_123 rfl (lv_at hl 0 rfl) ?_
        refine lv_iload hx hb dX5_answers_124 (lv_at hl 4 rfl) ?_
        refine z_mcalli (fun _ h => h) (fun I1 hB1 hM => z_runV (rest := [.int r29]) [.int x7] pk_X5_conflicts (met_X5_conflicts hB.1 hM x7 _ h) X hB1 (by decide) q3495 kc_X5 (by decide) (by rw [hB.1.1]) rfl hl.1 (Nat.le_of_ble_eq_true rfl) dX5_answers_126 (Nat.le_refl 0) (Nat.le_refl 0) (by decide) (by decide)) hB (fun r31 M32 H locs h hB => ?_)
        obtain ⟨h, eM32⟩ := h
        rw [eM32] at hB
        refine lv_iand hx hb dX5_answers_129 ?_
        refine lv_if_eq (tgt := 141) hx hb dX5_answers_130 (by decide) (fun c33 => ?_) (fun c33 => ?_)
        · have h := h.1 c33
          exact ww_X5_answers_141 X (fun hB hl h => ih hB hl h) hB (lv_sub hl [0, 1, 2, 3, 4, 5] rfl) h
        · have h := h.2 c33
          refine lv_aload_n hx hb dX5_answers_133 rfl (lv_at hl 0 rfl) ?_
          refine lv_iconst (v := 3) hx hb dX5_answers_134 (by decide) ?_
          refine lv_iload hx hb dX5_answers_135 (lv_at hl 5 rfl) ?_
          refine z_mcalli (fun _ h => h) (fun I1 hB1 hM => z_runV (rest := []) [.int 3, .int x8] pk_X5_reasons (met_X5_reasons hB.1 hM 3 x8 _ h) X hB1 (by decide) q3573 kc_X5 (by decide) (by rw [hB.1.1]) rfl hl.1 (Nat.le_of_ble_eq_true rfl) dX5_answers_137 (Nat.le_refl 0) (Nat.le_refl 0) (by decide) (by decide)) hB (fun r34 M35 H locs h hB => ?_)
          obtain ⟨hL, I, hB, hM⟩ := hB
          exact z_iret X hB ⟨_, rfl, (by rw [hM]; exact h), rfl, rfl⟩ (Nat.le_refl 0) (Nat.le_refl 0) dX5_answers_140
theorem ww_X5_answers_94 {Qk : Int32 → z_M → Prop} (X : z_XM l G A p R s m args meth c cX5_answers 9 "answers" (some .int) 12 208) {M : z_M} {x1 : Int32} {x2 : Int32} {x3 : Int32} {H : Heap} {locs : List Loc} {ls : Array Slot} (hB : z_MB G z_P1c A s.heap T I0 Q o b M H locs) (hl : lv_has ls 9 [(0, .ref o), (1, .int x1), (2, .int x2), (3, .int x3)]) (h : wb_X5_answers_94 Qk M x1 x2 x3) : W p l e R s m args below meth c H locs 0 0 (z_MQ below G z_P1c A T I0 Q (z_mi Qk T Q o b) z_no args s 0 0) (F0 m 94 ls []) := by
  obtain ⟨hx, hb, -⟩ := id X
  unfold wb_X5_answers_94 at h
  refine lv_aload_n hx hb dX5_answers_94 rfl (lv_at hl 0 rfl) ?_
  refine lv_iload_n hx hb dX5_answers_95 rfl (lv_at hl 2 rfl) ?_
  refine lv_iload_n hx hb dX5_answers_96 rfl (lv_at hl 3 rfl) ?_
  refine z_mcalli (fun _ h => h) (fun I1 hB1 hM => z_runV (rest := []) [.int x2, .int x3] pk_X5_zoneAt (met_X5_zoneAt hB.1 hM x2 x3 _ h) X hB1 (by decide) q3430 kc_X5 (by decide) (by rw [hB.1.1]) rfl hl.1 (Nat.le_of_ble_eq_true rfl) dX5_answers_97 (Nat.le_refl 0) (Nat.le_refl 0) (by decide) (by decide)) hB (fun r13 M14 H locs h hB => ?_)
  obtain ⟨h, eM14⟩ := h
  rw [eM14] at hB
  refine lv_istore (lv' := [(7, .int r13), (0, .ref o), (1, .int x1), (2, .int x2), (3, .int x3)]) hx hb dX5_answers_100 hl (by decide) rfl (fun ls hl => ?_)
  refine lv_iconst (v := 0) hx hb dX5_answers_102 (by decide) ?_
  refine lv_istore (lv' := [(8, .int 0), (7, .int r13), (0, .ref o), (1, .int x1), (2, .int x2), (3, .int x3)]) hx hb dX5_answers_103 hl (by decide) rfl (fun ls hl => ?_)
  obtain ⟨w, h⟩ := h
  exact wv_X5_answers_105 X  w hB (lv_sub hl [2, 3, 4, 5, 1, 0] rfl) h
theorem ww_X5_answers_51 {Qk : Int32 → z_M → Prop} (X : z_XM l G A p R s m args meth c cX5_answers 9 "answers" (some .int) 12 208) {M : z_M} {x1 : Int32} {x2 : Int32} {x3 : Int32} {x4 : Int32} {x6 : Int32} {H : Heap} {locs : List Loc} {ls : Array Slot} (hB : z_MB G z_P1c A s.heap T I0 Q o b M H locs) (hl : lv_has ls 9 [(0, .ref o), (1, .int x1), (2, .int x2), (3, .int x3), (4, .int x4), (6, .int x6)]) (h : wb_X5_answers_51 Qk M x1 x2 x3 x4 x6) : W p l e R s m args below meth c H locs 0 0 (z_MQ below G z_P1c A T I0 Q (z_mi Qk T Q o b) z_no args s 0 0) (F0 m 51 ls []) := by
  obtain ⟨hx, hb, -⟩ := id X
  unfold wb_X5_answers_51 at h
  refine lv_iload hx hb dX5_answers_51 (lv_at hl 4 rfl) ?_
  refine lv_if_eq (tgt := 94) hx hb dX5_answers_53 (by decide) (fun c8 => ?_) (fun c8 => ?_)
  · have h := h.1 c8
    exact ww_X5_answers_94 X  hB (lv_sub hl [0, 1, 2, 3] rfl) h
  · have h := h.2 c8
    refine lv_iload hx hb dX5_answers_56 (lv_at hl 5 rfl) ?_
    refine lv_if_lt (tgt := 94) hx hb dX5_answers_58 (by decide) (fun c9 => ?_) (fun c9 => ?_)
    · have h := h.1 c9
      exact ww_X5_answers_94 X  hB (lv_sub hl [0, 1, 2, 3] rfl) h
    · have h := h.2 c9
      refine lv_aload_n hx hb dX5_answers_61 rfl (lv_at hl 0 rfl) ?_
      refine z_mgeta (j := 4) X hB q3214 rfl (Nat.le_of_ble_eq_true rfl) rfl (by decide) dX5_answers_62 ?_
      refine lv_iload hx hb dX5_answers_65 (lv_at hl 5 rfl) ?_
      obtain ⟨h1, h⟩ := h
      refine z_mald (f := 4) X hB (by decide) h1 dX5_answers_67 ?_
      refine lv_aload_n hx hb dX5_answers_68 rfl (lv_at hl 0 rfl) ?_
      refine z_mgeta (j := 6) X hB q3216 rfl (Nat.le_of_ble_eq_true rfl) rfl (by decide) dX5_answers_69 ?_
      refine lv_iload hx hb dX5_answers_72 (lv_at hl 5 rfl) ?_
      obtain ⟨h1, h⟩ := h
      refine z_mald (f := 6) X hB (by decide) h1 dX5_answers_74 ?_
      refine lv_iadd hx hb dX5_answers_75 ?_
      refine lv_aload_n hx hb dX5_answers_76 rfl (lv_at hl 0 rfl) ?_
      refine z_mgeta (j := 3) X hB q3213 rfl (Nat.le_of_ble_eq_true rfl) rfl (by decide) dX5_answers_77 ?_
      refine lv_iload hx hb dX5_answers_80 (lv_at hl 5 rfl) ?_
      obtain ⟨h1, h⟩ := h
      refine z_mald (f := 3) X hB (by decide) h1 dX5_answers_82 ?_
      refine lv_icmp_lt (tgt := 94) hx hb dX5_answers_83 (by decide) (fun c10 => ?_) (fun c10 => ?_)
      · have h := h.1 c10
        exact ww_X5_answers_94 X  hB (lv_sub hl [0, 1, 2, 3] rfl) h
      · have h := h.2 c10
        refine lv_aload_n hx hb dX5_answers_86 rfl (lv_at hl 0 rfl) ?_
        refine lv_iconst (v := 2) hx hb dX5_answers_87 (by decide) ?_
        refine lv_iload hx hb dX5_answers_88 (lv_at hl 5 rfl) ?_
        refine z_mcalli (fun _ h => h) (fun I1 hB1 hM => z_runV (rest := []) [.int 2, .int x6] pk_X5_reasons (met_X5_reasons hB.1 hM 2 x6 _ h) X hB1 (by decide) q3573 kc_X5 (by decide) (by rw [hB.1.1]) rfl hl.1 (Nat.le_of_ble_eq_true rfl) dX5_answers_90 (Nat.le_refl 0) (Nat.le_refl 0) (by decide) (by decide)) hB (fun r11 M12 H locs h hB => ?_)
        obtain ⟨hL, I, hB, hM⟩ := hB
        exact z_iret X hB ⟨_, rfl, (by rw [hM]; exact h), rfl, rfl⟩ (Nat.le_refl 0) (Nat.le_refl 0) dX5_answers_93
theorem ww_X5_answers_0 {Qk : Int32 → z_M → Prop} (X : z_XM l G A p R s m args meth c cX5_answers 9 "answers" (some .int) 12 208) {M : z_M} {x1 : Int32} {x2 : Int32} {x3 : Int32} {x4 : Int32} {H : Heap} {locs : List Loc} {ls : Array Slot} (hB : z_MB G z_P1c A s.heap T I0 Q o b M H locs) (hl : lv_has ls 9 [(0, .ref o), (1, .int x1), (2, .int x2), (3, .int x3), (4, .int x4)]) (h : wb_X5_answers_0 Qk M x1 x2 x3 x4) : W p l e R s m args below meth c H locs 0 0 (z_MQ below G z_P1c A T I0 Q (z_mi Qk T Q o b) z_no args s 0 0) (F0 m 0 ls []) := by
  obtain ⟨hx, hb, -⟩ := id X
  unfold wb_X5_answers_0 at h
  refine lv_aload_n hx hb dX5_answers_0 rfl (lv_at hl 0 rfl) ?_
  refine z_mgeta (j := 27) X hB q3237 rfl (Nat.le_of_ble_eq_true rfl) rfl (by decide) dX5_answers_1 ?_
  refine lv_iload_n hx hb dX5_answers_4 rfl (lv_at hl 2 rfl) ?_
  obtain ⟨h1, h⟩ := h
  refine z_mald (f := 27) X hB (by decide) h1 dX5_answers_5 ?_
  refine lv_topi (fun y1 ey1 => ?_)
  have h := h y1 ey1
  refine lv_istore (lv' := [(5, .int y1), (0, .ref o), (1, .int x1), (2, .int x2), (3, .int x3), (4, .int x4)]) hx hb dX5_answers_6 hl (by decide) rfl (fun ls hl => ?_)
  refine lv_aload_n hx hb dX5_answers_8 rfl (lv_at hl 1 rfl) ?_
  refine z_mgeta (j := 28) X hB q3238 rfl (Nat.le_of_ble_eq_true rfl) rfl (by decide) dX5_answers_9 ?_
  refine lv_iload_n hx hb dX5_answers_12 rfl (lv_at hl 3 rfl) ?_
  obtain ⟨h1, h⟩ := h
  refine z_mald (f := 28) X hB (by decide) h1 dX5_answers_13 ?_
  refine lv_topi (fun y2 ey2 => ?_)
  have h := h y2 ey2
  refine lv_istore (lv' := [(6, .int y2), (5, .int y1), (0, .ref o), (1, .int x1), (2, .int x2), (3, .int x3), (4, .int x4)]) hx hb dX5_answers_14 hl (by decide) rfl (fun ls hl => ?_)
  refine lv_iload hx hb dX5_answers_16 (lv_at hl 6 rfl) ?_
  refine lv_if_eq (tgt := 51) hx hb dX5_answers_18 (by decide) (fun c3 => ?_) (fun c3 => ?_)
  · have h := h.1 c3
    exact ww_X5_answers_51 X  hB (lv_sub hl [2, 3, 4, 5, 6, 0] rfl) h
  · have h := h.2 c3
    refine lv_iload hx hb dX5_answers_21 (lv_at hl 1 rfl) ?_
    refine lv_if_lt (tgt := 51) hx hb dX5_answers_23 (by decide) (fun c4 => ?_) (fun c4 => ?_)
    · have h := h.1 c4
      exact ww_X5_answers_51 X  hB (lv_sub hl [2, 3, 4, 5, 6, 0] rfl) h
    · have h := h.2 c4
      refine lv_aload_n hx hb dX5_answers_26 rfl (lv_at hl 2 rfl) ?_
      refine z_mgeta (j := 4) X hB q3214 rfl (Nat.le_of_ble_eq_true rfl) rfl (by decide) dX5_answers_27 ?_
      refine lv_iload hx hb dX5_answers_30 (lv_at hl 1 rfl) ?_
      obtain ⟨h1, h⟩ := h
      refine z_mald (f := 4) X hB (by decide) h1 dX5_answers_32 ?_
      refine lv_aload_n hx hb dX5_answers_33 rfl (lv_at hl 2 rfl) ?_
      refine z_mgeta (j := 7) X hB q3217 rfl (Nat.le_of_ble_eq_true rfl) rfl (by decide) dX5_answers_34 ?_
      refine lv_iload hx hb dX5_answers_37 (lv_at hl 1 rfl) ?_
      obtain ⟨h1, h⟩ := h
      refine z_mald (f := 7) X hB (by decide) h1 dX5_answers_39 ?_
      refine lv_icmp_gt (tgt := 51) hx hb dX5_answers_40 (by decide) (fun c5 => ?_) (fun c5 => ?_)
      · have h := h.1 c5
        exact ww_X5_answers_51 X  hB (lv_sub hl [2, 3, 4, 5, 6, 0] rfl) h
      · have h := h.2 c5
        refine lv_aload_n hx hb dX5_answers_43 rfl (lv_at hl 2 rfl) ?_
        refine lv_iconst (v := 1) hx hb dX5_answers_44 (by decide) ?_
        refine lv_iload hx hb dX5_answers_45 (lv_at hl 1 rfl) ?_
        refine z_mcalli (fun _ h => h) (fun I1 hB1 hM => z_runV (rest := []) [.int 1, .int y1] pk_X5_reasons (met_X5_reasons hB.1 hM 1 y1 _ h) X hB1 (by decide) q3573 kc_X5 (by decide) (by rw [hB.1.1]) rfl hl.1 (Nat.le_of_ble_eq_true rfl) dX5_answers_47 (Nat.le_refl 0) (Nat.le_refl 0) (by decide) (by decide)) hB (fun r6 M7 H locs h hB => ?_)
        obtain ⟨hL, I, hB, hM⟩ := hB
        exact z_iret X hB ⟨_, rfl, (by rw [hM]; exact h), rfl, rfl⟩ (Nat.le_refl 0) (Nat.le_refl 0) dX5_answers_50
theorem pk_X5_answers : z_PV RX5 yX5_answers cX5_answers 9 (some .int) 4 := ⟨q3571, qs70, q131, q3572, by decide +kernel⟩
theorem met_X5_answers {l : Launch} {G : z_E} {T : z_T} {I : z_I} {Q : z_Q} {o : Nat} {b : Nat → Nat} {M : z_M} (hL : z_lie T Q o b) (hM : z_of I o b = M) (x1 : Int32) (x2 : Int32) (x3 : Int32) (x4 : Int32) (Qk : Int32 → z_M → Prop) (h : wp_X5_answers M x1 x2 x3 x4 Qk) : z_GM l G yX5_answers (ws_ yX5_answers cX5_answers 9 (some .int)) 12 208 0 0 [.ref o, .int x1, .int x2, .int x3, .int x4] z_P1c T I Q (z_mi Qk T Q o b) z_no := by
  refine z_body (own := RX5) (nm := "answers") (by decide +kernel) rfl rfl (Nat.le_of_ble_eq_true rfl) (fun p e R s m below meth c A ls X hB hl => ?_)
  exact ww_X5_answers_0 X ⟨hL, I, hB, hM⟩ hl h
/-! X5_isGranted -/
theorem ww_X5_isGranted_0 {Qk : Int32 → z_M → Prop} (X : z_XM l G A p R s m args meth c cX5_isGranted 5 "isGranted" (some .boolean) 13 236) {M : z_M} {x1 : Int32} {x2 : Int32} {x3 : Int32} {x4 : Int32} {H : Heap} {locs : List Loc} {ls : Array Slot} (hB : z_MB G z_P1c A s.heap T I0 Q o b M H locs) (hl : lv_has ls 5 [(0, .ref o), (1, .int x1), (2, .int x2), (3, .int x3), (4, .int x4)]) (h : wb_X5_isGranted_0 Qk M x1 x2 x3 x4) : W p l e R s m args below meth c H locs 0 0 (z_MQ below G z_P1c A T I0 Q (z_mz Qk T Q o b) z_no args s 0 0) (F0 m 0 ls []) := by
  obtain ⟨hx, hb, -⟩ := id X
  unfold wb_X5_isGranted_0 at h
  refine lv_aload_n hx hb dX5_isGranted_0 rfl (lv_at hl 0 rfl) ?_
  refine lv_iload_n hx hb dX5_isGranted_1 rfl (lv_at hl 1 rfl) ?_
  refine lv_iload_n hx hb dX5_isGranted_2 rfl (lv_at hl 2 rfl) ?_
  refine lv_iload_n hx hb dX5_isGranted_3 rfl (lv_at hl 3 rfl) ?_
  refine lv_iload hx hb dX5_isGranted_4 (lv_at hl 4 rfl) ?_
  refine z_mcalli (fun _ h => h) (fun I1 hB1 hM => z_runV (rest := []) [.int x1, .int x2, .int x3, .int x4] pk_X5_answers (met_X5_answers hB.1 hM x1 x2 x3 x4 _ h) X hB1 (by decide) q3569 kc_X5 (by decide) (by rw [hB.1.1]) rfl hl.1 (Nat.le_of_ble_eq_true rfl) dX5_isGranted_6 (Nat.le_refl 0) (Nat.le_refl 0) (by decide) (by decide)) hB (fun r1 M2 H locs h hB => ?_)
  refine lv_if_ne (tgt := 14) hx hb dX5_isGranted_9 (by decide) (fun c3 => ?_) (fun c3 => ?_)
  · have h := h.1 c3
    refine lv_aload_n hx hb dX5_isGranted_14 rfl (lv_at hl 0 rfl) ?_
    refine z_mgeta (j := 18) X hB q3228 rfl (Nat.le_of_ble_eq_true rfl) rfl (by decide) dX5_isGranted_15 ?_
    refine lv_iload_n hx hb dX5_isGranted_18 rfl (lv_at hl 1 rfl) ?_
    refine lv_aload_n hx hb dX5_isGranted_19 rfl (lv_at hl 0 rfl) ?_
    refine z_mgets (j := 44) X hB q3254 rfl (Nat.le_of_ble_eq_true rfl) rfl rfl dX5_isGranted_20 ?_
    obtain ⟨h1, h⟩ := h
    obtain ⟨M4, eM4⟩ : ∃ z, z = z_up M2 18 x1.toNatClampNeg (M2 44 0) := ⟨_, rfl⟩
    have h := h M4 eM4
    refine z_mast (P := z_P1c) (f := 18) rfl X hB (by decide) h1 dX5_isGranted_23 (fun H locs hB => ?_)
    rw [← eM4] at hB
    refine lv_aload_n hx hb dX5_isGranted_24 rfl (lv_at hl 0 rfl) ?_
    refine z_mgeta (j := 19) X hB q3229 rfl (Nat.le_of_ble_eq_true rfl) rfl (by decide) dX5_isGranted_25 ?_
    refine lv_iload_n hx hb dX5_isGranted_28 rfl (lv_at hl 1 rfl) ?_
    refine lv_aload_n hx hb dX5_isGranted_29 rfl (lv_at hl 0 rfl) ?_
    refine z_mgets (j := 45) X hB q3255 rfl (Nat.le_of_ble_eq_true rfl) rfl rfl dX5_isGranted_30 ?_
    obtain ⟨h1, h⟩ := h
    obtain ⟨M5, eM5⟩ : ∃ z, z = z_up M4 19 x1.toNatClampNeg (M4 45 0) := ⟨_, rfl⟩
    have h := h M5 eM5
    refine z_mast (P := z_P1c) (f := 19) rfl X hB (by decide) h1 dX5_isGranted_33 (fun H locs hB => ?_)
    rw [← eM5] at hB
    refine lv_aload_n hx hb dX5_isGranted_34 rfl (lv_at hl 0 rfl) ?_
    refine z_mgeta (j := 20) X hB q3230 rfl (Nat.le_of_ble_eq_true rfl) rfl (by decide) dX5_isGranted_35 ?_
    refine lv_iload_n hx hb dX5_isGranted_38 rfl (lv_at hl 1 rfl) ?_
    refine lv_dup2_11 hx hb dX5_isGranted_39 rfl rfl ?_
    obtain ⟨h1, h⟩ := h
    refine z_mald (f := 20) X hB (by decide) h1 dX5_isGranted_40 ?_
    refine lv_iconst (v := 1) hx hb dX5_isGranted_41 (by decide) ?_
    refine lv_iadd hx hb dX5_isGranted_42 ?_
    obtain ⟨h1, h⟩ := h
    obtain ⟨M6, eM6⟩ : ∃ z, z = z_up M5 20 x1.toNatClampNeg ((M5 20 x1.toNatClampNeg) + 1) := ⟨_, rfl⟩
    have h := h M6 eM6
    refine z_mast (P := z_P1c) (f := 20) rfl X hB (by decide) h1 dX5_isGranted_43 (fun H locs hB => ?_)
    rw [← eM6] at hB
    refine lv_aload_n hx hb dX5_isGranted_44 rfl (lv_at hl 0 rfl) ?_
    refine lv_iconst (v := 1) hx hb dX5_isGranted_45 (by decide) ?_
    obtain ⟨M7, eM7⟩ : ∃ z, z = z_us M6 46 1 := ⟨_, rfl⟩
    have h := h M7 eM7
    refine z_mputs (j := 46) (ty := .boolean) X hB q3256 rfl (Nat.le_of_ble_eq_true rfl) rfl rfl rfl rfl (Or.inr ⟨rfl, Or.inr rfl⟩) rfl dX5_isGranted_46 (fun H locs hB => ?_)
    rw [← eM7] at hB
    refine lv_iconst (v := 0) hx hb dX5_isGranted_49 (by decide) ?_
    obtain ⟨hL, I, hB, hM⟩ := hB
    exact z_zret X hB (Or.inl rfl) ⟨_, rfl, (Or.inl rfl), (by rw [hM]; exact h), rfl, rfl⟩ (Nat.le_refl 0) (Nat.le_refl 0) dX5_isGranted_50
  · have h := h.2 c3
    refine lv_iconst (v := 1) hx hb dX5_isGranted_12 (by decide) ?_
    obtain ⟨hL, I, hB, hM⟩ := hB
    exact z_zret X hB (Or.inr rfl) ⟨_, rfl, (Or.inr rfl), (by rw [hM]; exact h), rfl, rfl⟩ (Nat.le_refl 0) (Nat.le_refl 0) dX5_isGranted_13
theorem pk_X5_isGranted : z_PV RX5 yX5_isGranted cX5_isGranted 5 (some .boolean) 4 := ⟨q3567, qs69, q131, q3568, by decide +kernel⟩
theorem met_X5_isGranted {l : Launch} {G : z_E} {T : z_T} {I : z_I} {Q : z_Q} {o : Nat} {b : Nat → Nat} {M : z_M} (hL : z_lie T Q o b) (hM : z_of I o b = M) (x1 : Int32) (x2 : Int32) (x3 : Int32) (x4 : Int32) (Qk : Int32 → z_M → Prop) (h : wp_X5_isGranted M x1 x2 x3 x4 Qk) : z_GM l G yX5_isGranted (ws_ yX5_isGranted cX5_isGranted 5 (some .boolean)) 13 236 0 0 [.ref o, .int x1, .int x2, .int x3, .int x4] z_P1c T I Q (z_mz Qk T Q o b) z_no := by
  refine z_body (own := RX5) (nm := "isGranted") (by decide +kernel) rfl rfl (Nat.le_of_ble_eq_true rfl) (fun p e R s m below meth c A ls X hB hl => ?_)
  exact ww_X5_isGranted_0 X ⟨hL, I, hB, hM⟩ hl h
/-! X5_requestsNext -/
theorem ww_X5_requestsNext_90 {Qk : z_M → Prop} (X : z_XM l G A p R s m args meth c cX5_requestsNext 4 "requestsNext" none 14 260) {M : z_M} {x1 : Int32} {x3 : Int32} {s0 : Nat} {s1 : Int32} {s2 : Int32} {s3 : Int32} {H : Heap} {locs : List Loc} {ls : Array Slot} (hf_s0 : z_ln s0 ≠ 0) (hB : z_MB G z_P1c A s.heap T I0 Q o b M H locs) (hl : lv_has ls 4 [(0, .ref o), (1, .int x1), (3, .int x3)]) (h : wb_X5_requestsNext_90 Qk M x1 x3 s0 s1 s2 s3) : W p l e R s m args below meth c H locs 0 0 (z_MQ below G z_P1c A T I0 Q (z_mv_ Qk T Q o b) z_no args s 0 0) (F0 m 90 ls [.int s3, .int s2, .int s1, .ref (b s0)]) := by
  obtain ⟨hx, hb, -⟩ := id X
  unfold wb_X5_requestsNext_90 at h
  refine lv_iadd hx hb dX5_requestsNext_90 ?_
  obtain ⟨h1, h⟩ := h
  obtain ⟨M13, eM13⟩ : ∃ z, z = z_up M s0 s1.toNatClampNeg (s2 + s3) := ⟨_, rfl⟩
  have h := h M13 eM13
  refine z_mast (P := z_P1c) (f := s0) rfl X hB hf_s0 h1 dX5_requestsNext_91 (fun H locs hB => ?_)
  rw [← eM13] at hB
  refine lv_aload_n hx hb dX5_requestsNext_92 rfl (lv_at hl 0 rfl) ?_
  refine lv_iload_n hx hb dX5_requestsNext_93 rfl (lv_at hl 1 rfl) ?_
  refine lv_iconst (v := 1) hx hb dX5_requestsNext_94 (by decide) ?_
  refine lv_iload_n hx hb dX5_requestsNext_95 rfl (lv_at hl 2 rfl) ?_
  refine z_mcallv (fun _ h => h) (fun I1 hB1 hM => z_runV (rest := []) [.int x1, .int 1, .int x3] pk_X5_notes (met_X5_notes hB.1 hM x1 1 x3 _ h) X hB1 (by decide) q3593 kc_X5 (by decide) (by rw [hB.1.1]) rfl hl.1 (Nat.le_of_ble_eq_true rfl) dX5_requestsNext_96 (Nat.le_refl 0) (Nat.le_refl 0) (by decide) (by decide)) hB (fun M15 H locs h hB => ?_)
  obtain ⟨hL, I, hB, hM⟩ := hB
  exact z_vret X hB ⟨rfl, (by rw [hM]; exact h), rfl, rfl⟩ (Nat.le_refl 0) (Nat.le_refl 0) dX5_requestsNext_99
theorem ww_X5_requestsNext_0 {Qk : z_M → Prop} (X : z_XM l G A p R s m args meth c cX5_requestsNext 4 "requestsNext" none 14 260) {M : z_M} {x1 : Int32} {H : Heap} {locs : List Loc} {ls : Array Slot} (hB : z_MB G z_P1c A s.heap T I0 Q o b M H locs) (hl : lv_has ls 4 [(0, .ref o), (1, .int x1)]) (h : wb_X5_requestsNext_0 Qk M x1) : W p l e R s m args below meth c H locs 0 0 (z_MQ below G z_P1c A T I0 Q (z_mv_ Qk T Q o b) z_no args s 0 0) (F0 m 0 ls []) := by
  obtain ⟨hx, hb, -⟩ := id X
  unfold wb_X5_requestsNext_0 at h
  refine lv_aload_n hx hb dX5_requestsNext_0 rfl (lv_at hl 0 rfl) ?_
  refine z_mgeta (j := 13) X hB q3223 rfl (Nat.le_of_ble_eq_true rfl) rfl (by decide) dX5_requestsNext_1 ?_
  refine lv_iload_n hx hb dX5_requestsNext_4 rfl (lv_at hl 1 rfl) ?_
  obtain ⟨h1, h⟩ := h
  refine z_mald (f := 13) X hB (by decide) h1 dX5_requestsNext_5 ?_
  refine lv_topi (fun y1 ey1 => ?_)
  have h := h y1 ey1
  refine lv_istore_n (lv' := [(2, .int y1), (0, .ref o), (1, .int x1)]) hx hb dX5_requestsNext_6 rfl hl (by decide) rfl (fun ls hl => ?_)
  refine lv_aload_n hx hb dX5_requestsNext_7 rfl (lv_at hl 1 rfl) ?_
  refine lv_iload_n hx hb dX5_requestsNext_8 rfl (lv_at hl 2 rfl) ?_
  refine lv_iload_n hx hb dX5_requestsNext_9 rfl (lv_at hl 0 rfl) ?_
  refine lv_aload_n hx hb dX5_requestsNext_10 rfl (lv_at hl 1 rfl) ?_
  refine z_mgeta (j := 15) X hB q3225 rfl (Nat.le_of_ble_eq_true rfl) rfl (by decide) dX5_requestsNext_11 ?_
  refine lv_iload_n hx hb dX5_requestsNext_14 rfl (lv_at hl 2 rfl) ?_
  obtain ⟨h1, h⟩ := h
  refine z_mald (f := 15) X hB (by decide) h1 dX5_requestsNext_15 ?_
  refine lv_iconst (v := 1) hx hb dX5_requestsNext_16 (by decide) ?_
  refine lv_iadd hx hb dX5_requestsNext_17 ?_
  refine lv_iconst (v := 0) hx hb dX5_requestsNext_18 (by decide) ?_
  refine z_mcallz (fun _ h => h) (fun I1 hB1 hM => z_runV (rest := []) [.int x1, .int y1, .int ((M 15 x1.toNatClampNeg) + 1), .int 0] pk_X5_isGranted (met_X5_isGranted hB.1 hM x1 y1 ((M 15 x1.toNatClampNeg) + 1) 0 _ h) X hB1 (by decide) q3565 kc_X5 (by decide) (by rw [hB.1.1]) rfl hl.1 (Nat.le_of_ble_eq_true rfl) dX5_requestsNext_19 (Nat.le_refl 0) (Nat.le_refl 0) (by decide) (by decide)) hB (fun r2 M3 H locs hz h hB => ?_)
  have h := h hz
  refine lv_if_ne (tgt := 40) hx hb dX5_requestsNext_22 (by decide) (fun c4 => ?_) (fun c4 => ?_)
  · have h := h.1 c4
    refine lv_aload_n hx hb dX5_requestsNext_40 rfl (lv_at hl 1 rfl) ?_
    refine lv_iload_n hx hb dX5_requestsNext_41 rfl (lv_at hl 0 rfl) ?_
    refine lv_aload_n hx hb dX5_requestsNext_42 rfl (lv_at hl 1 rfl) ?_
    refine z_mgeta (j := 15) X hB q3225 rfl (Nat.le_of_ble_eq_true rfl) rfl (by decide) dX5_requestsNext_43 ?_
    refine lv_iload_n hx hb dX5_requestsNext_46 rfl (lv_at hl 2 rfl) ?_
    obtain ⟨h1, h⟩ := h
    refine z_mald (f := 15) X hB (by decide) h1 dX5_requestsNext_47 ?_
    refine lv_iconst (v := 1) hx hb dX5_requestsNext_48 (by decide) ?_
    refine lv_iadd hx hb dX5_requestsNext_49 ?_
    refine z_mcalli (fun _ h => h) (fun I1 hB1 hM => z_runV (rest := []) [.int y1, .int ((M3 15 x1.toNatClampNeg) + 1)] pk_X5_zoneAt (met_X5_zoneAt hB.1 hM y1 ((M3 15 x1.toNatClampNeg) + 1) _ h) X hB1 (by decide) q3430 kc_X5 (by decide) (by rw [hB.1.1]) rfl hl.1 (Nat.le_of_ble_eq_true rfl) dX5_requestsNext_50 (Nat.le_refl 0) (Nat.le_refl 0) (by decide) (by decide)) hB (fun r5 M6 H locs h hB => ?_)
    obtain ⟨h, eM6⟩ := h
    rw [eM6] at hB
    refine lv_istore_n (lv' := [(3, .int r5), (2, .int y1), (0, .ref o), (1, .int x1)]) hx hb dX5_requestsNext_53 rfl hl (by decide) rfl (fun ls hl => ?_)
    refine lv_aload_n hx hb dX5_requestsNext_54 rfl (lv_at hl 2 rfl) ?_
    refine z_mgeta (j := 14) X hB q3224 rfl (Nat.le_of_ble_eq_true rfl) rfl (by decide) dX5_requestsNext_55 ?_
    refine lv_iload_n hx hb dX5_requestsNext_58 rfl (lv_at hl 3 rfl) ?_
    refine lv_iconst (v := 2) hx hb dX5_requestsNext_59 (by decide) ?_
    obtain ⟨h1, h⟩ := h
    obtain ⟨M7, eM7⟩ : ∃ z, z = z_up M3 14 x1.toNatClampNeg 2 := ⟨_, rfl⟩
    have h := h M7 eM7
    refine z_mast (P := z_P1c) (f := 14) rfl X hB (by decide) h1 dX5_requestsNext_60 (fun H locs hB => ?_)
    rw [← eM7] at hB
    refine lv_aload_n hx hb dX5_requestsNext_61 rfl (lv_at hl 2 rfl) ?_
    refine z_mgeta (j := 16) X hB q3226 rfl (Nat.le_of_ble_eq_true rfl) rfl (by decide) dX5_requestsNext_62 ?_
    refine lv_iload_n hx hb dX5_requestsNext_65 rfl (lv_at hl 3 rfl) ?_
    refine lv_iconst (v := 1) hx hb dX5_requestsNext_66 (by decide) ?_
    refine lv_aload_n hx hb dX5_requestsNext_67 rfl (lv_at hl 2 rfl) ?_
    refine z_mgeta (j := 26) X hB q3236 rfl (Nat.le_of_ble_eq_true rfl) rfl (by decide) dX5_requestsNext_68 ?_
    refine lv_iload_n hx hb dX5_requestsNext_71 rfl (lv_at hl 1 rfl) ?_
    obtain ⟨h1, h⟩ := h
    refine z_mald (f := 26) X hB (by decide) h1 dX5_requestsNext_72 ?_
    refine lv_iconst (v := 4) hx hb dX5_requestsNext_73 (by decide) ?_
    refine lv_idiv hx hb dX5_requestsNext_74 (by decide) ?_
    refine lv_iadd hx hb dX5_requestsNext_75 ?_
    refine lv_aload_n hx hb dX5_requestsNext_76 rfl (lv_at hl 2 rfl) ?_
    refine lv_iload_n hx hb dX5_requestsNext_77 rfl (lv_at hl 3 rfl) ?_
    refine lv_iload_n hx hb dX5_requestsNext_78 rfl (lv_at hl 0 rfl) ?_
    refine z_mcallz (fun _ h => h) (fun I1 hB1 hM => z_runV (rest := [.int (1 + ((M7 26 y1.toNatClampNeg) / 4)), .int x1, .ref (b 16)]) [.int x1, .int r5] pk_X5_isBeside (met_X5_isBeside hB.1 hM x1 r5 _ h) X hB1 (by decide) q3601 kc_X5 (by decide) (by rw [hB.1.1]) rfl hl.1 (Nat.le_of_ble_eq_true rfl) dX5_requestsNext_79 (Nat.le_refl 0) (Nat.le_refl 0) (by decide) (by decide)) hB (fun r8 M9 H locs hz h hB => ?_)
    obtain ⟨h, eM9⟩ := h
    rw [eM9] at hB
    have h := h hz
    refine lv_if_eq (tgt := 89) hx hb dX5_requestsNext_82 (by decide) (fun c10 => ?_) (fun c10 => ?_)
    · have h := h.1 c10
      refine lv_iconst (v := 0) hx hb dX5_requestsNext_89 (by decide) ?_
      exact ww_X5_requestsNext_90 X  (by decide) hB (lv_sub hl [2, 3, 0] rfl) h
    · have h := h.2 c10
      refine lv_iconst (v := 1) hx hb dX5_requestsNext_85 (by decide) ?_
      refine lv_goto (tgt := 90) hx hb dX5_requestsNext_86 (by decide) ?_
      exact ww_X5_requestsNext_90 X  (by decide) hB (lv_sub hl [2, 3, 0] rfl) h
  · have h := h.2 c4
    refine lv_aload_n hx hb dX5_requestsNext_25 rfl (lv_at hl 1 rfl) ?_
    refine z_mgeta (j := 14) X hB q3224 rfl (Nat.le_of_ble_eq_true rfl) rfl (by decide) dX5_requestsNext_26 ?_
    refine lv_iload_n hx hb dX5_requestsNext_29 rfl (lv_at hl 2 rfl) ?_
    refine lv_iconst (v := 3) hx hb dX5_requestsNext_30 (by decide) ?_
    obtain ⟨h1, h⟩ := h
    obtain ⟨M11, eM11⟩ : ∃ z, z = z_up M3 14 x1.toNatClampNeg 3 := ⟨_, rfl⟩
    have h := h M11 eM11
    refine z_mast (P := z_P1c) (f := 14) rfl X hB (by decide) h1 dX5_requestsNext_31 (fun H locs hB => ?_)
    rw [← eM11] at hB
    refine lv_aload_n hx hb dX5_requestsNext_32 rfl (lv_at hl 1 rfl) ?_
    refine z_mgeta (j := 16) X hB q3226 rfl (Nat.le_of_ble_eq_true rfl) rfl (by decide) dX5_requestsNext_33 ?_
    refine lv_iload_n hx hb dX5_requestsNext_36 rfl (lv_at hl 2 rfl) ?_
    refine lv_iconst (v := 0) hx hb dX5_requestsNext_37 (by decide) ?_
    obtain ⟨h1, h⟩ := h
    obtain ⟨M12, eM12⟩ : ∃ z, z = z_up M11 16 x1.toNatClampNeg 0 := ⟨_, rfl⟩
    have h := h M12 eM12
    refine z_mast (P := z_P1c) (f := 16) rfl X hB (by decide) h1 dX5_requestsNext_38 (fun H locs hB => ?_)
    rw [← eM12] at hB
    obtain ⟨hL, I, hB, hM⟩ := hB
    exact z_vret X hB ⟨rfl, (by rw [hM]; exact h), rfl, rfl⟩ (Nat.le_refl 0) (Nat.le_refl 0) dX5_requestsNext_39
theorem pk_X5_requestsNext : z_PV RX5 yX5_requestsNext cX5_requestsNext 4 none 1 := ⟨q3599, qs77, q131, q3600, by decide +kernel⟩
theorem met_X5_requestsNext {l : Launch} {G : z_E} {T : z_T} {I : z_I} {Q : z_Q} {o : Nat} {b : Nat → Nat} {M : z_M} (hL : z_lie T Q o b) (hM : z_of I o b = M) (x1 : Int32) (Qk : z_M → Prop) (h : wp_X5_requestsNext M x1 Qk) : z_GM l G yX5_requestsNext (ws_ yX5_requestsNext cX5_requestsNext 4 none) 14 260 0 0 [.ref o, .int x1] z_P1c T I Q (z_mv_ Qk T Q o b) z_no := by
  refine z_body (own := RX5) (nm := "requestsNext") (by decide +kernel) rfl rfl (Nat.le_of_ble_eq_true rfl) (fun p e R s m below meth c A ls X hB hl => ?_)
  exact ww_X5_requestsNext_0 X ⟨hL, I, hB, hM⟩ hl h
/-! X5_works -/
theorem ww_X5_works_0 {Qk : z_M → Prop} (X : z_XM l G A p R s m args meth c cX5_works 3 "works" none 8 120) {M : z_M} {x1 : Int32} {x2 : Int32} {H : Heap} {locs : List Loc} {ls : Array Slot} (hB : z_MB G z_P1c A s.heap T I0 Q o b M H locs) (hl : lv_has ls 3 [(0, .ref o), (1, .int x1), (2, .int x2)]) (h : wb_X5_works_0 Qk M x1 x2) : W p l e R s m args below meth c H locs 0 0 (z_MQ below G z_P1c A T I0 Q (z_mv_ Qk T Q o b) z_no args s 0 0) (F0 m 0 ls []) := by
  obtain ⟨hx, hb, -⟩ := id X
  unfold wb_X5_works_0 at h
  refine lv_aload_n hx hb dX5_works_0 rfl (lv_at hl 0 rfl) ?_
  refine z_mgeta (j := 14) X hB q3224 rfl (Nat.le_of_ble_eq_true rfl) rfl (by decide) dX5_works_1 ?_
  refine lv_iload_n hx hb dX5_works_4 rfl (lv_at hl 1 rfl) ?_
  refine lv_iconst (v := 1) hx hb dX5_works_5 (by decide) ?_
  obtain ⟨h1, h⟩ := h
  obtain ⟨M1, eM1⟩ : ∃ z, z = z_up M 14 x1.toNatClampNeg 1 := ⟨_, rfl⟩
  have h := h M1 eM1
  refine z_mast (P := z_P1c) (f := 14) rfl X hB (by decide) h1 dX5_works_6 (fun H locs hB => ?_)
  rw [← eM1] at hB
  refine lv_aload_n hx hb dX5_works_7 rfl (lv_at hl 0 rfl) ?_
  refine z_mgeta (j := 15) X hB q3225 rfl (Nat.le_of_ble_eq_true rfl) rfl (by decide) dX5_works_8 ?_
  refine lv_iload_n hx hb dX5_works_11 rfl (lv_at hl 1 rfl) ?_
  refine lv_iload_n hx hb dX5_works_12 rfl (lv_at hl 2 rfl) ?_
  obtain ⟨h1, h⟩ := h
  obtain ⟨M2, eM2⟩ : ∃ z, z = z_up M1 15 x1.toNatClampNeg x2 := ⟨_, rfl⟩
  have h := h M2 eM2
  refine z_mast (P := z_P1c) (f := 15) rfl X hB (by decide) h1 dX5_works_13 (fun H locs hB => ?_)
  rw [← eM2] at hB
  refine lv_aload_n hx hb dX5_works_14 rfl (lv_at hl 0 rfl) ?_
  refine z_mgeta (j := 16) X hB q3226 rfl (Nat.le_of_ble_eq_true rfl) rfl (by decide) dX5_works_15 ?_
  refine lv_iload_n hx hb dX5_works_18 rfl (lv_at hl 1 rfl) ?_
  refine lv_aload_n hx hb dX5_works_19 rfl (lv_at hl 0 rfl) ?_
  refine z_mgeta (j := 25) X hB q3235 rfl (Nat.le_of_ble_eq_true rfl) rfl (by decide) dX5_works_20 ?_
  refine lv_aload_n hx hb dX5_works_23 rfl (lv_at hl 0 rfl) ?_
  refine z_mgeta (j := 13) X hB q3223 rfl (Nat.le_of_ble_eq_true rfl) rfl (by decide) dX5_works_24 ?_
  refine lv_iload_n hx hb dX5_works_27 rfl (lv_at hl 1 rfl) ?_
  obtain ⟨h1, h⟩ := h
  refine z_mald (f := 13) X hB (by decide) h1 dX5_works_28 ?_
  obtain ⟨h1, h⟩ := h
  refine z_mald (f := 25) X hB (by decide) h1 dX5_works_29 ?_
  obtain ⟨h1, h⟩ := h
  obtain ⟨M3, eM3⟩ : ∃ z, z = z_up M2 16 x1.toNatClampNeg (M2 25 (M2 13 x1.toNatClampNeg).toNatClampNeg) := ⟨_, rfl⟩
  have h := h M3 eM3
  refine z_mast (P := z_P1c) (f := 16) rfl X hB (by decide) h1 dX5_works_30 (fun H locs hB => ?_)
  rw [← eM3] at hB
  obtain ⟨hL, I, hB, hM⟩ := hB
  exact z_vret X hB ⟨rfl, (by rw [hM]; exact h), rfl, rfl⟩ (Nat.le_refl 0) (Nat.le_refl 0) dX5_works_31
theorem pk_X5_works : z_PV RX5 yX5_works cX5_works 3 none 2 := ⟨q3591, qs75, q131, q3592, by decide +kernel⟩
theorem met_X5_works {l : Launch} {G : z_E} {T : z_T} {I : z_I} {Q : z_Q} {o : Nat} {b : Nat → Nat} {M : z_M} (hL : z_lie T Q o b) (hM : z_of I o b = M) (x1 : Int32) (x2 : Int32) (Qk : z_M → Prop) (h : wp_X5_works M x1 x2 Qk) : z_GM l G yX5_works (ws_ yX5_works cX5_works 3 none) 8 120 0 0 [.ref o, .int x1, .int x2] z_P1c T I Q (z_mv_ Qk T Q o b) z_no := by
  refine z_body (own := RX5) (nm := "works") (by decide +kernel) rfl rfl (Nat.le_of_ble_eq_true rfl) (fun p e R s m below meth c A ls X hB hl => ?_)
  exact ww_X5_works_0 X ⟨hL, I, hB, hM⟩ hl h
/-! X5_starts -/
theorem ww_X5_starts_146 {Qk : z_M → Prop} (X : z_XM l G A p R s m args meth c cX5_starts 4 "starts" none 14 260) {M : z_M} {x1 : Int32} {x2 : Int32} {H : Heap} {locs : List Loc} {ls : Array Slot} (hB : z_MB G z_P1c A s.heap T I0 Q o b M H locs) (hl : lv_has ls 4 [(0, .ref o), (1, .int x1), (2, .int x2)]) (h : wb_X5_starts_146 Qk M x1 x2) : W p l e R s m args below meth c H locs 0 0 (z_MQ below G z_P1c A T I0 Q (z_mv_ Qk T Q o b) z_no args s 0 0) (F0 m 146 ls []) := by
  obtain ⟨hx, hb, -⟩ := id X
  unfold wb_X5_starts_146 at h
  refine lv_aload_n hx hb dX5_starts_146 rfl (lv_at hl 0 rfl) ?_
  refine lv_iload_n hx hb dX5_starts_147 rfl (lv_at hl 1 rfl) ?_
  refine lv_iconst (v := 0) hx hb dX5_starts_148 (by decide) ?_
  refine z_mcallv (fun _ h => h) (fun I1 hB1 hM => z_runV (rest := []) [.int x1, .int 0] pk_X5_works (met_X5_works hB.1 hM x1 0 _ h) X hB1 (by decide) q3589 kc_X5 (by decide) (by rw [hB.1.1]) rfl hl.1 (Nat.le_of_ble_eq_true rfl) dX5_starts_149 (Nat.le_refl 0) (Nat.le_refl 0) (by decide) (by decide)) hB (fun M17 H locs h hB => ?_)
  refine lv_aload_n hx hb dX5_starts_152 rfl (lv_at hl 0 rfl) ?_
  refine lv_iload_n hx hb dX5_starts_153 rfl (lv_at hl 1 rfl) ?_
  refine lv_iconst (v := 0) hx hb dX5_starts_154 (by decide) ?_
  refine lv_aload_n hx hb dX5_starts_155 rfl (lv_at hl 0 rfl) ?_
  refine lv_iload_n hx hb dX5_starts_156 rfl (lv_at hl 2 rfl) ?_
  refine lv_iconst (v := 0) hx hb dX5_starts_157 (by decide) ?_
  refine z_mcalli (fun _ h => h) (fun I1 hB1 hM => z_runV (rest := [.int 0, .int x1, .ref o]) [.int x2, .int 0] pk_X5_zoneAt (met_X5_zoneAt hB.1 hM x2 0 _ h) X hB1 (by decide) q3430 kc_X5 (by decide) (by rw [hB.1.1]) rfl hl.1 (Nat.le_of_ble_eq_true rfl) dX5_starts_158 (Nat.le_refl 0) (Nat.le_refl 0) (by decide) (by decide)) hB (fun r18 M19 H locs h hB => ?_)
  obtain ⟨h, eM19⟩ := h
  rw [eM19] at hB
  refine z_mcallv (fun _ h => h) (fun I1 hB1 hM => z_runV (rest := []) [.int x1, .int 0, .int r18] pk_X5_notes (met_X5_notes hB.1 hM x1 0 r18 _ h) X hB1 (by decide) q3593 kc_X5 (by decide) (by rw [hB.1.1]) rfl hl.1 (Nat.le_of_ble_eq_true rfl) dX5_starts_161 (Nat.le_refl 0) (Nat.le_refl 0) (by decide) (by decide)) hB (fun M21 H locs h hB => ?_)
  obtain ⟨hL, I, hB, hM⟩ := hB
  exact z_vret X hB ⟨rfl, (by rw [hM]; exact h), rfl, rfl⟩ (Nat.le_refl 0) (Nat.le_refl 0) dX5_starts_164
theorem ww_X5_starts_122 {Qk : z_M → Prop} (X : z_XM l G A p R s m args meth c cX5_starts 4 "starts" none 14 260) {M : z_M} {x1 : Int32} {x2 : Int32} {H : Heap} {locs : List Loc} {ls : Array Slot} (hB : z_MB G z_P1c A s.heap T I0 Q o b M H locs) (hl : lv_has ls 4 [(0, .ref o), (1, .int x1), (2, .int x2)]) (h : wb_X5_starts_122 Qk M x1 x2) : W p l e R s m args below meth c H locs 0 0 (z_MQ below G z_P1c A T I0 Q (z_mv_ Qk T Q o b) z_no args s 0 0) (F0 m 122 ls []) := by
  obtain ⟨hx, hb, -⟩ := id X
  unfold wb_X5_starts_122 at h
  refine lv_aload_n hx hb dX5_starts_122 rfl (lv_at hl 0 rfl) ?_
  refine z_mgeta (j := 28) X hB q3238 rfl (Nat.le_of_ble_eq_true rfl) rfl (by decide) dX5_starts_123 ?_
  refine lv_iload_n hx hb dX5_starts_126 rfl (lv_at hl 2 rfl) ?_
  obtain ⟨h1, h⟩ := h
  refine z_mald (f := 28) X hB (by decide) h1 dX5_starts_127 ?_
  refine lv_if_lt (tgt := 146) hx hb dX5_starts_128 (by decide) (fun c14 => ?_) (fun c14 => ?_)
  · have h := h.1 c14
    exact ww_X5_starts_146 X  hB (lv_sub hl [0, 1, 2] rfl) h
  · have h := h.2 c14
    refine lv_aload_n hx hb dX5_starts_131 rfl (lv_at hl 0 rfl) ?_
    refine z_mgeta (j := 6) X hB q3216 rfl (Nat.le_of_ble_eq_true rfl) rfl (by decide) dX5_starts_132 ?_
    refine lv_aload_n hx hb dX5_starts_135 rfl (lv_at hl 0 rfl) ?_
    refine z_mgeta (j := 28) X hB q3238 rfl (Nat.le_of_ble_eq_true rfl) rfl (by decide) dX5_starts_136 ?_
    refine lv_iload_n hx hb dX5_starts_139 rfl (lv_at hl 2 rfl) ?_
    obtain ⟨h1, h⟩ := h
    refine z_mald (f := 28) X hB (by decide) h1 dX5_starts_140 ?_
    refine lv_dup2_11 hx hb dX5_starts_141 rfl rfl ?_
    obtain ⟨h1, h⟩ := h
    refine z_mald (f := 6) X hB (by decide) h1 dX5_starts_142 ?_
    refine lv_iconst (v := 1) hx hb dX5_starts_143 (by decide) ?_
    refine lv_iadd hx hb dX5_starts_144 ?_
    obtain ⟨h1, h⟩ := h
    obtain ⟨M15, eM15⟩ : ∃ z, z = z_up M 6 (M 28 x2.toNatClampNeg).toNatClampNeg ((M 6 (M 28 x2.toNatClampNeg).toNatClampNeg) + 1) := ⟨_, rfl⟩
    have h := h M15 eM15
    refine z_mast (P := z_P1c) (f := 6) rfl X hB (by decide) h1 dX5_starts_145 (fun H locs hB => ?_)
    rw [← eM15] at hB
    exact ww_X5_starts_146 X  hB (lv_sub hl [0, 1, 2] rfl) h
theorem wv_X5_starts_34 {Qk : z_M → Prop} (X : z_XM l G A p R s m args meth c cX5_starts 4 "starts" none 14 260) : ∀ (n : Nat) {M : z_M} {x1 : Int32} {x2 : Int32} {x3 : Int32} {H : Heap} {locs : List Loc} {ls : Array Slot}, z_MB G z_P1c A s.heap T I0 Q o b M H locs → lv_has ls 4 [(0, .ref o), (1, .int x1), (2, .int x2), (3, .int x3)] → wl_X5_starts_34 Qk n M x1 x2 x3 → W p l e R s m args below meth c H locs 0 0 (z_MQ below G z_P1c A T I0 Q (z_mv_ Qk T Q o b) z_no args s 0 0) (F0 m 34 ls []) := by
  intro n
  induction n with
  | zero =>
    intro M x1 x2 x3 H locs ls hB hl h
    exact h.elim
  | succ n ih =>
    intro M x1 x2 x3 H locs ls hB hl h
    obtain ⟨hx, hb, -⟩ := id X
    unfold wl_X5_starts_34 at h
    refine lv_iload_n hx hb dX5_starts_34 rfl (lv_at hl 3 rfl) ?_
    refine lv_aload_n hx hb dX5_starts_35 rfl (lv_at hl 0 rfl) ?_
    refine z_mgeta (j := 11) X hB q3221 rfl (Nat.le_of_ble_eq_true rfl) rfl (by decide) dX5_starts_36 ?_
    refine lv_iload_n hx hb dX5_starts_39 rfl (lv_at hl 1 rfl) ?_
    obtain ⟨h1, h⟩ := h
    refine z_mald (f := 11) X hB (by decide) h1 dX5_starts_40 ?_
    refine lv_icmp_ge (tgt := 74) hx hb dX5_starts_41 (by decide) (fun c6 => ?_) (fun c6 => ?_)
    · have h := h.1 c6
      refine lv_aload_n hx hb dX5_starts_74 rfl (lv_at hl 0 rfl) ?_
      refine z_mgeta (j := 13) X hB q3223 rfl (Nat.le_of_ble_eq_true rfl) rfl (by decide) dX5_starts_75 ?_
      refine lv_iload_n hx hb dX5_starts_78 rfl (lv_at hl 1 rfl) ?_
      refine lv_iload_n hx hb dX5_starts_79 rfl (lv_at hl 2 rfl) ?_
      obtain ⟨h1, h⟩ := h
      obtain ⟨M7, eM7⟩ : ∃ z, z = z_up M 13 x1.toNatClampNeg x2 := ⟨_, rfl⟩
      have h := h M7 eM7
      refine z_mast (P := z_P1c) (f := 13) rfl X hB (by decide) h1 dX5_starts_80 (fun H locs hB => ?_)
      rw [← eM7] at hB
      refine lv_aload_n hx hb dX5_starts_81 rfl (lv_at hl 0 rfl) ?_
      refine z_mgeta (j := 29) X hB q3239 rfl (Nat.le_of_ble_eq_true rfl) rfl (by decide) dX5_starts_82 ?_
      refine lv_iload_n hx hb dX5_starts_85 rfl (lv_at hl 2 rfl) ?_
      refine lv_iconst (v := 1) hx hb dX5_starts_86 (by decide) ?_
      obtain ⟨h1, h⟩ := h
      obtain ⟨M8, eM8⟩ : ∃ z, z = z_up M7 29 x2.toNatClampNeg 1 := ⟨_, rfl⟩
      have h := h M8 eM8
      refine z_mast (P := z_P1c) (f := 29) rfl X hB (by decide) h1 dX5_starts_87 (fun H locs hB => ?_)
      rw [← eM8] at hB
      refine lv_aload_n hx hb dX5_starts_88 rfl (lv_at hl 0 rfl) ?_
      refine z_mgeta (j := 30) X hB q3240 rfl (Nat.le_of_ble_eq_true rfl) rfl (by decide) dX5_starts_89 ?_
      refine lv_iload_n hx hb dX5_starts_92 rfl (lv_at hl 2 rfl) ?_
      refine lv_aload_n hx hb dX5_starts_93 rfl (lv_at hl 0 rfl) ?_
      refine z_mgets (j := 33) X hB q3243 rfl (Nat.le_of_ble_eq_true rfl) rfl rfl dX5_starts_94 ?_
      obtain ⟨h1, h⟩ := h
      obtain ⟨M9, eM9⟩ : ∃ z, z = z_up M8 30 x2.toNatClampNeg (M8 33 0) := ⟨_, rfl⟩
      have h := h M9 eM9
      refine z_mast (P := z_P1c) (f := 30) rfl X hB (by decide) h1 dX5_starts_97 (fun H locs hB => ?_)
      rw [← eM9] at hB
      refine lv_aload_n hx hb dX5_starts_98 rfl (lv_at hl 0 rfl) ?_
      refine z_mgeta (j := 27) X hB q3237 rfl (Nat.le_of_ble_eq_true rfl) rfl (by decide) dX5_starts_99 ?_
      refine lv_iload_n hx hb dX5_starts_102 rfl (lv_at hl 2 rfl) ?_
      obtain ⟨h1, h⟩ := h
      refine z_mald (f := 27) X hB (by decide) h1 dX5_starts_103 ?_
      refine lv_if_lt (tgt := 122) hx hb dX5_starts_104 (by decide) (fun c10 => ?_) (fun c10 => ?_)
      · have h := h.1 c10
        exact ww_X5_starts_122 X  hB (lv_sub hl [0, 1, 2] rfl) h
      · have h := h.2 c10
        refine lv_aload_n hx hb dX5_starts_107 rfl (lv_at hl 0 rfl) ?_
        refine z_mgeta (j := 7) X hB q3217 rfl (Nat.le_of_ble_eq_true rfl) rfl (by decide) dX5_starts_108 ?_
        refine lv_aload_n hx hb dX5_starts_111 rfl (lv_at hl 0 rfl) ?_
        refine z_mgeta (j := 27) X hB q3237 rfl (Nat.le_of_ble_eq_true rfl) rfl (by decide) dX5_starts_112 ?_
        refine lv_iload_n hx hb dX5_starts_115 rfl (lv_at hl 2 rfl) ?_
        obtain ⟨h1, h⟩ := h
        refine z_mald (f := 27) X hB (by decide) h1 dX5_starts_116 ?_
        refine lv_dup2_11 hx hb dX5_starts_117 rfl rfl ?_
        obtain ⟨h1, h⟩ := h
        refine z_mald (f := 7) X hB (by decide) h1 dX5_starts_118 ?_
        refine lv_iconst (v := 1) hx hb dX5_starts_119 (by decide) ?_
        refine lv_iadd hx hb dX5_starts_120 ?_
        obtain ⟨h1, h⟩ := h
        obtain ⟨M11, eM11⟩ : ∃ z, z = z_up M9 7 (M9 27 x2.toNatClampNeg).toNatClampNeg ((M9 7 (M9 27 x2.toNatClampNeg).toNatClampNeg) + 1) := ⟨_, rfl⟩
        have h := h M11 eM11
        refine z_mast (P := z_P1c) (f := 7) rfl X hB (by decide) h1 dX5_starts_121 (fun H locs hB => ?_)
        rw [← eM11] at hB
        exact ww_X5_starts_122 X  hB (lv_sub hl [0, 1, 2] rfl) h
    · have h := h.2 c6
      refine lv_aload_n hx hb dX5_starts_44 rfl (lv_at hl 0 rfl) ?_
      refine z_mgeta (j := 12) X hB q3222 rfl (Nat.le_of_ble_eq_true rfl) rfl (by decide) dX5_starts_45 ?_
      refine lv_bipush (v := 30) hx hb dX5_starts_48 (by decide) ?_
      refine lv_iload_n hx hb dX5_starts_50 rfl (lv_at hl 1 rfl) ?_
      refine lv_imul hx hb dX5_starts_51 ?_
      refine lv_iload_n hx hb dX5_starts_52 rfl (lv_at hl 3 rfl) ?_
      refine lv_iadd hx hb dX5_starts_53 ?_
      refine lv_aload_n hx hb dX5_starts_54 rfl (lv_at hl 0 rfl) ?_
      refine z_mgeta (j := 12) X hB q3222 rfl (Nat.le_of_ble_eq_true rfl) rfl (by decide) dX5_starts_55 ?_
      refine lv_bipush (v := 30) hx hb dX5_starts_58 (by decide) ?_
      refine lv_iload_n hx hb dX5_starts_60 rfl (lv_at hl 1 rfl) ?_
      refine lv_imul hx hb dX5_starts_61 ?_
      refine lv_iload_n hx hb dX5_starts_62 rfl (lv_at hl 3 rfl) ?_
      refine lv_iadd hx hb dX5_starts_63 ?_
      refine lv_iconst (v := 1) hx hb dX5_starts_64 (by decide) ?_
      refine lv_iadd hx hb dX5_starts_65 ?_
      obtain ⟨h1, h⟩ := h
      refine z_mald (f := 12) X hB (by decide) h1 dX5_starts_66 ?_
      obtain ⟨h1, h⟩ := h
      obtain ⟨M12, eM12⟩ : ∃ z, z = z_up M 12 ((30 * x1) + x3).toNatClampNeg (M 12 (((30 * x1) + x3) + 1).toNatClampNeg) := ⟨_, rfl⟩
      have h := h M12 eM12
      refine z_mast (P := z_P1c) (f := 12) rfl X hB (by decide) h1 dX5_starts_67 (fun H locs hB => ?_)
      rw [← eM12] at hB
      obtain ⟨y13, ey13⟩ : ∃ z : Int32, z = x3 + 1 := ⟨_, rfl⟩
      have h := h y13 ey13
      refine lv_iinc (v := y13) (lv' := [(3, .int y13), (0, .ref o), (1, .int x1), (2, .int x2)]) hx hb dX5_starts_68 hl (k := 3) rfl (by rw [ey13]; rfl) (by decide) rfl (fun ls hl => ?_)
      refine lv_goto (tgt := 34) hx hb dX5_starts_71 (by decide) ?_
      exact ih hB (lv_sub hl [1, 2, 3, 0] rfl) h
theorem ww_X5_starts_0 {Qk : z_M → Prop} (X : z_XM l G A p R s m args meth c cX5_starts 4 "starts" none 14 260) {M : z_M} {x1 : Int32} {H : Heap} {locs : List Loc} {ls : Array Slot} (hB : z_MB G z_P1c A s.heap T I0 Q o b M H locs) (hl : lv_has ls 4 [(0, .ref o), (1, .int x1)]) (h : wb_X5_starts_0 Qk M x1) : W p l e R s m args below meth c H locs 0 0 (z_MQ below G z_P1c A T I0 Q (z_mv_ Qk T Q o b) z_no args s 0 0) (F0 m 0 ls []) := by
  obtain ⟨hx, hb, -⟩ := id X
  unfold wb_X5_starts_0 at h
  refine lv_aload_n hx hb dX5_starts_0 rfl (lv_at hl 0 rfl) ?_
  refine z_mgeta (j := 12) X hB q3222 rfl (Nat.le_of_ble_eq_true rfl) rfl (by decide) dX5_starts_1 ?_
  refine lv_bipush (v := 30) hx hb dX5_starts_4 (by decide) ?_
  refine lv_iload_n hx hb dX5_starts_6 rfl (lv_at hl 1 rfl) ?_
  refine lv_imul hx hb dX5_starts_7 ?_
  obtain ⟨h1, h⟩ := h
  refine z_mald (f := 12) X hB (by decide) h1 dX5_starts_8 ?_
  refine lv_topi (fun y1 ey1 => ?_)
  have h := h y1 ey1
  refine lv_istore_n (lv' := [(2, .int y1), (0, .ref o), (1, .int x1)]) hx hb dX5_starts_9 rfl hl (by decide) rfl (fun ls hl => ?_)
  refine lv_aload_n hx hb dX5_starts_10 rfl (lv_at hl 1 rfl) ?_
  refine lv_iload_n hx hb dX5_starts_11 rfl (lv_at hl 2 rfl) ?_
  refine lv_iload_n hx hb dX5_starts_12 rfl (lv_at hl 0 rfl) ?_
  refine lv_iconst (v := 0) hx hb dX5_starts_13 (by decide) ?_
  refine lv_iconst (v := 1) hx hb dX5_starts_14 (by decide) ?_
  refine z_mcallz (fun _ h => h) (fun I1 hB1 hM => z_runV (rest := []) [.int x1, .int y1, .int 0, .int 1] pk_X5_isGranted (met_X5_isGranted hB.1 hM x1 y1 0 1 _ h) X hB1 (by decide) q3565 kc_X5 (by decide) (by rw [hB.1.1]) rfl hl.1 (Nat.le_of_ble_eq_true rfl) dX5_starts_15 (Nat.le_refl 0) (Nat.le_refl 0) (by decide) (by decide)) hB (fun r2 M3 H locs hz h hB => ?_)
  have h := h hz
  refine lv_if_ne (tgt := 22) hx hb dX5_starts_18 (by decide) (fun c4 => ?_) (fun c4 => ?_)
  · have h := h.1 c4
    refine lv_aload_n hx hb dX5_starts_22 rfl (lv_at hl 1 rfl) ?_
    refine z_mgeta (j := 11) X hB q3221 rfl (Nat.le_of_ble_eq_true rfl) rfl (by decide) dX5_starts_23 ?_
    refine lv_iload_n hx hb dX5_starts_26 rfl (lv_at hl 2 rfl) ?_
    refine lv_dup2_11 hx hb dX5_starts_27 rfl rfl ?_
    obtain ⟨h1, h⟩ := h
    refine z_mald (f := 11) X hB (by decide) h1 dX5_starts_28 ?_
    refine lv_iconst (v := 1) hx hb dX5_starts_29 (by decide) ?_
    refine lv_isub hx hb dX5_starts_30 ?_
    obtain ⟨h1, h⟩ := h
    obtain ⟨M5, eM5⟩ : ∃ z, z = z_up M3 11 x1.toNatClampNeg ((M3 11 x1.toNatClampNeg) - 1) := ⟨_, rfl⟩
    have h := h M5 eM5
    refine z_mast (P := z_P1c) (f := 11) rfl X hB (by decide) h1 dX5_starts_31 (fun H locs hB => ?_)
    rw [← eM5] at hB
    refine lv_iconst (v := 0) hx hb dX5_starts_32 (by decide) ?_
    refine lv_istore_n (lv' := [(3, .int 0), (2, .int y1), (0, .ref o), (1, .int x1)]) hx hb dX5_starts_33 rfl hl (by decide) rfl (fun ls hl => ?_)
    obtain ⟨w, h⟩ := h
    exact wv_X5_starts_34 X  w hB (lv_sub hl [2, 3, 1, 0] rfl) h
  · have h := h.2 c4
    obtain ⟨hL, I, hB, hM⟩ := hB
    exact z_vret X hB ⟨rfl, (by rw [hM]; exact h), rfl, rfl⟩ (Nat.le_refl 0) (Nat.le_refl 0) dX5_starts_21
theorem pk_X5_starts : z_PV RX5 yX5_starts cX5_starts 4 none 1 := ⟨q3563, qs68, q131, q3564, by decide +kernel⟩
theorem met_X5_starts {l : Launch} {G : z_E} {T : z_T} {I : z_I} {Q : z_Q} {o : Nat} {b : Nat → Nat} {M : z_M} (hL : z_lie T Q o b) (hM : z_of I o b = M) (x1 : Int32) (Qk : z_M → Prop) (h : wp_X5_starts M x1 Qk) : z_GM l G yX5_starts (ws_ yX5_starts cX5_starts 4 none) 14 260 0 0 [.ref o, .int x1] z_P1c T I Q (z_mv_ Qk T Q o b) z_no := by
  refine z_body (own := RX5) (nm := "starts") (by decide +kernel) rfl rfl (Nat.le_of_ble_eq_true rfl) (fun p e R s m below meth c A ls X hB hl => ?_)
  exact ww_X5_starts_0 X ⟨hL, I, hB, hM⟩ hl h
/-! X5_acts -/
theorem ww_X5_acts_163 {Qk : z_M → Prop} (X : z_XM l G A p R s m args meth c cX5_acts 2 "acts" none 15 283) {M : z_M} {H : Heap} {locs : List Loc} {ls : Array Slot} (hB : z_MB G z_P1c A s.heap T I0 Q o b M H locs) (hl : lv_has ls 2 []) (h : wb_X5_acts_163 Qk M) : W p l e R s m args below meth c H locs 0 0 (z_MQ below G z_P1c A T I0 Q (z_mv_ Qk T Q o b) z_no args s 0 0) (F0 m 163 ls []) := by
  obtain ⟨hx, hb, -⟩ := id X
  unfold wb_X5_acts_163 at h
  obtain ⟨hL, I, hB, hM⟩ := hB
  exact z_vret X hB ⟨rfl, (by rw [hM]; exact h), rfl, rfl⟩ (Nat.le_refl 0) (Nat.le_refl 0) dX5_acts_163
theorem ww_X5_acts_0 {Qk : z_M → Prop} (X : z_XM l G A p R s m args meth c cX5_acts 2 "acts" none 15 283) {M : z_M} {x1 : Int32} {H : Heap} {locs : List Loc} {ls : Array Slot} (hB : z_MB G z_P1c A s.heap T I0 Q o b M H locs) (hl : lv_has ls 2 [(0, .ref o), (1, .int x1)]) (h : wb_X5_acts_0 Qk M x1) : W p l e R s m args below meth c H locs 0 0 (z_MQ below G z_P1c A T I0 Q (z_mv_ Qk T Q o b) z_no args s 0 0) (F0 m 0 ls []) := by
  obtain ⟨hx, hb, -⟩ := id X
  unfold wb_X5_acts_0 at h
  refine lv_aload_n hx hb dX5_acts_0 rfl (lv_at hl 0 rfl) ?_
  refine z_mgeta (j := 14) X hB q3224 rfl (Nat.le_of_ble_eq_true rfl) rfl (by decide) dX5_acts_1 ?_
  refine lv_iload_n hx hb dX5_acts_4 rfl (lv_at hl 1 rfl) ?_
  obtain ⟨h1, h⟩ := h
  refine z_mald (f := 14) X hB (by decide) h1 dX5_acts_5 ?_
  by_cases c1_0 : (M 14 x1.toNatClampNeg) = 0
  · have h := h.1 c1_0
    refine lv_tableIn (off := 26) (tgt := 32) hx hb dX5_acts_6 (by rw [c1_0]; decide) (by rw [c1_0]; decide) (by rw [c1_0]; rfl) (by decide) ?_
    refine lv_aload_n hx hb dX5_acts_32 rfl (lv_at hl 0 rfl) ?_
    refine z_mgeta (j := 11) X hB q3221 rfl (Nat.le_of_ble_eq_true rfl) rfl (by decide) dX5_acts_33 ?_
    refine lv_iload_n hx hb dX5_acts_36 rfl (lv_at hl 1 rfl) ?_
    obtain ⟨h1, h⟩ := h
    refine z_mald (f := 11) X hB (by decide) h1 dX5_acts_37 ?_
    refine lv_if_le (tgt := 163) hx hb dX5_acts_38 (by decide) (fun c2 => ?_) (fun c2 => ?_)
    · have h := h.1 c2
      exact ww_X5_acts_163 X  hB (lv_sub hl [] rfl) h
    · have h := h.2 c2
      refine lv_aload_n hx hb dX5_acts_41 rfl (lv_at hl 0 rfl) ?_
      refine lv_iload_n hx hb dX5_acts_42 rfl (lv_at hl 1 rfl) ?_
      refine z_mcallv (fun _ h => h) (fun I1 hB1 hM => z_runV (rest := []) [.int x1] pk_X5_starts (met_X5_starts hB.1 hM x1 _ h) X hB1 (by decide) q3561 kc_X5 (by decide) (by rw [hB.1.1]) rfl hl.1 (Nat.le_of_ble_eq_true rfl) dX5_acts_43 (Nat.le_refl 0) (Nat.le_refl 0) (by decide) (by decide)) hB (fun M4 H locs h hB => ?_)
      refine lv_goto (tgt := 163) hx hb dX5_acts_46 (by decide) ?_
      exact ww_X5_acts_163 X  hB (lv_sub hl [] rfl) h
  · by_cases c1_1 : (M 14 x1.toNatClampNeg) = 1
    · have h := h.2.1 c1_1
      refine lv_tableIn (off := 43) (tgt := 49) hx hb dX5_acts_6 (by rw [c1_1]; decide) (by rw [c1_1]; decide) (by rw [c1_1]; rfl) (by decide) ?_
      refine lv_aload_n hx hb dX5_acts_49 rfl (lv_at hl 0 rfl) ?_
      refine z_mgeta (j := 16) X hB q3226 rfl (Nat.le_of_ble_eq_true rfl) rfl (by decide) dX5_acts_50 ?_
      refine lv_iload_n hx hb dX5_acts_53 rfl (lv_at hl 1 rfl) ?_
      refine lv_dup2_11 hx hb dX5_acts_54 rfl rfl ?_
      obtain ⟨h1, h⟩ := h
      refine z_mald (f := 16) X hB (by decide) h1 dX5_acts_55 ?_
      refine lv_iconst (v := 1) hx hb dX5_acts_56 (by decide) ?_
      refine lv_isub hx hb dX5_acts_57 ?_
      obtain ⟨h1, h⟩ := h
      obtain ⟨M5, eM5⟩ : ∃ z, z = z_up M 16 x1.toNatClampNeg ((M 16 x1.toNatClampNeg) - 1) := ⟨_, rfl⟩
      have h := h M5 eM5
      refine z_mast (P := z_P1c) (f := 16) rfl X hB (by decide) h1 dX5_acts_58 (fun H locs hB => ?_)
      rw [← eM5] at hB
      refine lv_aload_n hx hb dX5_acts_59 rfl (lv_at hl 0 rfl) ?_
      refine z_mgeta (j := 16) X hB q3226 rfl (Nat.le_of_ble_eq_true rfl) rfl (by decide) dX5_acts_60 ?_
      refine lv_iload_n hx hb dX5_acts_63 rfl (lv_at hl 1 rfl) ?_
      obtain ⟨h1, h⟩ := h
      refine z_mald (f := 16) X hB (by decide) h1 dX5_acts_64 ?_
      refine lv_if_le (tgt := 71) hx hb dX5_acts_65 (by decide) (fun c6 => ?_) (fun c6 => ?_)
      · have h := h.1 c6
        refine lv_aload_n hx hb dX5_acts_71 rfl (lv_at hl 0 rfl) ?_
        refine z_mgeta (j := 15) X hB q3225 rfl (Nat.le_of_ble_eq_true rfl) rfl (by decide) dX5_acts_72 ?_
        refine lv_iload_n hx hb dX5_acts_75 rfl (lv_at hl 1 rfl) ?_
        obtain ⟨h1, h⟩ := h
        refine z_mald (f := 15) X hB (by decide) h1 dX5_acts_76 ?_
        refine lv_iconst (v := 1) hx hb dX5_acts_77 (by decide) ?_
        refine lv_iadd hx hb dX5_acts_78 ?_
        refine lv_aload_n hx hb dX5_acts_79 rfl (lv_at hl 0 rfl) ?_
        refine z_mgeta (j := 24) X hB q3234 rfl (Nat.le_of_ble_eq_true rfl) rfl (by decide) dX5_acts_80 ?_
        refine lv_aload_n hx hb dX5_acts_83 rfl (lv_at hl 0 rfl) ?_
        refine z_mgeta (j := 13) X hB q3223 rfl (Nat.le_of_ble_eq_true rfl) rfl (by decide) dX5_acts_84 ?_
        refine lv_iload_n hx hb dX5_acts_87 rfl (lv_at hl 1 rfl) ?_
        obtain ⟨h1, h⟩ := h
        refine z_mald (f := 13) X hB (by decide) h1 dX5_acts_88 ?_
        obtain ⟨h1, h⟩ := h
        refine z_mald (f := 24) X hB (by decide) h1 dX5_acts_89 ?_
        refine lv_icmp_ge (tgt := 101) hx hb dX5_acts_90 (by decide) (fun c7 => ?_) (fun c7 => ?_)
        · have h := h.1 c7
          refine lv_aload_n hx hb dX5_acts_101 rfl (lv_at hl 0 rfl) ?_
          refine lv_iload_n hx hb dX5_acts_102 rfl (lv_at hl 1 rfl) ?_
          refine z_mcallv (fun _ h => h) (fun I1 hB1 hM => z_runV (rest := []) [.int x1] pk_X5_ends (met_X5_ends hB.1 hM x1 _ h) X hB1 (by decide) q3605 kc_X5 (by decide) (by rw [hB.1.1]) rfl hl.1 (Nat.le_of_ble_eq_true rfl) dX5_acts_103 (Nat.le_refl 0) (Nat.le_refl 0) (by decide) (by decide)) hB (fun M9 H locs h hB => ?_)
          refine lv_goto (tgt := 163) hx hb dX5_acts_106 (by decide) ?_
          exact ww_X5_acts_163 X  hB (lv_sub hl [] rfl) h
        · have h := h.2 c7
          refine lv_aload_n hx hb dX5_acts_93 rfl (lv_at hl 0 rfl) ?_
          refine lv_iload_n hx hb dX5_acts_94 rfl (lv_at hl 1 rfl) ?_
          refine z_mcallv (fun _ h => h) (fun I1 hB1 hM => z_runV (rest := []) [.int x1] pk_X5_requestsNext (met_X5_requestsNext hB.1 hM x1 _ h) X hB1 (by decide) q3597 kc_X5 (by decide) (by rw [hB.1.1]) rfl hl.1 (Nat.le_of_ble_eq_true rfl) dX5_acts_95 (Nat.le_refl 0) (Nat.le_refl 0) (by decide) (by decide)) hB (fun M11 H locs h hB => ?_)
          refine lv_goto (tgt := 163) hx hb dX5_acts_98 (by decide) ?_
          exact ww_X5_acts_163 X  hB (lv_sub hl [] rfl) h
      · have h := h.2 c6
        refine lv_goto (tgt := 163) hx hb dX5_acts_68 (by decide) ?_
        exact ww_X5_acts_163 X  hB (lv_sub hl [] rfl) h
    · by_cases c1_2 : (M 14 x1.toNatClampNeg) = 2
      · have h := h.2.2.1 c1_2
        refine lv_tableIn (off := 103) (tgt := 109) hx hb dX5_acts_6 (by rw [c1_2]; decide) (by rw [c1_2]; decide) (by rw [c1_2]; rfl) (by decide) ?_
        refine lv_aload_n hx hb dX5_acts_109 rfl (lv_at hl 0 rfl) ?_
        refine z_mgeta (j := 16) X hB q3226 rfl (Nat.le_of_ble_eq_true rfl) rfl (by decide) dX5_acts_110 ?_
        refine lv_iload_n hx hb dX5_acts_113 rfl (lv_at hl 1 rfl) ?_
        refine lv_dup2_11 hx hb dX5_acts_114 rfl rfl ?_
        obtain ⟨h1, h⟩ := h
        refine z_mald (f := 16) X hB (by decide) h1 dX5_acts_115 ?_
        refine lv_iconst (v := 1) hx hb dX5_acts_116 (by decide) ?_
        refine lv_isub hx hb dX5_acts_117 ?_
        obtain ⟨h1, h⟩ := h
        obtain ⟨M12, eM12⟩ : ∃ z, z = z_up M 16 x1.toNatClampNeg ((M 16 x1.toNatClampNeg) - 1) := ⟨_, rfl⟩
        have h := h M12 eM12
        refine z_mast (P := z_P1c) (f := 16) rfl X hB (by decide) h1 dX5_acts_118 (fun H locs hB => ?_)
        rw [← eM12] at hB
        refine lv_aload_n hx hb dX5_acts_119 rfl (lv_at hl 0 rfl) ?_
        refine z_mgeta (j := 16) X hB q3226 rfl (Nat.le_of_ble_eq_true rfl) rfl (by decide) dX5_acts_120 ?_
        refine lv_iload_n hx hb dX5_acts_123 rfl (lv_at hl 1 rfl) ?_
        obtain ⟨h1, h⟩ := h
        refine z_mald (f := 16) X hB (by decide) h1 dX5_acts_124 ?_
        refine lv_if_le (tgt := 131) hx hb dX5_acts_125 (by decide) (fun c13 => ?_) (fun c13 => ?_)
        · have h := h.1 c13
          refine lv_aload_n hx hb dX5_acts_131 rfl (lv_at hl 0 rfl) ?_
          refine lv_iload_n hx hb dX5_acts_132 rfl (lv_at hl 1 rfl) ?_
          refine lv_iconst (v := 2) hx hb dX5_acts_133 (by decide) ?_
          refine lv_aload_n hx hb dX5_acts_134 rfl (lv_at hl 0 rfl) ?_
          refine lv_iload_n hx hb dX5_acts_135 rfl (lv_at hl 1 rfl) ?_
          refine z_mcalli (fun _ h => h) (fun I1 hB1 hM => z_runV (rest := [.int 2, .int x1, .ref o]) [.int x1] pk_X5_zoneOf (met_X5_zoneOf hB.1 hM x1 _ h) X hB1 (by decide) q3426 kc_X5 (by decide) (by rw [hB.1.1]) rfl hl.1 (Nat.le_of_ble_eq_true rfl) dX5_acts_136 (Nat.le_refl 0) (Nat.le_refl 0) (by decide) (by decide)) hB (fun r14 M15 H locs h hB => ?_)
          obtain ⟨h, eM15⟩ := h
          rw [eM15] at hB
          refine z_mcallv (fun _ h => h) (fun I1 hB1 hM => z_runV (rest := []) [.int x1, .int 2, .int r14] pk_X5_notes (met_X5_notes hB.1 hM x1 2 r14 _ h) X hB1 (by decide) q3593 kc_X5 (by decide) (by rw [hB.1.1]) rfl hl.1 (Nat.le_of_ble_eq_true rfl) dX5_acts_139 (Nat.le_refl 0) (Nat.le_refl 0) (by decide) (by decide)) hB (fun M17 H locs h hB => ?_)
          refine lv_aload_n hx hb dX5_acts_142 rfl (lv_at hl 0 rfl) ?_
          refine lv_iload_n hx hb dX5_acts_143 rfl (lv_at hl 1 rfl) ?_
          refine lv_aload_n hx hb dX5_acts_144 rfl (lv_at hl 0 rfl) ?_
          refine z_mgeta (j := 15) X hB q3225 rfl (Nat.le_of_ble_eq_true rfl) rfl (by decide) dX5_acts_145 ?_
          refine lv_iload_n hx hb dX5_acts_148 rfl (lv_at hl 1 rfl) ?_
          obtain ⟨h1, h⟩ := h
          refine z_mald (f := 15) X hB (by decide) h1 dX5_acts_149 ?_
          refine lv_iconst (v := 1) hx hb dX5_acts_150 (by decide) ?_
          refine lv_iadd hx hb dX5_acts_151 ?_
          refine z_mcallv (fun _ h => h) (fun I1 hB1 hM => z_runV (rest := []) [.int x1, .int ((M17 15 x1.toNatClampNeg) + 1)] pk_X5_works (met_X5_works hB.1 hM x1 ((M17 15 x1.toNatClampNeg) + 1) _ h) X hB1 (by decide) q3589 kc_X5 (by decide) (by rw [hB.1.1]) rfl hl.1 (Nat.le_of_ble_eq_true rfl) dX5_acts_152 (Nat.le_refl 0) (Nat.le_refl 0) (by decide) (by decide)) hB (fun M19 H locs h hB => ?_)
          refine lv_goto (tgt := 163) hx hb dX5_acts_155 (by decide) ?_
          exact ww_X5_acts_163 X  hB (lv_sub hl [] rfl) h
        · have h := h.2 c13
          refine lv_goto (tgt := 163) hx hb dX5_acts_128 (by decide) ?_
          exact ww_X5_acts_163 X  hB (lv_sub hl [] rfl) h
      · have h := h.2.2.2 c1_0 c1_1 c1_2
        refine lv_tableOut (tgt := 158) hx hb dX5_acts_6 ?_ (by decide) ?_
        · have q0 := lv_neT c1_0 (a := 0) (by decide)
          have q1 := lv_neT c1_1 (a := 1) (by decide)
          have q2 := lv_neT c1_2 (a := 2) (by decide)
          omega
        · refine lv_aload_n hx hb dX5_acts_158 rfl (lv_at hl 0 rfl) ?_
          refine lv_iload_n hx hb dX5_acts_159 rfl (lv_at hl 1 rfl) ?_
          refine z_mcallv (fun _ h => h) (fun I1 hB1 hM => z_runV (rest := []) [.int x1] pk_X5_requestsNext (met_X5_requestsNext hB.1 hM x1 _ h) X hB1 (by decide) q3597 kc_X5 (by decide) (by rw [hB.1.1]) rfl hl.1 (Nat.le_of_ble_eq_true rfl) dX5_acts_160 (Nat.le_refl 0) (Nat.le_refl 0) (by decide) (by decide)) hB (fun M21 H locs h hB => ?_)
          exact ww_X5_acts_163 X  hB (lv_sub hl [] rfl) h
theorem pk_X5_acts : z_PV RX5 yX5_acts cX5_acts 2 none 1 := ⟨q3559, qs67, q131, q3560, by decide +kernel⟩
theorem met_X5_acts {l : Launch} {G : z_E} {T : z_T} {I : z_I} {Q : z_Q} {o : Nat} {b : Nat → Nat} {M : z_M} (hL : z_lie T Q o b) (hM : z_of I o b = M) (x1 : Int32) (Qk : z_M → Prop) (h : wp_X5_acts M x1 Qk) : z_GM l G yX5_acts (ws_ yX5_acts cX5_acts 2 none) 15 283 0 0 [.ref o, .int x1] z_P1c T I Q (z_mv_ Qk T Q o b) z_no := by
  refine z_body (own := RX5) (nm := "acts") (by decide +kernel) rfl rfl (Nat.le_of_ble_eq_true rfl) (fun p e R s m below meth c A ls X hB hl => ?_)
  exact ww_X5_acts_0 X ⟨hL, I, hB, hM⟩ hl h
/-! X5_findTurns -/
theorem ww_X5_findTurns_55 {k2 : z_M → Int32 → Prop} {Qk : z_M → Prop} (X : z_XM l G A p R s m args meth c cX5_findTurns 3 "findTurns" none 8 120) (hk2 : ∀ {M : z_M} {x1 : Int32} {H : Heap} {locs : List Loc} {ls : Array Slot}, z_MB G z_P1c A s.heap T I0 Q o b M H locs → lv_has ls 3 [(0, .ref o), (1, .int x1)] → k2 M x1 → W p l e R s m args below meth c H locs 0 0 (z_MQ below G z_P1c A T I0 Q (z_mv_ Qk T Q o b) z_no args s 0 0) (F0 m 2 ls [])) {M : z_M} {x1 : Int32} {x2 : Int32} {H : Heap} {locs : List Loc} {ls : Array Slot} (hB : z_MB G z_P1c A s.heap T I0 Q o b M H locs) (hl : lv_has ls 3 [(0, .ref o), (1, .int x1), (2, .int x2)]) (h : wb_X5_findTurns_55 k2 Qk M x1 x2) : W p l e R s m args below meth c H locs 0 0 (z_MQ below G z_P1c A T I0 Q (z_mv_ Qk T Q o b) z_no args s 0 0) (F0 m 55 ls []) := by
  obtain ⟨hx, hb, -⟩ := id X
  unfold wb_X5_findTurns_55 at h
  refine lv_aload_n hx hb dX5_findTurns_55 rfl (lv_at hl 0 rfl) ?_
  refine z_mgeta (j := 47) X hB q3257 rfl (Nat.le_of_ble_eq_true rfl) rfl (by decide) dX5_findTurns_56 ?_
  refine lv_iload_n hx hb dX5_findTurns_59 rfl (lv_at hl 2 rfl) ?_
  refine lv_iload_n hx hb dX5_findTurns_60 rfl (lv_at hl 1 rfl) ?_
  obtain ⟨h1, h⟩ := h
  obtain ⟨M6, eM6⟩ : ∃ z, z = z_up M 47 x2.toNatClampNeg x1 := ⟨_, rfl⟩
  have h := h M6 eM6
  refine z_mast (P := z_P1c) (f := 47) rfl X hB (by decide) h1 dX5_findTurns_61 (fun H locs hB => ?_)
  rw [← eM6] at hB
  obtain ⟨y7, ey7⟩ : ∃ z : Int32, z = x1 + 1 := ⟨_, rfl⟩
  have h := h y7 ey7
  refine lv_iinc (v := y7) (lv' := [(1, .int y7), (0, .ref o), (2, .int x2)]) hx hb dX5_findTurns_62 hl (k := 1) rfl (by rw [ey7]; rfl) (by decide) rfl (fun ls hl => ?_)
  refine lv_goto (tgt := 2) hx hb dX5_findTurns_65 (by decide) ?_
  exact hk2 hB (lv_sub hl [1, 0] rfl) h
theorem wv_X5_findTurns_9 {k2 : z_M → Int32 → Prop} {Qk : z_M → Prop} (X : z_XM l G A p R s m args meth c cX5_findTurns 3 "findTurns" none 8 120) (hk2 : ∀ {M : z_M} {x1 : Int32} {H : Heap} {locs : List Loc} {ls : Array Slot}, z_MB G z_P1c A s.heap T I0 Q o b M H locs → lv_has ls 3 [(0, .ref o), (1, .int x1)] → k2 M x1 → W p l e R s m args below meth c H locs 0 0 (z_MQ below G z_P1c A T I0 Q (z_mv_ Qk T Q o b) z_no args s 0 0) (F0 m 2 ls [])) : ∀ (n : Nat) {M : z_M} {x1 : Int32} {x2 : Int32} {H : Heap} {locs : List Loc} {ls : Array Slot}, z_MB G z_P1c A s.heap T I0 Q o b M H locs → lv_has ls 3 [(0, .ref o), (1, .int x1), (2, .int x2)] → wl_X5_findTurns_9 k2 Qk n M x1 x2 → W p l e R s m args below meth c H locs 0 0 (z_MQ below G z_P1c A T I0 Q (z_mv_ Qk T Q o b) z_no args s 0 0) (F0 m 9 ls []) := by
  intro n
  induction n with
  | zero =>
    intro M x1 x2 H locs ls hB hl h
    exact h.elim
  | succ n ih =>
    intro M x1 x2 H locs ls hB hl h
    obtain ⟨hx, hb, -⟩ := id X
    unfold wl_X5_findTurns_9 at h
    refine lv_iload_n hx hb dX5_findTurns_9 rfl (lv_at hl 2 rfl) ?_
    refine lv_if_le (tgt := 55) hx hb dX5_findTurns_10 (by decide) (fun c2 => ?_) (fun c2 => ?_)
    · have h := h.1 c2
      exact ww_X5_findTurns_55 X hk2 hB (lv_sub hl [0, 1, 2] rfl) h
    · have h := h.2 c2
      refine lv_aload_n hx hb dX5_findTurns_13 rfl (lv_at hl 0 rfl) ?_
      refine z_mgeta (j := 17) X hB q3227 rfl (Nat.le_of_ble_eq_true rfl) rfl (by decide) dX5_findTurns_14 ?_
      refine lv_aload_n hx hb dX5_findTurns_17 rfl (lv_at hl 0 rfl) ?_
      refine z_mgeta (j := 47) X hB q3257 rfl (Nat.le_of_ble_eq_true rfl) rfl (by decide) dX5_findTurns_18 ?_
      refine lv_iload_n hx hb dX5_findTurns_21 rfl (lv_at hl 2 rfl) ?_
      refine lv_iconst (v := 1) hx hb dX5_findTurns_22 (by decide) ?_
      refine lv_isub hx hb dX5_findTurns_23 ?_
      obtain ⟨h1, h⟩ := h
      refine z_mald (f := 47) X hB (by decide) h1 dX5_findTurns_24 ?_
      obtain ⟨h1, h⟩ := h
      refine z_mald (f := 17) X hB (by decide) h1 dX5_findTurns_25 ?_
      refine lv_aload_n hx hb dX5_findTurns_26 rfl (lv_at hl 0 rfl) ?_
      refine z_mgeta (j := 17) X hB q3227 rfl (Nat.le_of_ble_eq_true rfl) rfl (by decide) dX5_findTurns_27 ?_
      refine lv_iload_n hx hb dX5_findTurns_30 rfl (lv_at hl 1 rfl) ?_
      obtain ⟨h1, h⟩ := h
      refine z_mald (f := 17) X hB (by decide) h1 dX5_findTurns_31 ?_
      refine lv_icmp_ge (tgt := 55) hx hb dX5_findTurns_32 (by decide) (fun c3 => ?_) (fun c3 => ?_)
      · have h := h.1 c3
        exact ww_X5_findTurns_55 X hk2 hB (lv_sub hl [0, 1, 2] rfl) h
      · have h := h.2 c3
        refine lv_aload_n hx hb dX5_findTurns_35 rfl (lv_at hl 0 rfl) ?_
        refine z_mgeta (j := 47) X hB q3257 rfl (Nat.le_of_ble_eq_true rfl) rfl (by decide) dX5_findTurns_36 ?_
        refine lv_iload_n hx hb dX5_findTurns_39 rfl (lv_at hl 2 rfl) ?_
        refine lv_aload_n hx hb dX5_findTurns_40 rfl (lv_at hl 0 rfl) ?_
        refine z_mgeta (j := 47) X hB q3257 rfl (Nat.le_of_ble_eq_true rfl) rfl (by decide) dX5_findTurns_41 ?_
        refine lv_iload_n hx hb dX5_findTurns_44 rfl (lv_at hl 2 rfl) ?_
        refine lv_iconst (v := 1) hx hb dX5_findTurns_45 (by decide) ?_
        refine lv_isub hx hb dX5_findTurns_46 ?_
        obtain ⟨h1, h⟩ := h
        refine z_mald (f := 47) X hB (by decide) h1 dX5_findTurns_47 ?_
        obtain ⟨h1, h⟩ := h
        obtain ⟨M4, eM4⟩ : ∃ z, z = z_up M 47 x2.toNatClampNeg (M 47 (x2 - 1).toNatClampNeg) := ⟨_, rfl⟩
        have h := h M4 eM4
        refine z_mast (P := z_P1c) (f := 47) rfl X hB (by decide) h1 dX5_findTurns_48 (fun H locs hB => ?_)
        rw [← eM4] at hB
        obtain ⟨y5, ey5⟩ : ∃ z : Int32, z = x2 + (-1) := ⟨_, rfl⟩
        have h := h y5 ey5
        refine lv_iinc (v := y5) (lv' := [(2, .int y5), (0, .ref o), (1, .int x1)]) hx hb dX5_findTurns_49 hl (k := 2) rfl (by rw [ey5]; rfl) (by decide) rfl (fun ls hl => ?_)
        refine lv_goto (tgt := 9) hx hb dX5_findTurns_52 (by decide) ?_
        exact ih hB (lv_sub hl [1, 2, 0] rfl) h
theorem wv_X5_findTurns_2 {Qk : z_M → Prop} (X : z_XM l G A p R s m args meth c cX5_findTurns 3 "findTurns" none 8 120) : ∀ (n : Nat) {M : z_M} {x1 : Int32} {H : Heap} {locs : List Loc} {ls : Array Slot}, z_MB G z_P1c A s.heap T I0 Q o b M H locs → lv_has ls 3 [(0, .ref o), (1, .int x1)] → wl_X5_findTurns_2 Qk n M x1 → W p l e R s m args below meth c H locs 0 0 (z_MQ below G z_P1c A T I0 Q (z_mv_ Qk T Q o b) z_no args s 0 0) (F0 m 2 ls []) := by
  intro n
  induction n with
  | zero =>
    intro M x1 H locs ls hB hl h
    exact h.elim
  | succ n ih =>
    intro M x1 H locs ls hB hl h
    obtain ⟨hx, hb, -⟩ := id X
    unfold wl_X5_findTurns_2 at h
    refine lv_iload_n hx hb dX5_findTurns_2 rfl (lv_at hl 1 rfl) ?_
    refine lv_iconst (v := 3) hx hb dX5_findTurns_3 (by decide) ?_
    refine lv_icmp_ge (tgt := 68) hx hb dX5_findTurns_4 (by decide) (fun c1 => ?_) (fun c1 => ?_)
    · have h := h.1 c1
      obtain ⟨hL, I, hB, hM⟩ := hB
      exact z_vret X hB ⟨rfl, (by rw [hM]; exact h), rfl, rfl⟩ (Nat.le_refl 0) (Nat.le_refl 0) dX5_findTurns_68
    · have h := h.2 c1
      refine lv_iload_n hx hb dX5_findTurns_7 rfl (lv_at hl 1 rfl) ?_
      refine lv_istore_n (lv' := [(2, .int x1), (0, .ref o), (1, .int x1)]) hx hb dX5_findTurns_8 rfl hl (by decide) rfl (fun ls hl => ?_)
      obtain ⟨w, h⟩ := h
      exact wv_X5_findTurns_9 X (fun hB hl h => ih hB hl h) w hB (lv_sub hl [1, 2, 0] rfl) h
theorem ww_X5_findTurns_0 {Qk : z_M → Prop} (X : z_XM l G A p R s m args meth c cX5_findTurns 3 "findTurns" none 8 120) {M : z_M} {H : Heap} {locs : List Loc} {ls : Array Slot} (hB : z_MB G z_P1c A s.heap T I0 Q o b M H locs) (hl : lv_has ls 3 [(0, .ref o)]) (h : wb_X5_findTurns_0 Qk M) : W p l e R s m args below meth c H locs 0 0 (z_MQ below G z_P1c A T I0 Q (z_mv_ Qk T Q o b) z_no args s 0 0) (F0 m 0 ls []) := by
  obtain ⟨hx, hb, -⟩ := id X
  unfold wb_X5_findTurns_0 at h
  refine lv_iconst (v := 0) hx hb dX5_findTurns_0 (by decide) ?_
  refine lv_istore_n (lv' := [(1, .int 0), (0, .ref o)]) hx hb dX5_findTurns_1 rfl hl (by decide) rfl (fun ls hl => ?_)
  obtain ⟨w, h⟩ := h
  exact wv_X5_findTurns_2 X  w hB (lv_sub hl [1, 0] rfl) h
theorem pk_X5_findTurns : z_PV RX5 yX5_findTurns cX5_findTurns 3 none 0 := ⟨q3555, qs66, q131, q3556, by decide +kernel⟩
theorem met_X5_findTurns {l : Launch} {G : z_E} {T : z_T} {I : z_I} {Q : z_Q} {o : Nat} {b : Nat → Nat} {M : z_M} (hL : z_lie T Q o b) (hM : z_of I o b = M) (Qk : z_M → Prop) (h : wp_X5_findTurns M Qk) : z_GM l G yX5_findTurns (ws_ yX5_findTurns cX5_findTurns 3 none) 8 120 0 0 [.ref o] z_P1c T I Q (z_mv_ Qk T Q o b) z_no := by
  refine z_body (own := RX5) (nm := "findTurns") (by decide +kernel) rfl rfl (Nat.le_of_ble_eq_true rfl) (fun p e R s m below meth c A ls X hB hl => ?_)
  exact ww_X5_findTurns_0 X ⟨hL, I, hB, hM⟩ hl h
/-! X5_ticks -/
theorem ww_X5_ticks_62 {k16 : z_M → Int32 → Prop} {Qk : z_M → Prop} (X : z_XM l G A p R s m args meth c cX5_ticks 3 "ticks" none 16 304) (hk16 : ∀ {M : z_M} {x1 : Int32} {H : Heap} {locs : List Loc} {ls : Array Slot}, z_MB G z_P1c A s.heap T I0 Q o b M H locs → lv_has ls 3 [(0, .ref o), (1, .int x1)] → k16 M x1 → W p l e R s m args below meth c H locs 0 0 (z_MQ below G z_P1c A T I0 Q (z_mv_ Qk T Q o b) z_no args s 0 0) (F0 m 16 ls [])) {M : z_M} {x1 : Int32} {s0 : Nat} {s1 : Int32} {s2 : Int32} {H : Heap} {locs : List Loc} {ls : Array Slot} (hf_s0 : z_ln s0 ≠ 0) (hB : z_MB G z_P1c A s.heap T I0 Q o b M H locs) (hl : lv_has ls 3 [(0, .ref o), (1, .int x1)]) (h : wb_X5_ticks_62 k16 Qk M x1 s0 s1 s2) : W p l e R s m args below meth c H locs 0 0 (z_MQ below G z_P1c A T I0 Q (z_mv_ Qk T Q o b) z_no args s 0 0) (F0 m 62 ls [.int s2, .int s1, .ref (b s0)]) := by
  obtain ⟨hx, hb, -⟩ := id X
  unfold wb_X5_ticks_62 at h
  obtain ⟨h1, h⟩ := h
  obtain ⟨M10, eM10⟩ : ∃ z, z = z_up M s0 s1.toNatClampNeg s2 := ⟨_, rfl⟩
  have h := h M10 eM10
  refine z_mast (P := z_P1c) (f := s0) rfl X hB hf_s0 h1 dX5_ticks_62 (fun H locs hB => ?_)
  rw [← eM10] at hB
  obtain ⟨y11, ey11⟩ : ∃ z : Int32, z = x1 + 1 := ⟨_, rfl⟩
  have h := h y11 ey11
  refine lv_iinc (v := y11) (lv' := [(1, .int y11), (0, .ref o)]) hx hb dX5_ticks_63 hl (k := 1) rfl (by rw [ey11]; rfl) (by decide) rfl (fun ls hl => ?_)
  refine lv_goto (tgt := 16) hx hb dX5_ticks_66 (by decide) ?_
  exact hk16 hB (lv_sub hl [1, 0] rfl) h
theorem wv_X5_ticks_101 {k71 : z_M → Int32 → Prop} {Qk : z_M → Prop} (X : z_XM l G A p R s m args meth c cX5_ticks 3 "ticks" none 16 304) (hk71 : ∀ {M : z_M} {x1 : Int32} {H : Heap} {locs : List Loc} {ls : Array Slot}, z_MB G z_P1c A s.heap T I0 Q o b M H locs → lv_has ls 3 [(0, .ref o), (1, .int x1)] → k71 M x1 → W p l e R s m args below meth c H locs 0 0 (z_MQ below G z_P1c A T I0 Q (z_mv_ Qk T Q o b) z_no args s 0 0) (F0 m 71 ls [])) : ∀ (n : Nat) {M : z_M} {x1 : Int32} {x2 : Int32} {H : Heap} {locs : List Loc} {ls : Array Slot}, z_MB G z_P1c A s.heap T I0 Q o b M H locs → lv_has ls 3 [(0, .ref o), (1, .int x1), (2, .int x2)] → wl_X5_ticks_101 k71 Qk n M x1 x2 → W p l e R s m args below meth c H locs 0 0 (z_MQ below G z_P1c A T I0 Q (z_mv_ Qk T Q o b) z_no args s 0 0) (F0 m 101 ls []) := by
  intro n
  induction n with
  | zero =>
    intro M x1 x2 H locs ls hB hl h
    exact h.elim
  | succ n ih =>
    intro M x1 x2 H locs ls hB hl h
    obtain ⟨hx, hb, -⟩ := id X
    unfold wl_X5_ticks_101 at h
    refine lv_iload_n hx hb dX5_ticks_101 rfl (lv_at hl 2 rfl) ?_
    refine lv_bipush (v := 8) hx hb dX5_ticks_102 (by decide) ?_
    refine lv_icmp_ge (tgt := 131) hx hb dX5_ticks_104 (by decide) (fun c15 => ?_) (fun c15 => ?_)
    · have h := h.1 c15
      obtain ⟨y16, ey16⟩ : ∃ z : Int32, z = x1 + 1 := ⟨_, rfl⟩
      have h := h y16 ey16
      refine lv_iinc (v := y16) (lv' := [(1, .int y16), (0, .ref o), (2, .int x2)]) hx hb dX5_ticks_131 hl (k := 1) rfl (by rw [ey16]; rfl) (by decide) rfl (fun ls hl => ?_)
      refine lv_goto (tgt := 71) hx hb dX5_ticks_134 (by decide) ?_
      exact hk71 hB (lv_sub hl [1, 0] rfl) h
    · have h := h.2 c15
      refine lv_aload_n hx hb dX5_ticks_107 rfl (lv_at hl 0 rfl) ?_
      refine z_mgeta (j := 2) X hB q3212 rfl (Nat.le_of_ble_eq_true rfl) rfl (by decide) dX5_ticks_108 ?_
      refine lv_iload_n hx hb dX5_ticks_111 rfl (lv_at hl 2 rfl) ?_
      refine lv_dup2_11 hx hb dX5_ticks_112 rfl rfl ?_
      obtain ⟨h1, h⟩ := h
      refine z_mald (f := 2) X hB (by decide) h1 dX5_ticks_113 ?_
      refine lv_aload_n hx hb dX5_ticks_114 rfl (lv_at hl 0 rfl) ?_
      refine lv_iload_n hx hb dX5_ticks_115 rfl (lv_at hl 1 rfl) ?_
      refine z_mcalli (fun _ h => h) (fun I1 hB1 hM => z_runV (rest := [.int (M 2 x2.toNatClampNeg), .int x2, .ref (b 2)]) [.int x1] pk_X5_holds (met_X5_holds hB.1 hM x1 _ h) X hB1 (by decide) q3422 kc_X5 (by decide) (by rw [hB.1.1]) rfl hl.1 (Nat.le_of_ble_eq_true rfl) dX5_ticks_116 (Nat.le_refl 0) (Nat.le_refl 0) (by decide) (by decide)) hB (fun r17 M18 H locs h hB => ?_)
      obtain ⟨h, eM18⟩ := h
      rw [eM18] at hB
      refine lv_iload_n hx hb dX5_ticks_119 rfl (lv_at hl 2 rfl) ?_
      refine lv_ishr hx hb dX5_ticks_120 ?_
      refine lv_iconst (v := 1) hx hb dX5_ticks_121 (by decide) ?_
      refine lv_iand hx hb dX5_ticks_122 ?_
      refine lv_iadd hx hb dX5_ticks_123 ?_
      obtain ⟨h1, h⟩ := h
      obtain ⟨M19, eM19⟩ : ∃ z, z = z_up M 2 x2.toNatClampNeg ((M 2 x2.toNatClampNeg) + ((r17 >>> (x2 &&& 31)) &&& 1)) := ⟨_, rfl⟩
      have h := h M19 eM19
      refine z_mast (P := z_P1c) (f := 2) rfl X hB (by decide) h1 dX5_ticks_124 (fun H locs hB => ?_)
      rw [← eM19] at hB
      obtain ⟨y20, ey20⟩ : ∃ z : Int32, z = x2 + 1 := ⟨_, rfl⟩
      have h := h y20 ey20
      refine lv_iinc (v := y20) (lv' := [(2, .int y20), (0, .ref o), (1, .int x1)]) hx hb dX5_ticks_125 hl (k := 2) rfl (by rw [ey20]; rfl) (by decide) rfl (fun ls hl => ?_)
      refine lv_goto (tgt := 101) hx hb dX5_ticks_128 (by decide) ?_
      exact ih hB (lv_sub hl [1, 2, 0] rfl) h
theorem ww_X5_ticks_97 {k71 : z_M → Int32 → Prop} {Qk : z_M → Prop} (X : z_XM l G A p R s m args meth c cX5_ticks 3 "ticks" none 16 304) (hk71 : ∀ {M : z_M} {x1 : Int32} {H : Heap} {locs : List Loc} {ls : Array Slot}, z_MB G z_P1c A s.heap T I0 Q o b M H locs → lv_has ls 3 [(0, .ref o), (1, .int x1)] → k71 M x1 → W p l e R s m args below meth c H locs 0 0 (z_MQ below G z_P1c A T I0 Q (z_mv_ Qk T Q o b) z_no args s 0 0) (F0 m 71 ls [])) {M : z_M} {x1 : Int32} {s0 : Nat} {s1 : Int32} {s2 : Int32} {s3 : Int32} {H : Heap} {locs : List Loc} {ls : Array Slot} (hf_s0 : z_ln s0 ≠ 0) (hB : z_MB G z_P1c A s.heap T I0 Q o b M H locs) (hl : lv_has ls 3 [(0, .ref o), (1, .int x1)]) (h : wb_X5_ticks_97 k71 Qk M x1 s0 s1 s2 s3) : W p l e R s m args below meth c H locs 0 0 (z_MQ below G z_P1c A T I0 Q (z_mv_ Qk T Q o b) z_no args s 0 0) (F0 m 97 ls [.int s3, .int s2, .int s1, .ref (b s0)]) := by
  obtain ⟨hx, hb, -⟩ := id X
  unfold wb_X5_ticks_97 at h
  refine lv_iadd hx hb dX5_ticks_97 ?_
  obtain ⟨h1, h⟩ := h
  obtain ⟨M14, eM14⟩ : ∃ z, z = z_up M s0 s1.toNatClampNeg (s2 + s3) := ⟨_, rfl⟩
  have h := h M14 eM14
  refine z_mast (P := z_P1c) (f := s0) rfl X hB hf_s0 h1 dX5_ticks_98 (fun H locs hB => ?_)
  rw [← eM14] at hB
  refine lv_iconst (v := 0) hx hb dX5_ticks_99 (by decide) ?_
  refine lv_istore_n (lv' := [(2, .int 0), (0, .ref o), (1, .int x1)]) hx hb dX5_ticks_100 rfl hl (by decide) rfl (fun ls hl => ?_)
  obtain ⟨w, h⟩ := h
  exact wv_X5_ticks_101 X hk71 w hB (lv_sub hl [1, 2, 0] rfl) h
theorem wv_X5_ticks_71 {Qk : z_M → Prop} (X : z_XM l G A p R s m args meth c cX5_ticks 3 "ticks" none 16 304) : ∀ (n : Nat) {M : z_M} {x1 : Int32} {H : Heap} {locs : List Loc} {ls : Array Slot}, z_MB G z_P1c A s.heap T I0 Q o b M H locs → lv_has ls 3 [(0, .ref o), (1, .int x1)] → wl_X5_ticks_71 Qk n M x1 → W p l e R s m args below meth c H locs 0 0 (z_MQ below G z_P1c A T I0 Q (z_mv_ Qk T Q o b) z_no args s 0 0) (F0 m 71 ls []) := by
  intro n
  induction n with
  | zero =>
    intro M x1 H locs ls hB hl h
    exact h.elim
  | succ n ih =>
    intro M x1 H locs ls hB hl h
    obtain ⟨hx, hb, -⟩ := id X
    unfold wl_X5_ticks_71 at h
    refine lv_iload_n hx hb dX5_ticks_71 rfl (lv_at hl 1 rfl) ?_
    refine lv_iconst (v := 3) hx hb dX5_ticks_72 (by decide) ?_
    refine lv_icmp_ge (tgt := 137) hx hb dX5_ticks_73 (by decide) (fun c12 => ?_) (fun c12 => ?_)
    · have h := h.1 c12
      obtain ⟨hL, I, hB, hM⟩ := hB
      exact z_vret X hB ⟨rfl, (by rw [hM]; exact h), rfl, rfl⟩ (Nat.le_refl 0) (Nat.le_refl 0) dX5_ticks_137
    · have h := h.2 c12
      refine lv_aload_n hx hb dX5_ticks_76 rfl (lv_at hl 0 rfl) ?_
      refine z_mgeta (j := 21) X hB q3231 rfl (Nat.le_of_ble_eq_true rfl) rfl (by decide) dX5_ticks_77 ?_
      refine lv_iload_n hx hb dX5_ticks_80 rfl (lv_at hl 1 rfl) ?_
      refine lv_dup2_11 hx hb dX5_ticks_81 rfl rfl ?_
      obtain ⟨h1, h⟩ := h
      refine z_mald (f := 21) X hB (by decide) h1 dX5_ticks_82 ?_
      refine lv_aload_n hx hb dX5_ticks_83 rfl (lv_at hl 0 rfl) ?_
      refine z_mgeta (j := 14) X hB q3224 rfl (Nat.le_of_ble_eq_true rfl) rfl (by decide) dX5_ticks_84 ?_
      refine lv_iload_n hx hb dX5_ticks_87 rfl (lv_at hl 1 rfl) ?_
      obtain ⟨h1, h⟩ := h
      refine z_mald (f := 14) X hB (by decide) h1 dX5_ticks_88 ?_
      refine lv_if_ne (tgt := 96) hx hb dX5_ticks_89 (by decide) (fun c13 => ?_) (fun c13 => ?_)
      · have h := h.1 c13
        refine lv_iconst (v := 1) hx hb dX5_ticks_96 (by decide) ?_
        exact ww_X5_ticks_97 X (fun hB hl h => ih hB hl h) (by decide) hB (lv_sub hl [0, 1] rfl) h
      · have h := h.2 c13
        refine lv_iconst (v := 0) hx hb dX5_ticks_92 (by decide) ?_
        refine lv_goto (tgt := 97) hx hb dX5_ticks_93 (by decide) ?_
        exact ww_X5_ticks_97 X (fun hB hl h => ih hB hl h) (by decide) hB (lv_sub hl [0, 1] rfl) h
theorem wv_X5_ticks_16 {Qk : z_M → Prop} (X : z_XM l G A p R s m args meth c cX5_ticks 3 "ticks" none 16 304) : ∀ (n : Nat) {M : z_M} {x1 : Int32} {H : Heap} {locs : List Loc} {ls : Array Slot}, z_MB G z_P1c A s.heap T I0 Q o b M H locs → lv_has ls 3 [(0, .ref o), (1, .int x1)] → wl_X5_ticks_16 Qk n M x1 → W p l e R s m args below meth c H locs 0 0 (z_MQ below G z_P1c A T I0 Q (z_mv_ Qk T Q o b) z_no args s 0 0) (F0 m 16 ls []) := by
  intro n
  induction n with
  | zero =>
    intro M x1 H locs ls hB hl h
    exact h.elim
  | succ n ih =>
    intro M x1 H locs ls hB hl h
    obtain ⟨hx, hb, -⟩ := id X
    unfold wl_X5_ticks_16 at h
    refine lv_iload_n hx hb dX5_ticks_16 rfl (lv_at hl 1 rfl) ?_
    refine lv_iconst (v := 3) hx hb dX5_ticks_17 (by decide) ?_
    refine lv_icmp_ge (tgt := 69) hx hb dX5_ticks_18 (by decide) (fun c4 => ?_) (fun c4 => ?_)
    · have h := h.1 c4
      refine lv_iconst (v := 0) hx hb dX5_ticks_69 (by decide) ?_
      refine lv_istore_n (lv' := [(1, .int 0), (0, .ref o)]) hx hb dX5_ticks_70 rfl hl (by decide) rfl (fun ls hl => ?_)
      obtain ⟨w, h⟩ := h
      exact wv_X5_ticks_71 X  w hB (lv_sub hl [1, 0] rfl) h
    · have h := h.2 c4
      refine lv_aload_n hx hb dX5_ticks_21 rfl (lv_at hl 0 rfl) ?_
      refine z_mgeta (j := 47) X hB q3257 rfl (Nat.le_of_ble_eq_true rfl) rfl (by decide) dX5_ticks_22 ?_
      refine lv_iload_n hx hb dX5_ticks_25 rfl (lv_at hl 1 rfl) ?_
      obtain ⟨h1, h⟩ := h
      refine z_mald (f := 47) X hB (by decide) h1 dX5_ticks_26 ?_
      refine lv_topi (fun y5 ey5 => ?_)
      have h := h y5 ey5
      refine lv_istore_n (lv' := [(2, .int y5), (0, .ref o), (1, .int x1)]) hx hb dX5_ticks_27 rfl hl (by decide) rfl (fun ls hl => ?_)
      refine lv_aload_n hx hb dX5_ticks_28 rfl (lv_at hl 1 rfl) ?_
      refine lv_iconst (v := 0) hx hb dX5_ticks_29 (by decide) ?_
      obtain ⟨M6, eM6⟩ : ∃ z, z = z_us M 46 0 := ⟨_, rfl⟩
      have h := h M6 eM6
      refine z_mputs (j := 46) (ty := .boolean) X hB q3256 rfl (Nat.le_of_ble_eq_true rfl) rfl rfl rfl rfl (Or.inr ⟨rfl, Or.inl rfl⟩) rfl dX5_ticks_30 (fun H locs hB => ?_)
      rw [← eM6] at hB
      refine lv_aload_n hx hb dX5_ticks_33 rfl (lv_at hl 1 rfl) ?_
      refine lv_iload_n hx hb dX5_ticks_34 rfl (lv_at hl 0 rfl) ?_
      refine z_mcallv (fun _ h => h) (fun I1 hB1 hM => z_runV (rest := []) [.int y5] pk_X5_acts (met_X5_acts hB.1 hM y5 _ h) X hB1 (by decide) q3557 kc_X5 (by decide) (by rw [hB.1.1]) rfl hl.1 (Nat.le_of_ble_eq_true rfl) dX5_ticks_35 (Nat.le_refl 0) (Nat.le_refl 0) (by decide) (by decide)) hB (fun M8 H locs h hB => ?_)
      refine lv_aload_n hx hb dX5_ticks_38 rfl (lv_at hl 1 rfl) ?_
      refine z_mgeta (j := 17) X hB q3227 rfl (Nat.le_of_ble_eq_true rfl) rfl (by decide) dX5_ticks_39 ?_
      refine lv_iload_n hx hb dX5_ticks_42 rfl (lv_at hl 0 rfl) ?_
      refine lv_aload_n hx hb dX5_ticks_43 rfl (lv_at hl 1 rfl) ?_
      refine z_mgets (j := 46) X hB q3256 rfl (Nat.le_of_ble_eq_true rfl) rfl rfl dX5_ticks_44 ?_
      refine lv_if_eq (tgt := 61) hx hb dX5_ticks_47 (by decide) (fun c9 => ?_) (fun c9 => ?_)
      · have h := h.1 c9
        refine lv_iconst (v := 0) hx hb dX5_ticks_61 (by decide) ?_
        exact ww_X5_ticks_62 X (fun hB hl h => ih hB hl h) (by decide) hB (lv_sub hl [1, 2] rfl) h
      · have h := h.2 c9
        refine lv_aload_n hx hb dX5_ticks_50 rfl (lv_at hl 1 rfl) ?_
        refine z_mgeta (j := 17) X hB q3227 rfl (Nat.le_of_ble_eq_true rfl) rfl (by decide) dX5_ticks_51 ?_
        refine lv_iload_n hx hb dX5_ticks_54 rfl (lv_at hl 0 rfl) ?_
        obtain ⟨h1, h⟩ := h
        refine z_mald (f := 17) X hB (by decide) h1 dX5_ticks_55 ?_
        refine lv_iconst (v := 1) hx hb dX5_ticks_56 (by decide) ?_
        refine lv_iadd hx hb dX5_ticks_57 ?_
        refine lv_goto (tgt := 62) hx hb dX5_ticks_58 (by decide) ?_
        exact ww_X5_ticks_62 X (fun hB hl h => ih hB hl h) (by decide) hB (lv_sub hl [1, 2] rfl) h
theorem ww_X5_ticks_0 {Qk : z_M → Prop} (X : z_XM l G A p R s m args meth c cX5_ticks 3 "ticks" none 16 304) {M : z_M} {H : Heap} {locs : List Loc} {ls : Array Slot} (hB : z_MB G z_P1c A s.heap T I0 Q o b M H locs) (hl : lv_has ls 3 [(0, .ref o)]) (h : wb_X5_ticks_0 Qk M) : W p l e R s m args below meth c H locs 0 0 (z_MQ below G z_P1c A T I0 Q (z_mv_ Qk T Q o b) z_no args s 0 0) (F0 m 0 ls []) := by
  obtain ⟨hx, hb, -⟩ := id X
  unfold wb_X5_ticks_0 at h
  refine lv_aload_n hx hb dX5_ticks_0 rfl (lv_at hl 0 rfl) ?_
  refine lv_dup hx hb dX5_ticks_1 rfl ?_
  refine z_mgets (j := 33) X hB q3243 rfl (Nat.le_of_ble_eq_true rfl) rfl rfl dX5_ticks_2 ?_
  refine lv_iconst (v := 1) hx hb dX5_ticks_5 (by decide) ?_
  refine lv_iadd hx hb dX5_ticks_6 ?_
  obtain ⟨M1, eM1⟩ : ∃ z, z = z_us M 33 ((M 33 0) + 1) := ⟨_, rfl⟩
  have h := h M1 eM1
  refine z_mputs (j := 33) (ty := .int) X hB q3243 rfl (Nat.le_of_ble_eq_true rfl) rfl rfl rfl rfl (Or.inl rfl) rfl dX5_ticks_7 (fun H locs hB => ?_)
  rw [← eM1] at hB
  refine lv_aload_n hx hb dX5_ticks_10 rfl (lv_at hl 0 rfl) ?_
  refine z_mcallv (fun _ h => h) (fun I1 hB1 hM => z_runV (rest := []) [] pk_X5_findTurns (met_X5_findTurns hB.1 hM _ h) X hB1 (by decide) q3553 kc_X5 (by decide) (by rw [hB.1.1]) rfl hl.1 (Nat.le_of_ble_eq_true rfl) dX5_ticks_11 (Nat.le_refl 0) (Nat.le_refl 0) (by decide) (by decide)) hB (fun M3 H locs h hB => ?_)
  refine lv_iconst (v := 0) hx hb dX5_ticks_14 (by decide) ?_
  refine lv_istore_n (lv' := [(1, .int 0), (0, .ref o)]) hx hb dX5_ticks_15 rfl hl (by decide) rfl (fun ls hl => ?_)
  obtain ⟨w, h⟩ := h
  exact wv_X5_ticks_16 X  w hB (lv_sub hl [1, 0] rfl) h
theorem pk_X5_ticks : z_PV RX5 yX5_ticks cX5_ticks 3 none 0 := ⟨q3551, qs65, q131, q3552, by decide +kernel⟩
theorem met_X5_ticks {l : Launch} {G : z_E} {T : z_T} {I : z_I} {Q : z_Q} {o : Nat} {b : Nat → Nat} {M : z_M} (hL : z_lie T Q o b) (hM : z_of I o b = M) (Qk : z_M → Prop) (h : wp_X5_ticks M Qk) : z_GM l G yX5_ticks (ws_ yX5_ticks cX5_ticks 3 none) 16 304 0 0 [.ref o] z_P1c T I Q (z_mv_ Qk T Q o b) z_no := by
  refine z_body (own := RX5) (nm := "ticks") (by decide +kernel) rfl rfl (Nat.le_of_ble_eq_true rfl) (fun p e R s m below meth c A ls X hB hl => ?_)
  exact ww_X5_ticks_0 X ⟨hL, I, hB, hM⟩ hl h
/-! X5_tick -/
theorem wv_X5_tick_32 {Qk : Int32 → z_M → Prop} (X : z_XM l G A p R s m args meth c cX5_tick 4 "tick" (some .int) 17 326) : ∀ (n : Nat) {M : z_M} {x1 : Int32} {x2 : Int32} {x3 : Int32} {H : Heap} {locs : List Loc} {ls : Array Slot}, z_MB G z_P1c A s.heap T I0 Q o b M H locs → lv_has ls 4 [(0, .ref o), (1, .int x1), (2, .int x2), (3, .int x3)] → wl_X5_tick_32 Qk n M x1 x2 x3 → W p l e R s m args below meth c H locs 0 0 (z_MQ below G z_P1c A T I0 Q (z_mi Qk T Q o b) z_no args s 0 0) (F0 m 32 ls []) := by
  intro n
  induction n with
  | zero =>
    intro M x1 x2 x3 H locs ls hB hl h
    exact h.elim
  | succ n ih =>
    intro M x1 x2 x3 H locs ls hB hl h
    obtain ⟨hx, hb, -⟩ := id X
    unfold wl_X5_tick_32 at h
    refine lv_iload_n hx hb dX5_tick_32 rfl (lv_at hl 3 rfl) ?_
    refine lv_iload_n hx hb dX5_tick_33 rfl (lv_at hl 1 rfl) ?_
    refine lv_icmp_ge (tgt := 47) hx hb dX5_tick_34 (by decide) (fun c9 => ?_) (fun c9 => ?_)
    · have h := h.1 c9
      refine lv_aload_n hx hb dX5_tick_47 rfl (lv_at hl 0 rfl) ?_
      refine z_mgets (j := 37) X hB q3247 rfl (Nat.le_of_ble_eq_true rfl) rfl rfl dX5_tick_48 ?_
      refine lv_iload_n hx hb dX5_tick_51 rfl (lv_at hl 2 rfl) ?_
      refine lv_isub hx hb dX5_tick_52 ?_
      obtain ⟨hL, I, hB, hM⟩ := hB
      exact z_iret X hB ⟨_, rfl, (by rw [hM]; exact h), rfl, rfl⟩ (Nat.le_refl 0) (Nat.le_refl 0) dX5_tick_53
    · have h := h.2 c9
      refine lv_aload_n hx hb dX5_tick_37 rfl (lv_at hl 0 rfl) ?_
      refine z_mcallv (fun _ h => h) (fun I1 hB1 hM => z_runV (rest := []) [] pk_X5_ticks (met_X5_ticks hB.1 hM _ h) X hB1 (by decide) q3549 kc_X5 (by decide) (by rw [hB.1.1]) rfl hl.1 (Nat.le_of_ble_eq_true rfl) dX5_tick_38 (Nat.le_refl 0) (Nat.le_refl 0) (by decide) (by decide)) hB (fun M11 H locs h hB => ?_)
      obtain ⟨y12, ey12⟩ : ∃ z : Int32, z = x3 + 1 := ⟨_, rfl⟩
      have h := h y12 ey12
      refine lv_iinc (v := y12) (lv' := [(3, .int y12), (0, .ref o), (1, .int x1), (2, .int x2)]) hx hb dX5_tick_41 hl (k := 3) rfl (by rw [ey12]; rfl) (by decide) rfl (fun ls hl => ?_)
      refine lv_goto (tgt := 32) hx hb dX5_tick_44 (by decide) ?_
      exact ih hB (lv_sub hl [1, 2, 3, 0] rfl) h
theorem ww_X5_tick_0 {Qk : Int32 → z_M → Prop} (X : z_XM l G A p R s m args meth c cX5_tick 4 "tick" (some .int) 17 326) {M : z_M} {x1 : Int32} {H : Heap} {locs : List Loc} {ls : Array Slot} (hB : z_MB G z_P1c A s.heap T I0 Q o b M H locs) (hl : lv_has ls 4 [(0, .ref o), (1, .int x1)]) (h : wb_X5_tick_0 Qk M x1) : W p l e R s m args below meth c H locs 0 0 (z_MQ below G z_P1c A T I0 Q (z_mi Qk T Q o b) z_no args s 0 0) (F0 m 0 ls []) := by
  obtain ⟨hx, hb, -⟩ := id X
  unfold wb_X5_tick_0 at h
  refine lv_iload_n hx hb dX5_tick_0 rfl (lv_at hl 1 rfl) ?_
  refine lv_iconst (v := 1) hx hb dX5_tick_1 (by decide) ?_
  refine lv_bipush (v := 50) hx hb dX5_tick_2 (by decide) ?_
  refine z_mcallzp (fun I1 hB1 hM => z_runS (rest := []) [.int x1, .int 1, .int 50] pk_X5_isBetween (met_X5_isBetween x1 1 50 _ h) X hB1 (fun h => h) q3415 rfl hl.1 (Nat.le_of_ble_eq_true rfl) dX5_tick_4 (Nat.le_refl 0) (Nat.le_refl 0) (by decide) (by decide)) hB (fun r1 H locs hz h hB => ?_)
  have h := h hz
  refine lv_if_ne (tgt := 16) hx hb dX5_tick_7 (by decide) (fun c2 => ?_) (fun c2 => ?_)
  · have h := h.1 c2
    refine lv_aload_n hx hb dX5_tick_16 rfl (lv_at hl 0 rfl) ?_
    refine lv_iconst (v := 0) hx hb dX5_tick_17 (by decide) ?_
    obtain ⟨M3, eM3⟩ : ∃ z, z = z_us M 0 0 := ⟨_, rfl⟩
    have h := h M3 eM3
    refine z_mputs (j := 0) (ty := .int) X hB q3210 rfl (Nat.le_of_ble_eq_true rfl) rfl rfl rfl rfl (Or.inl rfl) rfl dX5_tick_18 (fun H locs hB => ?_)
    rw [← eM3] at hB
    refine lv_aload_n hx hb dX5_tick_21 rfl (lv_at hl 0 rfl) ?_
    refine z_mcallv (fun _ h => h) (fun I1 hB1 hM => z_runV (rest := []) [] pk_X5_remembers (met_X5_remembers hB.1 hM _ h) X hB1 (by decide) q3437 kc_X5 (by decide) (by rw [hB.1.1]) rfl hl.1 (Nat.le_of_ble_eq_true rfl) dX5_tick_22 (Nat.le_refl 0) (Nat.le_refl 0) (by decide) (by decide)) hB (fun M5 H locs h hB => ?_)
    refine lv_aload_n hx hb dX5_tick_25 rfl (lv_at hl 0 rfl) ?_
    refine z_mgets (j := 37) X hB q3247 rfl (Nat.le_of_ble_eq_true rfl) rfl rfl dX5_tick_26 ?_
    refine lv_topi (fun y6 ey6 => ?_)
    have h := h y6 ey6
    refine lv_istore_n (lv' := [(2, .int y6), (0, .ref o), (1, .int x1)]) hx hb dX5_tick_29 rfl hl (by decide) rfl (fun ls hl => ?_)
    refine lv_iconst (v := 0) hx hb dX5_tick_30 (by decide) ?_
    refine lv_istore_n (lv' := [(3, .int 0), (2, .int y6), (0, .ref o), (1, .int x1)]) hx hb dX5_tick_31 rfl hl (by decide) rfl (fun ls hl => ?_)
    obtain ⟨w, h⟩ := h
    exact wv_X5_tick_32 X  w hB (lv_sub hl [2, 3, 1, 0] rfl) h
  · have h := h.2 c2
    refine lv_aload_n hx hb dX5_tick_10 rfl (lv_at hl 0 rfl) ?_
    refine lv_iconst (v := 1) hx hb dX5_tick_11 (by decide) ?_
    refine z_mcalli (fun _ h => h) (fun I1 hB1 hM => z_runV (rest := []) [.int 1] pk_X5_fails (met_X5_fails hB.1 hM 1 _ h) X hB1 (by decide) q3472 kc_X5 (by decide) (by rw [hB.1.1]) rfl hl.1 (Nat.le_of_ble_eq_true rfl) dX5_tick_12 (Nat.le_refl 0) (Nat.le_refl 0) (by decide) (by decide)) hB (fun r7 M8 H locs h hB => ?_)
    obtain ⟨hL, I, hB, hM⟩ := hB
    exact z_iret X hB ⟨_, rfl, (by rw [hM]; exact h), rfl, rfl⟩ (Nat.le_refl 0) (Nat.le_refl 0) dX5_tick_15
theorem pk_X5_tick : z_PV RX5 yX5_tick cX5_tick 4 (some .int) 1 := ⟨q3546, q3547, q131, q3548, by decide +kernel⟩
theorem met_X5_tick {l : Launch} {G : z_E} {T : z_T} {I : z_I} {Q : z_Q} {o : Nat} {b : Nat → Nat} {M : z_M} (hL : z_lie T Q o b) (hM : z_of I o b = M) (x1 : Int32) (Qk : Int32 → z_M → Prop) (h : wp_X5_tick M x1 Qk) : z_GM l G yX5_tick (ws_ yX5_tick cX5_tick 4 (some .int)) 17 326 0 0 [.ref o, .int x1] z_P1c T I Q (z_mi Qk T Q o b) z_no := by
  refine z_body (own := RX5) (nm := "tick") (by decide +kernel) rfl rfl (Nat.le_of_ble_eq_true rfl) (fun p e R s m below meth c A ls X hB hl => ?_)
  exact ww_X5_tick_0 X ⟨hL, I, hB, hM⟩ hl h
/-! X5_reason -/
theorem ww_X5_reason_52 {Qk : Int32 → z_M → Prop} (X : z_XM l G A p R s m args meth c cX5_reason 3 "reason" (some .int) 10 162) {M : z_M} {s0 : Int32} {H : Heap} {locs : List Loc} {ls : Array Slot} (hB : z_MB G z_P1c A s.heap T I0 Q o b M H locs) (hl : lv_has ls 3 []) (h : wb_X5_reason_52 Qk M s0) : W p l e R s m args below meth c H locs 0 0 (z_MQ below G z_P1c A T I0 Q (z_mi Qk T Q o b) z_no args s 0 0) (F0 m 52 ls [.int s0]) := by
  obtain ⟨hx, hb, -⟩ := id X
  unfold wb_X5_reason_52 at h
  obtain ⟨hL, I, hB, hM⟩ := hB
  exact z_iret X hB ⟨_, rfl, (by rw [hM]; exact h), rfl, rfl⟩ (Nat.le_refl 0) (Nat.le_refl 0) dX5_reason_52
theorem ww_X5_reason_0 {Qk : Int32 → z_M → Prop} (X : z_XM l G A p R s m args meth c cX5_reason 3 "reason" (some .int) 10 162) {M : z_M} {x1 : Int32} {x2 : Int32} {H : Heap} {locs : List Loc} {ls : Array Slot} (hB : z_MB G z_P1c A s.heap T I0 Q o b M H locs) (hl : lv_has ls 3 [(0, .ref o), (1, .int x1), (2, .int x2)]) (h : wb_X5_reason_0 Qk M x1 x2) : W p l e R s m args below meth c H locs 0 0 (z_MQ below G z_P1c A T I0 Q (z_mi Qk T Q o b) z_no args s 0 0) (F0 m 0 ls []) := by
  obtain ⟨hx, hb, -⟩ := id X
  unfold wb_X5_reason_0 at h
  refine lv_iload_n hx hb dX5_reason_0 rfl (lv_at hl 1 rfl) ?_
  refine z_mcallzp (fun I1 hB1 hM => z_runS (rest := []) [.int x1] pk_X5_isArm (met_X5_isArm x1 _ h) X hB1 (fun h => h) q3469 rfl hl.1 (Nat.le_of_ble_eq_true rfl) dX5_reason_1 (Nat.le_refl 0) (Nat.le_refl 0) (by decide) (by decide)) hB (fun r1 H locs hz h hB => ?_)
  have h := h hz
  refine lv_if_ne (tgt := 13) hx hb dX5_reason_4 (by decide) (fun c2 => ?_) (fun c2 => ?_)
  · have h := h.1 c2
    refine lv_aload_n hx hb dX5_reason_13 rfl (lv_at hl 0 rfl) ?_
    refine z_mgeta (j := 17) X hB q3227 rfl (Nat.le_of_ble_eq_true rfl) rfl (by decide) dX5_reason_14 ?_
    refine lv_iload_n hx hb dX5_reason_17 rfl (lv_at hl 1 rfl) ?_
    obtain ⟨h1, h⟩ := h
    refine z_mald (f := 17) X hB (by decide) h1 dX5_reason_18 ?_
    refine lv_if_ne (tgt := 28) hx hb dX5_reason_19 (by decide) (fun c3 => ?_) (fun c3 => ?_)
    · have h := h.1 c3
      refine lv_aload_n hx hb dX5_reason_28 rfl (lv_at hl 0 rfl) ?_
      refine lv_iconst (v := 0) hx hb dX5_reason_29 (by decide) ?_
      obtain ⟨M4, eM4⟩ : ∃ z, z = z_us M 0 0 := ⟨_, rfl⟩
      have h := h M4 eM4
      refine z_mputs (j := 0) (ty := .int) X hB q3210 rfl (Nat.le_of_ble_eq_true rfl) rfl rfl rfl rfl (Or.inl rfl) rfl dX5_reason_30 (fun H locs hB => ?_)
      rw [← eM4] at hB
      refine lv_iload_n hx hb dX5_reason_33 rfl (lv_at hl 2 rfl) ?_
      refine lv_if_eq (tgt := 46) hx hb dX5_reason_34 (by decide) (fun c5 => ?_) (fun c5 => ?_)
      · have h := h.1 c5
        refine lv_aload_n hx hb dX5_reason_46 rfl (lv_at hl 0 rfl) ?_
        refine z_mgeta (j := 18) X hB q3228 rfl (Nat.le_of_ble_eq_true rfl) rfl (by decide) dX5_reason_47 ?_
        refine lv_iload_n hx hb dX5_reason_50 rfl (lv_at hl 1 rfl) ?_
        obtain ⟨h1, h⟩ := h
        refine z_mald (f := 18) X hB (by decide) h1 dX5_reason_51 ?_
        exact ww_X5_reason_52 X  hB (lv_sub hl [] rfl) h
      · have h := h.2 c5
        refine lv_aload_n hx hb dX5_reason_37 rfl (lv_at hl 0 rfl) ?_
        refine z_mgeta (j := 19) X hB q3229 rfl (Nat.le_of_ble_eq_true rfl) rfl (by decide) dX5_reason_38 ?_
        refine lv_iload_n hx hb dX5_reason_41 rfl (lv_at hl 1 rfl) ?_
        obtain ⟨h1, h⟩ := h
        refine z_mald (f := 19) X hB (by decide) h1 dX5_reason_42 ?_
        refine lv_goto (tgt := 52) hx hb dX5_reason_43 (by decide) ?_
        exact ww_X5_reason_52 X  hB (lv_sub hl [] rfl) h
    · have h := h.2 c3
      refine lv_aload_n hx hb dX5_reason_22 rfl (lv_at hl 0 rfl) ?_
      refine lv_iconst (v := 2) hx hb dX5_reason_23 (by decide) ?_
      refine z_mcalli (fun _ h => h) (fun I1 hB1 hM => z_runV (rest := []) [.int 2] pk_X5_fails (met_X5_fails hB.1 hM 2 _ h) X hB1 (by decide) q3472 kc_X5 (by decide) (by rw [hB.1.1]) rfl hl.1 (Nat.le_of_ble_eq_true rfl) dX5_reason_24 (Nat.le_refl 0) (Nat.le_refl 0) (by decide) (by decide)) hB (fun r6 M7 H locs h hB => ?_)
      obtain ⟨hL, I, hB, hM⟩ := hB
      exact z_iret X hB ⟨_, rfl, (by rw [hM]; exact h), rfl, rfl⟩ (Nat.le_refl 0) (Nat.le_refl 0) dX5_reason_27
  · have h := h.2 c2
    refine lv_aload_n hx hb dX5_reason_7 rfl (lv_at hl 0 rfl) ?_
    refine lv_iconst (v := 1) hx hb dX5_reason_8 (by decide) ?_
    refine z_mcalli (fun _ h => h) (fun I1 hB1 hM => z_runV (rest := []) [.int 1] pk_X5_fails (met_X5_fails hB.1 hM 1 _ h) X hB1 (by decide) q3472 kc_X5 (by decide) (by rw [hB.1.1]) rfl hl.1 (Nat.le_of_ble_eq_true rfl) dX5_reason_9 (Nat.le_refl 0) (Nat.le_refl 0) (by decide) (by decide)) hB (fun r8 M9 H locs h hB => ?_)
    obtain ⟨hL, I, hB, hM⟩ := hB
    exact z_iret X hB ⟨_, rfl, (by rw [hM]; exact h), rfl, rfl⟩ (Nat.le_refl 0) (Nat.le_refl 0) dX5_reason_12
theorem pk_X5_reason : z_PV RX5 yX5_reason cX5_reason 3 (some .int) 2 := ⟨q3614, q3615, q131, q3616, by decide +kernel⟩
theorem met_X5_reason {l : Launch} {G : z_E} {T : z_T} {I : z_I} {Q : z_Q} {o : Nat} {b : Nat → Nat} {M : z_M} (hL : z_lie T Q o b) (hM : z_of I o b = M) (x1 : Int32) (x2 : Int32) (Qk : Int32 → z_M → Prop) (h : wp_X5_reason M x1 x2 Qk) : z_GM l G yX5_reason (ws_ yX5_reason cX5_reason 3 (some .int)) 10 162 0 0 [.ref o, .int x1, .int x2] z_P1c T I Q (z_mi Qk T Q o b) z_no := by
  refine z_body (own := RX5) (nm := "reason") (by decide +kernel) rfl rfl (Nat.le_of_ble_eq_true rfl) (fun p e R s m below meth c A ls X hB hl => ?_)
  exact ww_X5_reason_0 X ⟨hL, I, hB, hM⟩ hl h
/-! X5_wouldBe -/
theorem ww_X5_wouldBe_100 {Qk : Int32 → z_M → Prop} (X : z_XM l G A p R s m args meth c cX5_wouldBe 5 "wouldBe" (some .int) 13 236) {M : z_M} {x1 : Int32} {x2 : Int32} {x3 : Int32} {s0 : Int32} {H : Heap} {locs : List Loc} {ls : Array Slot} (hB : z_MB G z_P1c A s.heap T I0 Q o b M H locs) (hl : lv_has ls 5 [(0, .ref o), (1, .int x1), (2, .int x2), (3, .int x3)]) (h : wb_X5_wouldBe_100 Qk M x1 x2 x3 s0) : W p l e R s m args below meth c H locs 0 0 (z_MQ below G z_P1c A T I0 Q (z_mi Qk T Q o b) z_no args s 0 0) (F0 m 100 ls [.int s0]) := by
  obtain ⟨hx, hb, -⟩ := id X
  unfold wb_X5_wouldBe_100 at h
  refine lv_istore (lv' := [(4, .int s0), (0, .ref o), (1, .int x1), (2, .int x2), (3, .int x3)]) hx hb dX5_wouldBe_100 hl (by decide) rfl (fun ls hl => ?_)
  refine lv_iload hx hb dX5_wouldBe_102 (lv_at hl 0 rfl) ?_
  refine lv_aload_n hx hb dX5_wouldBe_104 rfl (lv_at hl 1 rfl) ?_
  refine z_mgeta (j := 24) X hB q3234 rfl (Nat.le_of_ble_eq_true rfl) rfl (by decide) dX5_wouldBe_105 ?_
  refine lv_iload_n hx hb dX5_wouldBe_108 rfl (lv_at hl 4 rfl) ?_
  obtain ⟨h1, h⟩ := h
  refine z_mald (f := 24) X hB (by decide) h1 dX5_wouldBe_109 ?_
  refine lv_icmp_lt (tgt := 119) hx hb dX5_wouldBe_110 (by decide) (fun c13 => ?_) (fun c13 => ?_)
  · have h := h.1 c13
    refine lv_aload_n hx hb dX5_wouldBe_119 rfl (lv_at hl 1 rfl) ?_
    refine lv_iconst (v := 0) hx hb dX5_wouldBe_120 (by decide) ?_
    obtain ⟨M14, eM14⟩ : ∃ z, z = z_us M 0 0 := ⟨_, rfl⟩
    have h := h M14 eM14
    refine z_mputs (j := 0) (ty := .int) X hB q3210 rfl (Nat.le_of_ble_eq_true rfl) rfl rfl rfl rfl (Or.inl rfl) rfl dX5_wouldBe_121 (fun H locs hB => ?_)
    rw [← eM14] at hB
    refine lv_aload_n hx hb dX5_wouldBe_124 rfl (lv_at hl 1 rfl) ?_
    refine lv_iload_n hx hb dX5_wouldBe_125 rfl (lv_at hl 2 rfl) ?_
    refine lv_iload_n hx hb dX5_wouldBe_126 rfl (lv_at hl 4 rfl) ?_
    refine lv_iload hx hb dX5_wouldBe_127 (lv_at hl 0 rfl) ?_
    refine lv_iload_n hx hb dX5_wouldBe_129 rfl (lv_at hl 3 rfl) ?_
    refine z_mcalli (fun _ h => h) (fun I1 hB1 hM => z_runV (rest := []) [.int x1, .int x3, .int s0, .int x2] pk_X5_answers (met_X5_answers hB.1 hM x1 x3 s0 x2 _ h) X hB1 (by decide) q3569 kc_X5 (by decide) (by rw [hB.1.1]) rfl hl.1 (Nat.le_of_ble_eq_true rfl) dX5_wouldBe_130 (Nat.le_refl 0) (Nat.le_refl 0) (by decide) (by decide)) hB (fun r15 M16 H locs h hB => ?_)
    obtain ⟨hL, I, hB, hM⟩ := hB
    exact z_iret X hB ⟨_, rfl, (by rw [hM]; exact h), rfl, rfl⟩ (Nat.le_refl 0) (Nat.le_refl 0) dX5_wouldBe_133
  · have h := h.2 c13
    refine lv_aload_n hx hb dX5_wouldBe_113 rfl (lv_at hl 1 rfl) ?_
    refine lv_iconst (v := 2) hx hb dX5_wouldBe_114 (by decide) ?_
    refine z_mcalli (fun _ h => h) (fun I1 hB1 hM => z_runV (rest := []) [.int 2] pk_X5_fails (met_X5_fails hB.1 hM 2 _ h) X hB1 (by decide) q3472 kc_X5 (by decide) (by rw [hB.1.1]) rfl hl.1 (Nat.le_of_ble_eq_true rfl) dX5_wouldBe_115 (Nat.le_refl 0) (Nat.le_refl 0) (by decide) (by decide)) hB (fun r17 M18 H locs h hB => ?_)
    obtain ⟨hL, I, hB, hM⟩ := hB
    exact z_iret X hB ⟨_, rfl, (by rw [hM]; exact h), rfl, rfl⟩ (Nat.le_refl 0) (Nat.le_refl 0) dX5_wouldBe_118
theorem ww_X5_wouldBe_99 {Qk : Int32 → z_M → Prop} (X : z_XM l G A p R s m args meth c cX5_wouldBe 5 "wouldBe" (some .int) 13 236) {M : z_M} {x1 : Int32} {x2 : Int32} {x3 : Int32} {s0 : Int32} {s1 : Int32} {H : Heap} {locs : List Loc} {ls : Array Slot} (hB : z_MB G z_P1c A s.heap T I0 Q o b M H locs) (hl : lv_has ls 5 [(0, .ref o), (1, .int x1), (2, .int x2), (3, .int x3)]) (h : wb_X5_wouldBe_99 Qk M x1 x2 x3 s0 s1) : W p l e R s m args below meth c H locs 0 0 (z_MQ below G z_P1c A T I0 Q (z_mi Qk T Q o b) z_no args s 0 0) (F0 m 99 ls [.int s1, .int s0]) := by
  obtain ⟨hx, hb, -⟩ := id X
  unfold wb_X5_wouldBe_99 at h
  refine lv_iadd hx hb dX5_wouldBe_99 ?_
  exact ww_X5_wouldBe_100 X  hB (lv_sub hl [0, 1, 2, 3] rfl) h
theorem ww_X5_wouldBe_69 {Qk : Int32 → z_M → Prop} (X : z_XM l G A p R s m args meth c cX5_wouldBe 5 "wouldBe" (some .int) 13 236) {M : z_M} {x1 : Int32} {x2 : Int32} {s0 : Int32} {H : Heap} {locs : List Loc} {ls : Array Slot} (hB : z_MB G z_P1c A s.heap T I0 Q o b M H locs) (hl : lv_has ls 5 [(0, .ref o), (1, .int x1), (2, .int x2)]) (h : wb_X5_wouldBe_69 Qk M x1 x2 s0) : W p l e R s m args below meth c H locs 0 0 (z_MQ below G z_P1c A T I0 Q (z_mi Qk T Q o b) z_no args s 0 0) (F0 m 69 ls [.int s0]) := by
  obtain ⟨hx, hb, -⟩ := id X
  unfold wb_X5_wouldBe_69 at h
  refine lv_istore_n (lv' := [(3, .int s0), (0, .ref o), (1, .int x1), (2, .int x2)]) hx hb dX5_wouldBe_69 rfl hl (by decide) rfl (fun ls hl => ?_)
  refine lv_iload_n hx hb dX5_wouldBe_70 rfl (lv_at hl 3 rfl) ?_
  refine lv_if_eq (tgt := 78) hx hb dX5_wouldBe_71 (by decide) (fun c11 => ?_) (fun c11 => ?_)
  · have h := h.1 c11
    refine lv_aload_n hx hb dX5_wouldBe_78 rfl (lv_at hl 1 rfl) ?_
    refine z_mgeta (j := 15) X hB q3225 rfl (Nat.le_of_ble_eq_true rfl) rfl (by decide) dX5_wouldBe_79 ?_
    refine lv_iload_n hx hb dX5_wouldBe_82 rfl (lv_at hl 2 rfl) ?_
    obtain ⟨h1, h⟩ := h
    refine z_mald (f := 15) X hB (by decide) h1 dX5_wouldBe_83 ?_
    refine lv_aload_n hx hb dX5_wouldBe_84 rfl (lv_at hl 1 rfl) ?_
    refine z_mgeta (j := 14) X hB q3224 rfl (Nat.le_of_ble_eq_true rfl) rfl (by decide) dX5_wouldBe_85 ?_
    refine lv_iload_n hx hb dX5_wouldBe_88 rfl (lv_at hl 2 rfl) ?_
    obtain ⟨h1, h⟩ := h
    refine z_mald (f := 14) X hB (by decide) h1 dX5_wouldBe_89 ?_
    refine lv_iconst (v := 2) hx hb dX5_wouldBe_90 (by decide) ?_
    refine lv_icmp_ne (tgt := 98) hx hb dX5_wouldBe_91 (by decide) (fun c12 => ?_) (fun c12 => ?_)
    · have h := h.1 c12
      refine lv_iconst (v := 1) hx hb dX5_wouldBe_98 (by decide) ?_
      exact ww_X5_wouldBe_99 X  hB (lv_sub hl [1, 2, 3, 0] rfl) h
    · have h := h.2 c12
      refine lv_iconst (v := 2) hx hb dX5_wouldBe_94 (by decide) ?_
      refine lv_goto (tgt := 99) hx hb dX5_wouldBe_95 (by decide) ?_
      exact ww_X5_wouldBe_99 X  hB (lv_sub hl [1, 2, 3, 0] rfl) h
  · have h := h.2 c11
    refine lv_iconst (v := 0) hx hb dX5_wouldBe_74 (by decide) ?_
    refine lv_goto (tgt := 100) hx hb dX5_wouldBe_75 (by decide) ?_
    exact ww_X5_wouldBe_100 X  hB (lv_sub hl [1, 2, 3, 0] rfl) h
theorem ww_X5_wouldBe_47 {Qk : Int32 → z_M → Prop} (X : z_XM l G A p R s m args meth c cX5_wouldBe 5 "wouldBe" (some .int) 13 236) {M : z_M} {x1 : Int32} {x2 : Int32} {H : Heap} {locs : List Loc} {ls : Array Slot} (hB : z_MB G z_P1c A s.heap T I0 Q o b M H locs) (hl : lv_has ls 5 [(0, .ref o), (1, .int x1), (2, .int x2)]) (h : wb_X5_wouldBe_47 Qk M x1 x2) : W p l e R s m args below meth c H locs 0 0 (z_MQ below G z_P1c A T I0 Q (z_mi Qk T Q o b) z_no args s 0 0) (F0 m 47 ls []) := by
  obtain ⟨hx, hb, -⟩ := id X
  unfold wb_X5_wouldBe_47 at h
  refine lv_iload_n hx hb dX5_wouldBe_47 rfl (lv_at hl 2 rfl) ?_
  refine lv_if_eq (tgt := 63) hx hb dX5_wouldBe_48 (by decide) (fun c10 => ?_) (fun c10 => ?_)
  · have h := h.1 c10
    refine lv_aload_n hx hb dX5_wouldBe_63 rfl (lv_at hl 0 rfl) ?_
    refine z_mgeta (j := 13) X hB q3223 rfl (Nat.le_of_ble_eq_true rfl) rfl (by decide) dX5_wouldBe_64 ?_
    refine lv_iload_n hx hb dX5_wouldBe_67 rfl (lv_at hl 1 rfl) ?_
    obtain ⟨h1, h⟩ := h
    refine z_mald (f := 13) X hB (by decide) h1 dX5_wouldBe_68 ?_
    exact ww_X5_wouldBe_69 X  hB (lv_sub hl [0, 1, 2] rfl) h
  · have h := h.2 c10
    refine lv_aload_n hx hb dX5_wouldBe_51 rfl (lv_at hl 0 rfl) ?_
    refine z_mgeta (j := 12) X hB q3222 rfl (Nat.le_of_ble_eq_true rfl) rfl (by decide) dX5_wouldBe_52 ?_
    refine lv_bipush (v := 30) hx hb dX5_wouldBe_55 (by decide) ?_
    refine lv_iload_n hx hb dX5_wouldBe_57 rfl (lv_at hl 1 rfl) ?_
    refine lv_imul hx hb dX5_wouldBe_58 ?_
    obtain ⟨h1, h⟩ := h
    refine z_mald (f := 12) X hB (by decide) h1 dX5_wouldBe_59 ?_
    refine lv_goto (tgt := 69) hx hb dX5_wouldBe_60 (by decide) ?_
    exact ww_X5_wouldBe_69 X  hB (lv_sub hl [0, 1, 2] rfl) h
theorem ww_X5_wouldBe_27 {Qk : Int32 → z_M → Prop} (X : z_XM l G A p R s m args meth c cX5_wouldBe 5 "wouldBe" (some .int) 13 236) {M : z_M} {x1 : Int32} {s0 : Int32} {H : Heap} {locs : List Loc} {ls : Array Slot} (hB : z_MB G z_P1c A s.heap T I0 Q o b M H locs) (hl : lv_has ls 5 [(0, .ref o), (1, .int x1)]) (h : wb_X5_wouldBe_27 Qk M x1 s0) : W p l e R s m args below meth c H locs 0 0 (z_MQ below G z_P1c A T I0 Q (z_mi Qk T Q o b) z_no args s 0 0) (F0 m 27 ls [.int s0]) := by
  obtain ⟨hx, hb, -⟩ := id X
  unfold wb_X5_wouldBe_27 at h
  refine lv_istore_n (lv' := [(2, .int s0), (0, .ref o), (1, .int x1)]) hx hb dX5_wouldBe_27 rfl hl (by decide) rfl (fun ls hl => ?_)
  refine lv_iload_n hx hb dX5_wouldBe_28 rfl (lv_at hl 0 rfl) ?_
  refine lv_if_eq (tgt := 47) hx hb dX5_wouldBe_29 (by decide) (fun c6 => ?_) (fun c6 => ?_)
  · have h := h.1 c6
    exact ww_X5_wouldBe_47 X  hB (lv_sub hl [1, 2, 0] rfl) h
  · have h := h.2 c6
    refine lv_aload_n hx hb dX5_wouldBe_32 rfl (lv_at hl 1 rfl) ?_
    refine z_mgeta (j := 11) X hB q3221 rfl (Nat.le_of_ble_eq_true rfl) rfl (by decide) dX5_wouldBe_33 ?_
    refine lv_iload_n hx hb dX5_wouldBe_36 rfl (lv_at hl 2 rfl) ?_
    obtain ⟨h1, h⟩ := h
    refine z_mald (f := 11) X hB (by decide) h1 dX5_wouldBe_37 ?_
    refine lv_if_ne (tgt := 47) hx hb dX5_wouldBe_38 (by decide) (fun c7 => ?_) (fun c7 => ?_)
    · have h := h.1 c7
      exact ww_X5_wouldBe_47 X  hB (lv_sub hl [1, 2, 0] rfl) h
    · have h := h.2 c7
      refine lv_aload_n hx hb dX5_wouldBe_41 rfl (lv_at hl 1 rfl) ?_
      refine lv_iconst (v := 2) hx hb dX5_wouldBe_42 (by decide) ?_
      refine z_mcalli (fun _ h => h) (fun I1 hB1 hM => z_runV (rest := []) [.int 2] pk_X5_fails (met_X5_fails hB.1 hM 2 _ h) X hB1 (by decide) q3472 kc_X5 (by decide) (by rw [hB.1.1]) rfl hl.1 (Nat.le_of_ble_eq_true rfl) dX5_wouldBe_43 (Nat.le_refl 0) (Nat.le_refl 0) (by decide) (by decide)) hB (fun r8 M9 H locs h hB => ?_)
      obtain ⟨hL, I, hB, hM⟩ := hB
      exact z_iret X hB ⟨_, rfl, (by rw [hM]; exact h), rfl, rfl⟩ (Nat.le_refl 0) (Nat.le_refl 0) dX5_wouldBe_46
theorem ww_X5_wouldBe_0 {Qk : Int32 → z_M → Prop} (X : z_XM l G A p R s m args meth c cX5_wouldBe 5 "wouldBe" (some .int) 13 236) {M : z_M} {x1 : Int32} {H : Heap} {locs : List Loc} {ls : Array Slot} (hB : z_MB G z_P1c A s.heap T I0 Q o b M H locs) (hl : lv_has ls 5 [(0, .ref o), (1, .int x1)]) (h : wb_X5_wouldBe_0 Qk M x1) : W p l e R s m args below meth c H locs 0 0 (z_MQ below G z_P1c A T I0 Q (z_mi Qk T Q o b) z_no args s 0 0) (F0 m 0 ls []) := by
  obtain ⟨hx, hb, -⟩ := id X
  unfold wb_X5_wouldBe_0 at h
  refine lv_iload_n hx hb dX5_wouldBe_0 rfl (lv_at hl 1 rfl) ?_
  refine z_mcallzp (fun I1 hB1 hM => z_runS (rest := []) [.int x1] pk_X5_isArm (met_X5_isArm x1 _ h) X hB1 (fun h => h) q3469 rfl hl.1 (Nat.le_of_ble_eq_true rfl) dX5_wouldBe_1 (Nat.le_refl 0) (Nat.le_refl 0) (by decide) (by decide)) hB (fun r1 H locs hz h hB => ?_)
  have h := h hz
  refine lv_if_ne (tgt := 13) hx hb dX5_wouldBe_4 (by decide) (fun c2 => ?_) (fun c2 => ?_)
  · have h := h.1 c2
    refine lv_aload_n hx hb dX5_wouldBe_13 rfl (lv_at hl 0 rfl) ?_
    refine z_mgeta (j := 14) X hB q3224 rfl (Nat.le_of_ble_eq_true rfl) rfl (by decide) dX5_wouldBe_14 ?_
    refine lv_iload_n hx hb dX5_wouldBe_17 rfl (lv_at hl 1 rfl) ?_
    obtain ⟨h1, h⟩ := h
    refine z_mald (f := 14) X hB (by decide) h1 dX5_wouldBe_18 ?_
    refine lv_if_ne (tgt := 26) hx hb dX5_wouldBe_19 (by decide) (fun c3 => ?_) (fun c3 => ?_)
    · have h := h.1 c3
      refine lv_iconst (v := 0) hx hb dX5_wouldBe_26 (by decide) ?_
      exact ww_X5_wouldBe_27 X  hB (lv_sub hl [0, 1] rfl) h
    · have h := h.2 c3
      refine lv_iconst (v := 1) hx hb dX5_wouldBe_22 (by decide) ?_
      refine lv_goto (tgt := 27) hx hb dX5_wouldBe_23 (by decide) ?_
      exact ww_X5_wouldBe_27 X  hB (lv_sub hl [0, 1] rfl) h
  · have h := h.2 c2
    refine lv_aload_n hx hb dX5_wouldBe_7 rfl (lv_at hl 0 rfl) ?_
    refine lv_iconst (v := 1) hx hb dX5_wouldBe_8 (by decide) ?_
    refine z_mcalli (fun _ h => h) (fun I1 hB1 hM => z_runV (rest := []) [.int 1] pk_X5_fails (met_X5_fails hB.1 hM 1 _ h) X hB1 (by decide) q3472 kc_X5 (by decide) (by rw [hB.1.1]) rfl hl.1 (Nat.le_of_ble_eq_true rfl) dX5_wouldBe_9 (Nat.le_refl 0) (Nat.le_refl 0) (by decide) (by decide)) hB (fun r4 M5 H locs h hB => ?_)
    obtain ⟨hL, I, hB, hM⟩ := hB
    exact z_iret X hB ⟨_, rfl, (by rw [hM]; exact h), rfl, rfl⟩ (Nat.le_refl 0) (Nat.le_refl 0) dX5_wouldBe_12
theorem pk_X5_wouldBe : z_PV RX5 yX5_wouldBe cX5_wouldBe 5 (some .int) 1 := ⟨q3618, q3619, q131, q3620, by decide +kernel⟩
theorem met_X5_wouldBe {l : Launch} {G : z_E} {T : z_T} {I : z_I} {Q : z_Q} {o : Nat} {b : Nat → Nat} {M : z_M} (hL : z_lie T Q o b) (hM : z_of I o b = M) (x1 : Int32) (Qk : Int32 → z_M → Prop) (h : wp_X5_wouldBe M x1 Qk) : z_GM l G yX5_wouldBe (ws_ yX5_wouldBe cX5_wouldBe 5 (some .int)) 13 236 0 0 [.ref o, .int x1] z_P1c T I Q (z_mi Qk T Q o b) z_no := by
  refine z_body (own := RX5) (nm := "wouldBe") (by decide +kernel) rfl rfl (Nat.le_of_ble_eq_true rfl) (fun p e R s m below meth c A ls X hB hl => ?_)
  exact ww_X5_wouldBe_0 X ⟨hL, I, hB, hM⟩ hl h
/-! X5_isQuiet -/
theorem ww_X5_isQuiet_25 {M : z_M} {Qk : Int32 → Prop} (X : z_XM l G A p R s m args meth c cX5_isQuiet 2 "isQuiet" (some .boolean) 8 120) {H : Heap} {locs : List Loc} {ls : Array Slot} (hB : z_MB G z_P1c A s.heap T I0 Q o b M H locs) (hl : lv_has ls 2 []) (h : wb_X5_isQuiet_25 M Qk) : W p l e R s m args below meth c H locs 0 0 (z_MQ below G z_P1c A T I0 Q (z_mz (fun r M1 => Qk r ∧ M1 = M) T Q o b) z_no args s 0 0) (F0 m 25 ls []) := by
  obtain ⟨hx, hb, -⟩ := id X
  unfold wb_X5_isQuiet_25 at h
  refine lv_iconst (v := 0) hx hb dX5_isQuiet_25 (by decide) ?_
  obtain ⟨hL, I, hB, hM⟩ := hB
  exact z_zret X hB (Or.inl rfl) ⟨_, rfl, (Or.inl rfl), ⟨h, hM⟩, rfl, rfl⟩ (Nat.le_refl 0) (Nat.le_refl 0) dX5_isQuiet_26
theorem wv_X5_isQuiet_2 {M : z_M} {Qk : Int32 → Prop} (X : z_XM l G A p R s m args meth c cX5_isQuiet 2 "isQuiet" (some .boolean) 8 120) : ∀ (n : Nat) {x1 : Int32} {H : Heap} {locs : List Loc} {ls : Array Slot}, z_MB G z_P1c A s.heap T I0 Q o b M H locs → lv_has ls 2 [(0, .ref o), (1, .int x1)] → wl_X5_isQuiet_2 M Qk n x1 → W p l e R s m args below meth c H locs 0 0 (z_MQ below G z_P1c A T I0 Q (z_mz (fun r M1 => Qk r ∧ M1 = M) T Q o b) z_no args s 0 0) (F0 m 2 ls []) := by
  intro n
  induction n with
  | zero =>
    intro x1 H locs ls hB hl h
    exact h.elim
  | succ n ih =>
    intro x1 H locs ls hB hl h
    obtain ⟨hx, hb, -⟩ := id X
    unfold wl_X5_isQuiet_2 at h
    refine lv_iload_n hx hb dX5_isQuiet_2 rfl (lv_at hl 1 rfl) ?_
    refine lv_iconst (v := 3) hx hb dX5_isQuiet_3 (by decide) ?_
    refine lv_icmp_ge (tgt := 33) hx hb dX5_isQuiet_4 (by decide) (fun c1 => ?_) (fun c1 => ?_)
    · have h := h.1 c1
      refine lv_iconst (v := 1) hx hb dX5_isQuiet_33 (by decide) ?_
      obtain ⟨hL, I, hB, hM⟩ := hB
      exact z_zret X hB (Or.inr rfl) ⟨_, rfl, (Or.inr rfl), ⟨h, hM⟩, rfl, rfl⟩ (Nat.le_refl 0) (Nat.le_refl 0) dX5_isQuiet_34
    · have h := h.2 c1
      refine lv_aload_n hx hb dX5_isQuiet_7 rfl (lv_at hl 0 rfl) ?_
      refine z_mgeta (j := 14) X hB q3224 rfl (Nat.le_of_ble_eq_true rfl) rfl (by decide) dX5_isQuiet_8 ?_
      refine lv_iload_n hx hb dX5_isQuiet_11 rfl (lv_at hl 1 rfl) ?_
      obtain ⟨h1, h⟩ := h
      refine z_mald (f := 14) X hB (by decide) h1 dX5_isQuiet_12 ?_
      refine lv_if_ne (tgt := 25) hx hb dX5_isQuiet_13 (by decide) (fun c2 => ?_) (fun c2 => ?_)
      · have h := h.1 c2
        exact ww_X5_isQuiet_25 X  hB (lv_sub hl [] rfl) h
      · have h := h.2 c2
        refine lv_aload_n hx hb dX5_isQuiet_16 rfl (lv_at hl 0 rfl) ?_
        refine z_mgeta (j := 11) X hB q3221 rfl (Nat.le_of_ble_eq_true rfl) rfl (by decide) dX5_isQuiet_17 ?_
        refine lv_iload_n hx hb dX5_isQuiet_20 rfl (lv_at hl 1 rfl) ?_
        obtain ⟨h1, h⟩ := h
        refine z_mald (f := 11) X hB (by decide) h1 dX5_isQuiet_21 ?_
        refine lv_if_le (tgt := 27) hx hb dX5_isQuiet_22 (by decide) (fun c3 => ?_) (fun c3 => ?_)
        · have h := h.1 c3
          obtain ⟨y4, ey4⟩ : ∃ z : Int32, z = x1 + 1 := ⟨_, rfl⟩
          have h := h y4 ey4
          refine lv_iinc (v := y4) (lv' := [(1, .int y4), (0, .ref o)]) hx hb dX5_isQuiet_27 hl (k := 1) rfl (by rw [ey4]; rfl) (by decide) rfl (fun ls hl => ?_)
          refine lv_goto (tgt := 2) hx hb dX5_isQuiet_30 (by decide) ?_
          exact ih hB (lv_sub hl [1, 0] rfl) h
        · have h := h.2 c3
          exact ww_X5_isQuiet_25 X  hB (lv_sub hl [] rfl) h
theorem ww_X5_isQuiet_0 {M : z_M} {Qk : Int32 → Prop} (X : z_XM l G A p R s m args meth c cX5_isQuiet 2 "isQuiet" (some .boolean) 8 120) {H : Heap} {locs : List Loc} {ls : Array Slot} (hB : z_MB G z_P1c A s.heap T I0 Q o b M H locs) (hl : lv_has ls 2 [(0, .ref o)]) (h : wb_X5_isQuiet_0 M Qk) : W p l e R s m args below meth c H locs 0 0 (z_MQ below G z_P1c A T I0 Q (z_mz (fun r M1 => Qk r ∧ M1 = M) T Q o b) z_no args s 0 0) (F0 m 0 ls []) := by
  obtain ⟨hx, hb, -⟩ := id X
  unfold wb_X5_isQuiet_0 at h
  refine lv_iconst (v := 0) hx hb dX5_isQuiet_0 (by decide) ?_
  refine lv_istore_n (lv' := [(1, .int 0), (0, .ref o)]) hx hb dX5_isQuiet_1 rfl hl (by decide) rfl (fun ls hl => ?_)
  obtain ⟨w, h⟩ := h
  exact wv_X5_isQuiet_2 X  w hB (lv_sub hl [1, 0] rfl) h
theorem pk_X5_isQuiet : z_PV RX5 yX5_isQuiet cX5_isQuiet 2 (some .boolean) 0 := ⟨q3631, qs82, q131, q3632, by decide +kernel⟩
theorem met_X5_isQuiet {l : Launch} {G : z_E} {T : z_T} {I : z_I} {Q : z_Q} {o : Nat} {b : Nat → Nat} {M : z_M} (hL : z_lie T Q o b) (hM : z_of I o b = M) (Qk : Int32 → Prop) (h : wp_X5_isQuiet M Qk) : z_GM l G yX5_isQuiet (ws_ yX5_isQuiet cX5_isQuiet 2 (some .boolean)) 8 120 0 0 [.ref o] z_P1c T I Q (z_mz (fun r M1 => Qk r ∧ M1 = M) T Q o b) z_no := by
  refine z_body (own := RX5) (nm := "isQuiet") (by decide +kernel) rfl rfl (Nat.le_of_ble_eq_true rfl) (fun p e R s m below meth c A ls X hB hl => ?_)
  exact ww_X5_isQuiet_0 X ⟨hL, I, hB, hM⟩ hl h
/-! X5_findsEnd -/
theorem ww_X5_findsEnd_43 {k12 : z_M → Int32 → Int32 → Prop} {Qk : Int32 → z_M → Prop} (X : z_XM l G A p R s m args meth c cX5_findsEnd 3 "findsEnd" (some .int) 17 326) (hk12 : ∀ {M : z_M} {x1 : Int32} {x2 : Int32} {H : Heap} {locs : List Loc} {ls : Array Slot}, z_MB G z_P1c A s.heap T I0 Q o b M H locs → lv_has ls 3 [(0, .ref o), (1, .int x1), (2, .int x2)] → k12 M x1 x2 → W p l e R s m args below meth c H locs 0 0 (z_MQ below G z_P1c A T I0 Q (z_mi Qk T Q o b) z_no args s 0 0) (F0 m 12 ls [])) {M : z_M} {x1 : Int32} {x2 : Int32} {H : Heap} {locs : List Loc} {ls : Array Slot} (hB : z_MB G z_P1c A s.heap T I0 Q o b M H locs) (hl : lv_has ls 3 [(0, .ref o), (1, .int x1), (2, .int x2)]) (h : wb_X5_findsEnd_43 k12 Qk M x1 x2) : W p l e R s m args below meth c H locs 0 0 (z_MQ below G z_P1c A T I0 Q (z_mi Qk T Q o b) z_no args s 0 0) (F0 m 43 ls []) := by
  obtain ⟨hx, hb, -⟩ := id X
  unfold wb_X5_findsEnd_43 at h
  refine lv_aload_n hx hb dX5_findsEnd_43 rfl (lv_at hl 0 rfl) ?_
  refine z_mcallv (fun _ h => h) (fun I1 hB1 hM => z_runV (rest := []) [] pk_X5_ticks (met_X5_ticks hB.1 hM _ h) X hB1 (by decide) q3549 kc_X5 (by decide) (by rw [hB.1.1]) rfl hl.1 (Nat.le_of_ble_eq_true rfl) dX5_findsEnd_44 (Nat.le_refl 0) (Nat.le_refl 0) (by decide) (by decide)) hB (fun M10 H locs h hB => ?_)
  obtain ⟨y11, ey11⟩ : ∃ z : Int32, z = x2 + 1 := ⟨_, rfl⟩
  have h := h y11 ey11
  refine lv_iinc (v := y11) (lv' := [(2, .int y11), (0, .ref o), (1, .int x1)]) hx hb dX5_findsEnd_47 hl (k := 2) rfl (by rw [ey11]; rfl) (by decide) rfl (fun ls hl => ?_)
  refine lv_goto (tgt := 12) hx hb dX5_findsEnd_50 (by decide) ?_
  exact hk12 hB (lv_sub hl [1, 2, 0] rfl) h
theorem ww_X5_findsEnd_53 {Qk : Int32 → z_M → Prop} (X : z_XM l G A p R s m args meth c cX5_findsEnd 3 "findsEnd" (some .int) 17 326) {M : z_M} {x2 : Int32} {H : Heap} {locs : List Loc} {ls : Array Slot} (hB : z_MB G z_P1c A s.heap T I0 Q o b M H locs) (hl : lv_has ls 3 [(0, .ref o), (2, .int x2)]) (h : wb_X5_findsEnd_53 Qk M x2) : W p l e R s m args below meth c H locs 0 0 (z_MQ below G z_P1c A T I0 Q (z_mi Qk T Q o b) z_no args s 0 0) (F0 m 53 ls []) := by
  obtain ⟨hx, hb, -⟩ := id X
  unfold wb_X5_findsEnd_53 at h
  refine lv_aload_n hx hb dX5_findsEnd_53 rfl (lv_at hl 0 rfl) ?_
  refine lv_aload_n hx hb dX5_findsEnd_54 rfl (lv_at hl 0 rfl) ?_
  refine z_mgeta (j := 57) X hB q3267 rfl (Nat.le_of_ble_eq_true rfl) rfl (by decide) dX5_findsEnd_55 ?_
  refine lv_iconst (v := 0) hx hb dX5_findsEnd_58 (by decide) ?_
  refine lv_iconst (v := 0) hx hb dX5_findsEnd_59 (by decide) ?_
  refine z_mcallv (fun _ h => h) (fun I1 hB1 hM => z_runV (rest := []) [.ref (b 57), .int 0, .int 0] pk_X5_passAll (met_X5_passAll hB.1 hM (by decide) 0 0 _ h) X hB1 (by decide) q3441 kc_X5 (by decide) (by rw [hB.1.1]) rfl hl.1 (Nat.le_of_ble_eq_true rfl) dX5_findsEnd_60 (Nat.le_refl 0) (Nat.le_refl 0) (by decide) (by decide)) hB (fun M13 H locs h hB => ?_)
  refine lv_iload_n hx hb dX5_findsEnd_63 rfl (lv_at hl 1 rfl) ?_
  obtain ⟨hL, I, hB, hM⟩ := hB
  exact z_iret X hB ⟨_, rfl, (by rw [hM]; exact h), rfl, rfl⟩ (Nat.le_refl 0) (Nat.le_refl 0) dX5_findsEnd_64
theorem wv_X5_findsEnd_12 {Qk : Int32 → z_M → Prop} (X : z_XM l G A p R s m args meth c cX5_findsEnd 3 "findsEnd" (some .int) 17 326) : ∀ (n : Nat) {M : z_M} {x1 : Int32} {x2 : Int32} {H : Heap} {locs : List Loc} {ls : Array Slot}, z_MB G z_P1c A s.heap T I0 Q o b M H locs → lv_has ls 3 [(0, .ref o), (1, .int x1), (2, .int x2)] → wl_X5_findsEnd_12 Qk n M x1 x2 → W p l e R s m args below meth c H locs 0 0 (z_MQ below G z_P1c A T I0 Q (z_mi Qk T Q o b) z_no args s 0 0) (F0 m 12 ls []) := by
  intro n
  induction n with
  | zero =>
    intro M x1 x2 H locs ls hB hl h
    exact h.elim
  | succ n ih =>
    intro M x1 x2 H locs ls hB hl h
    obtain ⟨hx, hb, -⟩ := id X
    unfold wl_X5_findsEnd_12 at h
    refine lv_iload_n hx hb dX5_findsEnd_12 rfl (lv_at hl 2 rfl) ?_
    refine lv_sipush (v := 200) hx hb dX5_findsEnd_13 (by decide) ?_
    refine lv_icmp_gt (tgt := 53) hx hb dX5_findsEnd_16 (by decide) (fun c3 => ?_) (fun c3 => ?_)
    · have h := h.1 c3
      exact ww_X5_findsEnd_53 X  hB (lv_sub hl [0, 2] rfl) h
    · have h := h.2 c3
      refine lv_iload_n hx hb dX5_findsEnd_19 rfl (lv_at hl 1 rfl) ?_
      refine lv_if_ge (tgt := 33) hx hb dX5_findsEnd_20 (by decide) (fun c4 => ?_) (fun c4 => ?_)
      · have h := h.1 c4
        refine lv_aload_n hx hb dX5_findsEnd_33 rfl (lv_at hl 0 rfl) ?_
        refine z_mgeta (j := 29) X hB q3239 rfl (Nat.le_of_ble_eq_true rfl) rfl (by decide) dX5_findsEnd_34 ?_
        refine lv_iload_n hx hb dX5_findsEnd_37 rfl (lv_at hl 1 rfl) ?_
        obtain ⟨h1, h⟩ := h
        refine z_mald (f := 29) X hB (by decide) h1 dX5_findsEnd_38 ?_
        refine lv_iconst (v := 2) hx hb dX5_findsEnd_39 (by decide) ?_
        refine lv_icmp_eq (tgt := 53) hx hb dX5_findsEnd_40 (by decide) (fun c5 => ?_) (fun c5 => ?_)
        · have h := h.1 c5
          exact ww_X5_findsEnd_53 X  hB (lv_sub hl [0, 2] rfl) h
        · have h := h.2 c5
          exact ww_X5_findsEnd_43 X (fun hB hl h => ih hB hl h) hB (lv_sub hl [0, 1, 2] rfl) h
      · have h := h.2 c4
        refine lv_aload_n hx hb dX5_findsEnd_23 rfl (lv_at hl 0 rfl) ?_
        refine z_mcallz (fun _ h => h) (fun I1 hB1 hM => z_runV (rest := []) [] pk_X5_isQuiet (met_X5_isQuiet hB.1 hM _ h) X hB1 (by decide) q3629 kc_X5 (by decide) (by rw [hB.1.1]) rfl hl.1 (Nat.le_of_ble_eq_true rfl) dX5_findsEnd_24 (Nat.le_refl 0) (Nat.le_refl 0) (by decide) (by decide)) hB (fun r6 M7 H locs hz h hB => ?_)
        obtain ⟨h, eM7⟩ := h
        rw [eM7] at hB
        have h := h hz
        refine lv_if_eq (tgt := 43) hx hb dX5_findsEnd_27 (by decide) (fun c8 => ?_) (fun c8 => ?_)
        · have h := h.1 c8
          exact ww_X5_findsEnd_43 X (fun hB hl h => ih hB hl h) hB (lv_sub hl [0, 1, 2] rfl) h
        · have h := h.2 c8
          refine lv_goto (tgt := 53) hx hb dX5_findsEnd_30 (by decide) ?_
          exact ww_X5_findsEnd_53 X  hB (lv_sub hl [0, 2] rfl) h
theorem ww_X5_findsEnd_0 {Qk : Int32 → z_M → Prop} (X : z_XM l G A p R s m args meth c cX5_findsEnd 3 "findsEnd" (some .int) 17 326) {M : z_M} {x1 : Int32} {H : Heap} {locs : List Loc} {ls : Array Slot} (hB : z_MB G z_P1c A s.heap T I0 Q o b M H locs) (hl : lv_has ls 3 [(0, .ref o), (1, .int x1)]) (h : wb_X5_findsEnd_0 Qk M x1) : W p l e R s m args below meth c H locs 0 0 (z_MQ below G z_P1c A T I0 Q (z_mi Qk T Q o b) z_no args s 0 0) (F0 m 0 ls []) := by
  obtain ⟨hx, hb, -⟩ := id X
  unfold wb_X5_findsEnd_0 at h
  refine lv_aload_n hx hb dX5_findsEnd_0 rfl (lv_at hl 0 rfl) ?_
  refine lv_aload_n hx hb dX5_findsEnd_1 rfl (lv_at hl 0 rfl) ?_
  refine z_mgeta (j := 57) X hB q3267 rfl (Nat.le_of_ble_eq_true rfl) rfl (by decide) dX5_findsEnd_2 ?_
  refine lv_iconst (v := 0) hx hb dX5_findsEnd_5 (by decide) ?_
  refine lv_iconst (v := 1) hx hb dX5_findsEnd_6 (by decide) ?_
  refine z_mcallv (fun _ h => h) (fun I1 hB1 hM => z_runV (rest := []) [.ref (b 57), .int 0, .int 1] pk_X5_passAll (met_X5_passAll hB.1 hM (by decide) 0 1 _ h) X hB1 (by decide) q3441 kc_X5 (by decide) (by rw [hB.1.1]) rfl hl.1 (Nat.le_of_ble_eq_true rfl) dX5_findsEnd_7 (Nat.le_refl 0) (Nat.le_refl 0) (by decide) (by decide)) hB (fun M2 H locs h hB => ?_)
  refine lv_iconst (v := 0) hx hb dX5_findsEnd_10 (by decide) ?_
  refine lv_istore_n (lv' := [(2, .int 0), (0, .ref o), (1, .int x1)]) hx hb dX5_findsEnd_11 rfl hl (by decide) rfl (fun ls hl => ?_)
  obtain ⟨w, h⟩ := h
  exact wv_X5_findsEnd_12 X  w hB (lv_sub hl [1, 2, 0] rfl) h
theorem pk_X5_findsEnd : z_PV RX5 yX5_findsEnd cX5_findsEnd 3 (some .int) 1 := ⟨q3627, qs81, q131, q3628, by decide +kernel⟩
theorem met_X5_findsEnd {l : Launch} {G : z_E} {T : z_T} {I : z_I} {Q : z_Q} {o : Nat} {b : Nat → Nat} {M : z_M} (hL : z_lie T Q o b) (hM : z_of I o b = M) (x1 : Int32) (Qk : Int32 → z_M → Prop) (h : wp_X5_findsEnd M x1 Qk) : z_GM l G yX5_findsEnd (ws_ yX5_findsEnd cX5_findsEnd 3 (some .int)) 17 326 0 0 [.ref o, .int x1] z_P1c T I Q (z_mi Qk T Q o b) z_no := by
  refine z_body (own := RX5) (nm := "findsEnd") (by decide +kernel) rfl rfl (Nat.le_of_ble_eq_true rfl) (fun p e R s m below meth c A ls X hB hl => ?_)
  exact ww_X5_findsEnd_0 X ⟨hL, I, hB, hM⟩ hl h
/-! X5_endsAfter -/
theorem ww_X5_endsAfter_64 {Qk : Int32 → z_M → Prop} (X : z_XM l G A p R s m args meth c cX5_endsAfter 3 "endsAfter" (some .int) 18 348) {M : z_M} {s0 : Int32} {H : Heap} {locs : List Loc} {ls : Array Slot} (hB : z_MB G z_P1c A s.heap T I0 Q o b M H locs) (hl : lv_has ls 3 []) (h : wb_X5_endsAfter_64 Qk M s0) : W p l e R s m args below meth c H locs 0 0 (z_MQ below G z_P1c A T I0 Q (z_mi Qk T Q o b) z_no args s 0 0) (F0 m 64 ls [.int s0]) := by
  obtain ⟨hx, hb, -⟩ := id X
  unfold wb_X5_endsAfter_64 at h
  obtain ⟨hL, I, hB, hM⟩ := hB
  exact z_iret X hB ⟨_, rfl, (by rw [hM]; exact h), rfl, rfl⟩ (Nat.le_refl 0) (Nat.le_refl 0) dX5_endsAfter_64
theorem ww_X5_endsAfter_49 {Qk : Int32 → z_M → Prop} (X : z_XM l G A p R s m args meth c cX5_endsAfter 3 "endsAfter" (some .int) 18 348) {M : z_M} {x2 : Int32} {s1 : Int32} {H : Heap} {locs : List Loc} {ls : Array Slot} (hB : z_MB G z_P1c A s.heap T I0 Q o b M H locs) (hl : lv_has ls 3 [(2, .int x2)]) (h : wb_X5_endsAfter_49 Qk M x2 s1) : W p l e R s m args below meth c H locs 0 0 (z_MQ below G z_P1c A T I0 Q (z_mi Qk T Q o b) z_no args s 0 0) (F0 m 49 ls [.int s1, .ref o]) := by
  obtain ⟨hx, hb, -⟩ := id X
  unfold wb_X5_endsAfter_49 at h
  obtain ⟨M12, eM12⟩ : ∃ z, z = z_us M 0 s1 := ⟨_, rfl⟩
  have h := h M12 eM12
  refine z_mputs (j := 0) (ty := .int) X hB q3210 rfl (Nat.le_of_ble_eq_true rfl) rfl rfl rfl rfl (Or.inl rfl) rfl dX5_endsAfter_49 (fun H locs hB => ?_)
  rw [← eM12] at hB
  refine lv_iload_n hx hb dX5_endsAfter_52 rfl (lv_at hl 0 rfl) ?_
  refine lv_sipush (v := 200) hx hb dX5_endsAfter_53 (by decide) ?_
  refine lv_icmp_le (tgt := 63) hx hb dX5_endsAfter_56 (by decide) (fun c13 => ?_) (fun c13 => ?_)
  · have h := h.1 c13
    refine lv_iload_n hx hb dX5_endsAfter_63 rfl (lv_at hl 0 rfl) ?_
    exact ww_X5_endsAfter_64 X  hB (lv_sub hl [] rfl) h
  · have h := h.2 c13
    refine lv_iconst (v := 0) hx hb dX5_endsAfter_59 (by decide) ?_
    refine lv_goto (tgt := 64) hx hb dX5_endsAfter_60 (by decide) ?_
    exact ww_X5_endsAfter_64 X  hB (lv_sub hl [] rfl) h
theorem ww_X5_endsAfter_0 {Qk : Int32 → z_M → Prop} (X : z_XM l G A p R s m args meth c cX5_endsAfter 3 "endsAfter" (some .int) 18 348) {M : z_M} {x1 : Int32} {H : Heap} {locs : List Loc} {ls : Array Slot} (hB : z_MB G z_P1c A s.heap T I0 Q o b M H locs) (hl : lv_has ls 3 [(0, .ref o), (1, .int x1)]) (h : wb_X5_endsAfter_0 Qk M x1) : W p l e R s m args below meth c H locs 0 0 (z_MQ below G z_P1c A T I0 Q (z_mi Qk T Q o b) z_no args s 0 0) (F0 m 0 ls []) := by
  obtain ⟨hx, hb, -⟩ := id X
  unfold wb_X5_endsAfter_0 at h
  refine lv_aload_n hx hb dX5_endsAfter_0 rfl (lv_at hl 0 rfl) ?_
  refine lv_iload_n hx hb dX5_endsAfter_1 rfl (lv_at hl 1 rfl) ?_
  refine z_mcallz (fun _ h => h) (fun I1 hB1 hM => z_runV (rest := []) [.int x1] pk_X5_isJob (met_X5_isJob hB.1 hM x1 _ h) X hB1 (by decide) q3533 kc_X5 (by decide) (by rw [hB.1.1]) rfl hl.1 (Nat.le_of_ble_eq_true rfl) dX5_endsAfter_2 (Nat.le_refl 0) (Nat.le_refl 0) (by decide) (by decide)) hB (fun r1 M2 H locs hz h hB => ?_)
  obtain ⟨h, eM2⟩ := h
  rw [eM2] at hB
  have h := h hz
  refine lv_if_ne (tgt := 14) hx hb dX5_endsAfter_5 (by decide) (fun c3 => ?_) (fun c3 => ?_)
  · have h := h.1 c3
    refine lv_aload_n hx hb dX5_endsAfter_14 rfl (lv_at hl 0 rfl) ?_
    refine z_mgeta (j := 29) X hB q3239 rfl (Nat.le_of_ble_eq_true rfl) rfl (by decide) dX5_endsAfter_15 ?_
    refine lv_iload_n hx hb dX5_endsAfter_18 rfl (lv_at hl 1 rfl) ?_
    obtain ⟨h1, h⟩ := h
    refine z_mald (f := 29) X hB (by decide) h1 dX5_endsAfter_19 ?_
    refine lv_iconst (v := 3) hx hb dX5_endsAfter_20 (by decide) ?_
    refine lv_icmp_ne (tgt := 30) hx hb dX5_endsAfter_21 (by decide) (fun c4 => ?_) (fun c4 => ?_)
    · have h := h.1 c4
      refine lv_aload_n hx hb dX5_endsAfter_30 rfl (lv_at hl 0 rfl) ?_
      refine lv_iload_n hx hb dX5_endsAfter_31 rfl (lv_at hl 1 rfl) ?_
      refine z_mcalli (fun _ h => h) (fun I1 hB1 hM => z_runV (rest := []) [.int x1] pk_X5_findsEnd (met_X5_findsEnd hB.1 hM x1 _ h) X hB1 (by decide) q3625 kc_X5 (by decide) (by rw [hB.1.1]) rfl hl.1 (Nat.le_of_ble_eq_true rfl) dX5_endsAfter_32 (Nat.le_refl 0) (Nat.le_refl 0) (by decide) (by decide)) hB (fun r5 M6 H locs h hB => ?_)
      refine lv_istore_n (lv' := [(2, .int r5), (0, .ref o), (1, .int x1)]) hx hb dX5_endsAfter_35 rfl hl (by decide) rfl (fun ls hl => ?_)
      refine lv_aload_n hx hb dX5_endsAfter_36 rfl (lv_at hl 1 rfl) ?_
      refine lv_iload_n hx hb dX5_endsAfter_37 rfl (lv_at hl 0 rfl) ?_
      refine lv_sipush (v := 200) hx hb dX5_endsAfter_38 (by decide) ?_
      refine lv_icmp_le (tgt := 48) hx hb dX5_endsAfter_41 (by decide) (fun c7 => ?_) (fun c7 => ?_)
      · have h := h.1 c7
        refine lv_iconst (v := 0) hx hb dX5_endsAfter_48 (by decide) ?_
        exact ww_X5_endsAfter_49 X  hB (lv_sub hl [0] rfl) h
      · have h := h.2 c7
        refine lv_iconst (v := 2) hx hb dX5_endsAfter_44 (by decide) ?_
        refine lv_goto (tgt := 49) hx hb dX5_endsAfter_45 (by decide) ?_
        exact ww_X5_endsAfter_49 X  hB (lv_sub hl [0] rfl) h
    · have h := h.2 c4
      refine lv_aload_n hx hb dX5_endsAfter_24 rfl (lv_at hl 0 rfl) ?_
      refine lv_iconst (v := 2) hx hb dX5_endsAfter_25 (by decide) ?_
      refine z_mcalli (fun _ h => h) (fun I1 hB1 hM => z_runV (rest := []) [.int 2] pk_X5_fails (met_X5_fails hB.1 hM 2 _ h) X hB1 (by decide) q3472 kc_X5 (by decide) (by rw [hB.1.1]) rfl hl.1 (Nat.le_of_ble_eq_true rfl) dX5_endsAfter_26 (Nat.le_refl 0) (Nat.le_refl 0) (by decide) (by decide)) hB (fun r8 M9 H locs h hB => ?_)
      obtain ⟨hL, I, hB, hM⟩ := hB
      exact z_iret X hB ⟨_, rfl, (by rw [hM]; exact h), rfl, rfl⟩ (Nat.le_refl 0) (Nat.le_refl 0) dX5_endsAfter_29
  · have h := h.2 c3
    refine lv_aload_n hx hb dX5_endsAfter_8 rfl (lv_at hl 0 rfl) ?_
    refine lv_iconst (v := 1) hx hb dX5_endsAfter_9 (by decide) ?_
    refine z_mcalli (fun _ h => h) (fun I1 hB1 hM => z_runV (rest := []) [.int 1] pk_X5_fails (met_X5_fails hB.1 hM 1 _ h) X hB1 (by decide) q3472 kc_X5 (by decide) (by rw [hB.1.1]) rfl hl.1 (Nat.le_of_ble_eq_true rfl) dX5_endsAfter_10 (Nat.le_refl 0) (Nat.le_refl 0) (by decide) (by decide)) hB (fun r10 M11 H locs h hB => ?_)
    obtain ⟨hL, I, hB, hM⟩ := hB
    exact z_iret X hB ⟨_, rfl, (by rw [hM]; exact h), rfl, rfl⟩ (Nat.le_refl 0) (Nat.le_refl 0) dX5_endsAfter_13
theorem pk_X5_endsAfter : z_PV RX5 yX5_endsAfter cX5_endsAfter 3 (some .int) 1 := ⟨q3622, q3623, q131, q3624, by decide +kernel⟩
theorem met_X5_endsAfter {l : Launch} {G : z_E} {T : z_T} {I : z_I} {Q : z_Q} {o : Nat} {b : Nat → Nat} {M : z_M} (hL : z_lie T Q o b) (hM : z_of I o b = M) (x1 : Int32) (Qk : Int32 → z_M → Prop) (h : wp_X5_endsAfter M x1 Qk) : z_GM l G yX5_endsAfter (ws_ yX5_endsAfter cX5_endsAfter 3 (some .int)) 18 348 0 0 [.ref o, .int x1] z_P1c T I Q (z_mi Qk T Q o b) z_no := by
  refine z_body (own := RX5) (nm := "endsAfter") (by decide +kernel) rfl rfl (Nat.le_of_ble_eq_true rfl) (fun p e R s m below meth c A ls X hB hl => ?_)
  exact ww_X5_endsAfter_0 X ⟨hL, I, hB, hM⟩ hl h
/-! X5_idleAfter -/
theorem ww_X5_idleAfter_34 {Qk : Int32 → z_M → Prop} (X : z_XM l G A p R s m args meth c cX5_idleAfter 2 "idleAfter" (some .int) 18 348) {M : z_M} {s0 : Int32} {H : Heap} {locs : List Loc} {ls : Array Slot} (hB : z_MB G z_P1c A s.heap T I0 Q o b M H locs) (hl : lv_has ls 2 []) (h : wb_X5_idleAfter_34 Qk M s0) : W p l e R s m args below meth c H locs 0 0 (z_MQ below G z_P1c A T I0 Q (z_mi Qk T Q o b) z_no args s 0 0) (F0 m 34 ls [.int s0]) := by
  obtain ⟨hx, hb, -⟩ := id X
  unfold wb_X5_idleAfter_34 at h
  obtain ⟨hL, I, hB, hM⟩ := hB
  exact z_iret X hB ⟨_, rfl, (by rw [hM]; exact h), rfl, rfl⟩ (Nat.le_refl 0) (Nat.le_refl 0) dX5_idleAfter_34
theorem ww_X5_idleAfter_19 {Qk : Int32 → z_M → Prop} (X : z_XM l G A p R s m args meth c cX5_idleAfter 2 "idleAfter" (some .int) 18 348) {M : z_M} {x1 : Int32} {s1 : Int32} {H : Heap} {locs : List Loc} {ls : Array Slot} (hB : z_MB G z_P1c A s.heap T I0 Q o b M H locs) (hl : lv_has ls 2 [(1, .int x1)]) (h : wb_X5_idleAfter_19 Qk M x1 s1) : W p l e R s m args below meth c H locs 0 0 (z_MQ below G z_P1c A T I0 Q (z_mi Qk T Q o b) z_no args s 0 0) (F0 m 19 ls [.int s1, .ref o]) := by
  obtain ⟨hx, hb, -⟩ := id X
  unfold wb_X5_idleAfter_19 at h
  obtain ⟨M4, eM4⟩ : ∃ z, z = z_us M 0 s1 := ⟨_, rfl⟩
  have h := h M4 eM4
  refine z_mputs (j := 0) (ty := .int) X hB q3210 rfl (Nat.le_of_ble_eq_true rfl) rfl rfl rfl rfl (Or.inl rfl) rfl dX5_idleAfter_19 (fun H locs hB => ?_)
  rw [← eM4] at hB
  refine lv_iload_n hx hb dX5_idleAfter_22 rfl (lv_at hl 0 rfl) ?_
  refine lv_sipush (v := 200) hx hb dX5_idleAfter_23 (by decide) ?_
  refine lv_icmp_le (tgt := 33) hx hb dX5_idleAfter_26 (by decide) (fun c5 => ?_) (fun c5 => ?_)
  · have h := h.1 c5
    refine lv_iload_n hx hb dX5_idleAfter_33 rfl (lv_at hl 0 rfl) ?_
    exact ww_X5_idleAfter_34 X  hB (lv_sub hl [] rfl) h
  · have h := h.2 c5
    refine lv_iconst (v := 0) hx hb dX5_idleAfter_29 (by decide) ?_
    refine lv_goto (tgt := 34) hx hb dX5_idleAfter_30 (by decide) ?_
    exact ww_X5_idleAfter_34 X  hB (lv_sub hl [] rfl) h
theorem ww_X5_idleAfter_0 {Qk : Int32 → z_M → Prop} (X : z_XM l G A p R s m args meth c cX5_idleAfter 2 "idleAfter" (some .int) 18 348) {M : z_M} {H : Heap} {locs : List Loc} {ls : Array Slot} (hB : z_MB G z_P1c A s.heap T I0 Q o b M H locs) (hl : lv_has ls 2 [(0, .ref o)]) (h : wb_X5_idleAfter_0 Qk M) : W p l e R s m args below meth c H locs 0 0 (z_MQ below G z_P1c A T I0 Q (z_mi Qk T Q o b) z_no args s 0 0) (F0 m 0 ls []) := by
  obtain ⟨hx, hb, -⟩ := id X
  unfold wb_X5_idleAfter_0 at h
  refine lv_aload_n hx hb dX5_idleAfter_0 rfl (lv_at hl 0 rfl) ?_
  refine lv_iconst (v := (-1)) hx hb dX5_idleAfter_1 (by decide) ?_
  refine z_mcalli (fun _ h => h) (fun I1 hB1 hM => z_runV (rest := []) [.int (-1)] pk_X5_findsEnd (met_X5_findsEnd hB.1 hM (-1) _ h) X hB1 (by decide) q3625 kc_X5 (by decide) (by rw [hB.1.1]) rfl hl.1 (Nat.le_of_ble_eq_true rfl) dX5_idleAfter_2 (Nat.le_refl 0) (Nat.le_refl 0) (by decide) (by decide)) hB (fun r1 M2 H locs h hB => ?_)
  refine lv_istore_n (lv' := [(1, .int r1), (0, .ref o)]) hx hb dX5_idleAfter_5 rfl hl (by decide) rfl (fun ls hl => ?_)
  refine lv_aload_n hx hb dX5_idleAfter_6 rfl (lv_at hl 1 rfl) ?_
  refine lv_iload_n hx hb dX5_idleAfter_7 rfl (lv_at hl 0 rfl) ?_
  refine lv_sipush (v := 200) hx hb dX5_idleAfter_8 (by decide) ?_
  refine lv_icmp_le (tgt := 18) hx hb dX5_idleAfter_11 (by decide) (fun c3 => ?_) (fun c3 => ?_)
  · have h := h.1 c3
    refine lv_iconst (v := 0) hx hb dX5_idleAfter_18 (by decide) ?_
    exact ww_X5_idleAfter_19 X  hB (lv_sub hl [0] rfl) h
  · have h := h.2 c3
    refine lv_iconst (v := 1) hx hb dX5_idleAfter_14 (by decide) ?_
    refine lv_goto (tgt := 19) hx hb dX5_idleAfter_15 (by decide) ?_
    exact ww_X5_idleAfter_19 X  hB (lv_sub hl [0] rfl) h
theorem pk_X5_idleAfter : z_PV RX5 yX5_idleAfter cX5_idleAfter 2 (some .int) 0 := ⟨q3634, q3635, q131, q3636, by decide +kernel⟩
theorem met_X5_idleAfter {l : Launch} {G : z_E} {T : z_T} {I : z_I} {Q : z_Q} {o : Nat} {b : Nat → Nat} {M : z_M} (hL : z_lie T Q o b) (hM : z_of I o b = M) (Qk : Int32 → z_M → Prop) (h : wp_X5_idleAfter M Qk) : z_GM l G yX5_idleAfter (ws_ yX5_idleAfter cX5_idleAfter 2 (some .int)) 18 348 0 0 [.ref o] z_P1c T I Q (z_mi Qk T Q o b) z_no := by
  refine z_body (own := RX5) (nm := "idleAfter") (by decide +kernel) rfl rfl (Nat.le_of_ble_eq_true rfl) (fun p e R s m below meth c A ls X hB hl => ?_)
  exact ww_X5_idleAfter_0 X ⟨hL, I, hB, hM⟩ hl h
/-! X5_isSafe -/
theorem ww_X5_isSafe_21 {Qk : Int32 → z_M → Prop} (X : z_XM l G A p R s m args meth c cX5_isSafe 1 "isSafe" (some .boolean) 12 208) {M : z_M} {s0 : Int32} {H : Heap} {locs : List Loc} {ls : Array Slot} (hB : z_MB G z_P1c A s.heap T I0 Q o b M H locs) (hl : lv_has ls 1 []) (h : wb_X5_isSafe_21 Qk M s0) : W p l e R s m args below meth c H locs 0 0 (z_MQ below G z_P1c A T I0 Q (z_mz Qk T Q o b) z_no args s 0 0) (F0 m 21 ls [.int s0]) := by
  obtain ⟨hx, hb, -⟩ := id X
  unfold wb_X5_isSafe_21 at h
  obtain ⟨hz, h⟩ := h
  obtain ⟨hL, I, hB, hM⟩ := hB
  exact z_zret X hB hz ⟨_, rfl, hz, (by rw [hM]; exact h), rfl, rfl⟩ (Nat.le_refl 0) (Nat.le_refl 0) dX5_isSafe_21
theorem ww_X5_isSafe_0 {Qk : Int32 → z_M → Prop} (X : z_XM l G A p R s m args meth c cX5_isSafe 1 "isSafe" (some .boolean) 12 208) {M : z_M} {H : Heap} {locs : List Loc} {ls : Array Slot} (hB : z_MB G z_P1c A s.heap T I0 Q o b M H locs) (hl : lv_has ls 1 [(0, .ref o)]) (h : wb_X5_isSafe_0 Qk M) : W p l e R s m args below meth c H locs 0 0 (z_MQ below G z_P1c A T I0 Q (z_mz Qk T Q o b) z_no args s 0 0) (F0 m 0 ls []) := by
  obtain ⟨hx, hb, -⟩ := id X
  unfold wb_X5_isSafe_0 at h
  refine lv_aload_n hx hb dX5_isSafe_0 rfl (lv_at hl 0 rfl) ?_
  refine lv_iconst (v := 0) hx hb dX5_isSafe_1 (by decide) ?_
  obtain ⟨M1, eM1⟩ : ∃ z, z = z_us M 0 0 := ⟨_, rfl⟩
  have h := h M1 eM1
  refine z_mputs (j := 0) (ty := .int) X hB q3210 rfl (Nat.le_of_ble_eq_true rfl) rfl rfl rfl rfl (Or.inl rfl) rfl dX5_isSafe_2 (fun H locs hB => ?_)
  rw [← eM1] at hB
  refine lv_aload_n hx hb dX5_isSafe_5 rfl (lv_at hl 0 rfl) ?_
  refine z_mcallv (fun _ h => h) (fun I1 hB1 hM => z_runV (rest := []) [] pk_X5_findNow (met_X5_findNow hB.1 hM _ h) X hB1 (by decide) q3577 kc_X5 (by decide) (by rw [hB.1.1]) rfl hl.1 (Nat.le_of_ble_eq_true rfl) dX5_isSafe_6 (Nat.le_refl 0) (Nat.le_refl 0) (by decide) (by decide)) hB (fun M3 H locs h hB => ?_)
  refine lv_aload_n hx hb dX5_isSafe_9 rfl (lv_at hl 0 rfl) ?_
  refine z_mcalli (fun _ h => h) (fun I1 hB1 hM => z_runV (rest := []) [] pk_X5_findStuck (met_X5_findStuck hB.1 hM _ h) X hB1 (by decide) q3581 kc_X5 (by decide) (by rw [hB.1.1]) rfl hl.1 (Nat.le_of_ble_eq_true rfl) dX5_isSafe_10 (Nat.le_refl 0) (Nat.le_refl 0) (by decide) (by decide)) hB (fun r4 M5 H locs h hB => ?_)
  refine lv_if_ge (tgt := 20) hx hb dX5_isSafe_13 (by decide) (fun c6 => ?_) (fun c6 => ?_)
  · have h := h.1 c6
    refine lv_iconst (v := 0) hx hb dX5_isSafe_20 (by decide) ?_
    exact ww_X5_isSafe_21 X  hB (lv_sub hl [] rfl) h
  · have h := h.2 c6
    refine lv_iconst (v := 1) hx hb dX5_isSafe_16 (by decide) ?_
    refine lv_goto (tgt := 21) hx hb dX5_isSafe_17 (by decide) ?_
    exact ww_X5_isSafe_21 X  hB (lv_sub hl [] rfl) h
theorem pk_X5_isSafe : z_PV RX5 yX5_isSafe cX5_isSafe 1 (some .boolean) 0 := ⟨q3638, q3639, q131, q3640, by decide +kernel⟩
theorem met_X5_isSafe {l : Launch} {G : z_E} {T : z_T} {I : z_I} {Q : z_Q} {o : Nat} {b : Nat → Nat} {M : z_M} (hL : z_lie T Q o b) (hM : z_of I o b = M) (Qk : Int32 → z_M → Prop) (h : wp_X5_isSafe M Qk) : z_GM l G yX5_isSafe (ws_ yX5_isSafe cX5_isSafe 1 (some .boolean)) 12 208 0 0 [.ref o] z_P1c T I Q (z_mz Qk T Q o b) z_no := by
  refine z_body (own := RX5) (nm := "isSafe") (by decide +kernel) rfl rfl (Nat.le_of_ble_eq_true rfl) (fun p e R s m below meth c A ls X hB hl => ?_)
  exact ww_X5_isSafe_0 X ⟨hL, I, hB, hM⟩ hl h
/-! X5_entry -/
theorem ww_X5_entry_0 {Qk : Int32 → z_M → Prop} (X : z_XM l G A p R s m args meth c cX5_entry 3 "entry" (some .int) 9 142) {M : z_M} {x1 : Int32} {x2 : Int32} {H : Heap} {locs : List Loc} {ls : Array Slot} (hB : z_MB G z_P1c A s.heap T I0 Q o b M H locs) (hl : lv_has ls 3 [(0, .ref o), (1, .int x1), (2, .int x2)]) (h : wb_X5_entry_0 Qk M x1 x2) : W p l e R s m args below meth c H locs 0 0 (z_MQ below G z_P1c A T I0 Q (z_mi Qk T Q o b) z_no args s 0 0) (F0 m 0 ls []) := by
  obtain ⟨hx, hb, -⟩ := id X
  unfold wb_X5_entry_0 at h
  refine lv_iload_n hx hb dX5_entry_0 rfl (lv_at hl 1 rfl) ?_
  refine lv_iconst (v := 0) hx hb dX5_entry_1 (by decide) ?_
  refine lv_aload_n hx hb dX5_entry_2 rfl (lv_at hl 0 rfl) ?_
  refine z_mgets (j := 40) X hB q3250 rfl (Nat.le_of_ble_eq_true rfl) rfl rfl dX5_entry_3 ?_
  refine lv_iconst (v := 1) hx hb dX5_entry_6 (by decide) ?_
  refine lv_isub hx hb dX5_entry_7 ?_
  refine z_mcallzp (fun I1 hB1 hM => z_runS (rest := []) [.int x1, .int 0, .int ((M 40 0) - 1)] pk_X5_isBetween (met_X5_isBetween x1 0 ((M 40 0) - 1) _ h) X hB1 (fun h => h) q3415 rfl hl.1 (Nat.le_of_ble_eq_true rfl) dX5_entry_8 (Nat.le_refl 0) (Nat.le_refl 0) (by decide) (by decide)) hB (fun r1 H locs hz h hB => ?_)
  have h := h hz
  refine lv_if_ne (tgt := 20) hx hb dX5_entry_11 (by decide) (fun c2 => ?_) (fun c2 => ?_)
  · have h := h.1 c2
    refine lv_iload_n hx hb dX5_entry_20 rfl (lv_at hl 2 rfl) ?_
    refine lv_iconst (v := 0) hx hb dX5_entry_21 (by decide) ?_
    refine lv_iconst (v := 3) hx hb dX5_entry_22 (by decide) ?_
    refine z_mcallzp (fun I1 hB1 hM => z_runS (rest := []) [.int x2, .int 0, .int 3] pk_X5_isBetween (met_X5_isBetween x2 0 3 _ h) X hB1 (fun h => h) q3415 rfl hl.1 (Nat.le_of_ble_eq_true rfl) dX5_entry_23 (Nat.le_refl 0) (Nat.le_refl 0) (by decide) (by decide)) hB (fun r3 H locs hz h hB => ?_)
    have h := h hz
    refine lv_if_ne (tgt := 35) hx hb dX5_entry_26 (by decide) (fun c4 => ?_) (fun c4 => ?_)
    · have h := h.1 c4
      refine lv_aload_n hx hb dX5_entry_35 rfl (lv_at hl 0 rfl) ?_
      refine lv_iconst (v := 0) hx hb dX5_entry_36 (by decide) ?_
      obtain ⟨M5, eM5⟩ : ∃ z, z = z_us M 0 0 := ⟨_, rfl⟩
      have h := h M5 eM5
      refine z_mputs (j := 0) (ty := .int) X hB q3210 rfl (Nat.le_of_ble_eq_true rfl) rfl rfl rfl rfl (Or.inl rfl) rfl dX5_entry_37 (fun H locs hB => ?_)
      rw [← eM5] at hB
      refine lv_aload_n hx hb dX5_entry_40 rfl (lv_at hl 0 rfl) ?_
      refine z_mgeta (j := 32) X hB q3242 rfl (Nat.le_of_ble_eq_true rfl) rfl (by decide) dX5_entry_41 ?_
      refine lv_iconst (v := 4) hx hb dX5_entry_44 (by decide) ?_
      refine lv_iload_n hx hb dX5_entry_45 rfl (lv_at hl 1 rfl) ?_
      refine lv_imul hx hb dX5_entry_46 ?_
      refine lv_iload_n hx hb dX5_entry_47 rfl (lv_at hl 2 rfl) ?_
      refine lv_iadd hx hb dX5_entry_48 ?_
      obtain ⟨h1, h⟩ := h
      refine z_mald (f := 32) X hB (by decide) h1 dX5_entry_49 ?_
      obtain ⟨hL, I, hB, hM⟩ := hB
      exact z_iret X hB ⟨_, rfl, (by rw [hM]; exact h), rfl, rfl⟩ (Nat.le_refl 0) (Nat.le_refl 0) dX5_entry_50
    · have h := h.2 c4
      refine lv_aload_n hx hb dX5_entry_29 rfl (lv_at hl 0 rfl) ?_
      refine lv_iconst (v := 2) hx hb dX5_entry_30 (by decide) ?_
      refine z_mcalli (fun _ h => h) (fun I1 hB1 hM => z_runV (rest := []) [.int 2] pk_X5_fails (met_X5_fails hB.1 hM 2 _ h) X hB1 (by decide) q3472 kc_X5 (by decide) (by rw [hB.1.1]) rfl hl.1 (Nat.le_of_ble_eq_true rfl) dX5_entry_31 (Nat.le_refl 0) (Nat.le_refl 0) (by decide) (by decide)) hB (fun r6 M7 H locs h hB => ?_)
      obtain ⟨hL, I, hB, hM⟩ := hB
      exact z_iret X hB ⟨_, rfl, (by rw [hM]; exact h), rfl, rfl⟩ (Nat.le_refl 0) (Nat.le_refl 0) dX5_entry_34
  · have h := h.2 c2
    refine lv_aload_n hx hb dX5_entry_14 rfl (lv_at hl 0 rfl) ?_
    refine lv_iconst (v := 1) hx hb dX5_entry_15 (by decide) ?_
    refine z_mcalli (fun _ h => h) (fun I1 hB1 hM => z_runV (rest := []) [.int 1] pk_X5_fails (met_X5_fails hB.1 hM 1 _ h) X hB1 (by decide) q3472 kc_X5 (by decide) (by rw [hB.1.1]) rfl hl.1 (Nat.le_of_ble_eq_true rfl) dX5_entry_16 (Nat.le_refl 0) (Nat.le_refl 0) (by decide) (by decide)) hB (fun r8 M9 H locs h hB => ?_)
    obtain ⟨hL, I, hB, hM⟩ := hB
    exact z_iret X hB ⟨_, rfl, (by rw [hM]; exact h), rfl, rfl⟩ (Nat.le_refl 0) (Nat.le_refl 0) dX5_entry_19
theorem pk_X5_entry : z_PV RX5 yX5_entry cX5_entry 3 (some .int) 2 := ⟨q3642, q3643, q131, q3644, by decide +kernel⟩
theorem met_X5_entry {l : Launch} {G : z_E} {T : z_T} {I : z_I} {Q : z_Q} {o : Nat} {b : Nat → Nat} {M : z_M} (hL : z_lie T Q o b) (hM : z_of I o b = M) (x1 : Int32) (x2 : Int32) (Qk : Int32 → z_M → Prop) (h : wp_X5_entry M x1 x2 Qk) : z_GM l G yX5_entry (ws_ yX5_entry cX5_entry 3 (some .int)) 9 142 0 0 [.ref o, .int x1, .int x2] z_P1c T I Q (z_mi Qk T Q o b) z_no := by
  refine z_body (own := RX5) (nm := "entry") (by decide +kernel) rfl rfl (Nat.le_of_ble_eq_true rfl) (fun p e R s m below meth c A ls X hB hl => ?_)
  exact ww_X5_entry_0 X ⟨hL, I, hB, hM⟩ hl h
/-! X5_interlocks -/
theorem wv_X5_interlocks_12 {M : z_M} {k4 : Int32 → Int32 → Prop} {Qk : Int32 → Prop} (X : z_XM l G A p R s m args meth c cX5_interlocks 4 "interlocks" (some .int) 8 120) (hk4 : ∀ {x1 : Int32} {x2 : Int32} {H : Heap} {locs : List Loc} {ls : Array Slot}, z_MB G z_P1c A s.heap T I0 Q o b M H locs → lv_has ls 4 [(0, .ref o), (1, .int x1), (2, .int x2)] → k4 x1 x2 → W p l e R s m args below meth c H locs 0 0 (z_MQ below G z_P1c A T I0 Q (z_mi (fun r M1 => Qk r ∧ M1 = M) T Q o b) z_no args s 0 0) (F0 m 4 ls [])) : ∀ (n : Nat) {x1 : Int32} {x2 : Int32} {x3 : Int32} {H : Heap} {locs : List Loc} {ls : Array Slot}, z_MB G z_P1c A s.heap T I0 Q o b M H locs → lv_has ls 4 [(0, .ref o), (1, .int x1), (2, .int x2), (3, .int x3)] → wl_X5_interlocks_12 M k4 Qk n x1 x2 x3 → W p l e R s m args below meth c H locs 0 0 (z_MQ below G z_P1c A T I0 Q (z_mi (fun r M1 => Qk r ∧ M1 = M) T Q o b) z_no args s 0 0) (F0 m 12 ls []) := by
  intro n
  induction n with
  | zero =>
    intro x1 x2 x3 H locs ls hB hl h
    exact h.elim
  | succ n ih =>
    intro x1 x2 x3 H locs ls hB hl h
    obtain ⟨hx, hb, -⟩ := id X
    unfold wl_X5_interlocks_12 at h
    refine lv_iload_n hx hb dX5_interlocks_12 rfl (lv_at hl 3 rfl) ?_
    refine lv_iload_n hx hb dX5_interlocks_13 rfl (lv_at hl 2 rfl) ?_
    refine lv_icmp_ge (tgt := 36) hx hb dX5_interlocks_14 (by decide) (fun c2 => ?_) (fun c2 => ?_)
    · have h := h.1 c2
      obtain ⟨y3, ey3⟩ : ∃ z : Int32, z = x2 + 1 := ⟨_, rfl⟩
      have h := h y3 ey3
      refine lv_iinc (v := y3) (lv' := [(2, .int y3), (0, .ref o), (1, .int x1), (3, .int x3)]) hx hb dX5_interlocks_36 hl (k := 2) rfl (by rw [ey3]; rfl) (by decide) rfl (fun ls hl => ?_)
      refine lv_goto (tgt := 4) hx hb dX5_interlocks_39 (by decide) ?_
      exact hk4 hB (lv_sub hl [1, 2, 0] rfl) h
    · have h := h.2 c2
      refine lv_iload_n hx hb dX5_interlocks_17 rfl (lv_at hl 1 rfl) ?_
      refine lv_aload_n hx hb dX5_interlocks_18 rfl (lv_at hl 0 rfl) ?_
      refine z_mgeta (j := 1) X hB q3211 rfl (Nat.le_of_ble_eq_true rfl) rfl (by decide) dX5_interlocks_19 ?_
      refine lv_iload_n hx hb dX5_interlocks_22 rfl (lv_at hl 2 rfl) ?_
      obtain ⟨h1, h⟩ := h
      refine z_mald (f := 1) X hB (by decide) h1 dX5_interlocks_23 ?_
      refine lv_iload_n hx hb dX5_interlocks_24 rfl (lv_at hl 3 rfl) ?_
      refine lv_ishr hx hb dX5_interlocks_25 ?_
      refine lv_iconst (v := 1) hx hb dX5_interlocks_26 (by decide) ?_
      refine lv_iand hx hb dX5_interlocks_27 ?_
      refine lv_iadd hx hb dX5_interlocks_28 ?_
      refine lv_topi (fun y4 ey4 => ?_)
      have h := h y4 ey4
      refine lv_istore_n (lv' := [(1, .int y4), (0, .ref o), (2, .int x2), (3, .int x3)]) hx hb dX5_interlocks_29 rfl hl (by decide) rfl (fun ls hl => ?_)
      obtain ⟨y5, ey5⟩ : ∃ z : Int32, z = x3 + 1 := ⟨_, rfl⟩
      have h := h y5 ey5
      refine lv_iinc (v := y5) (lv' := [(3, .int y5), (1, .int y4), (0, .ref o), (2, .int x2)]) hx hb dX5_interlocks_30 hl (k := 3) rfl (by rw [ey5]; rfl) (by decide) rfl (fun ls hl => ?_)
      refine lv_goto (tgt := 12) hx hb dX5_interlocks_33 (by decide) ?_
      exact ih hB (lv_sub hl [2, 1, 3, 0] rfl) h
theorem wv_X5_interlocks_4 {M : z_M} {Qk : Int32 → Prop} (X : z_XM l G A p R s m args meth c cX5_interlocks 4 "interlocks" (some .int) 8 120) : ∀ (n : Nat) {x1 : Int32} {x2 : Int32} {H : Heap} {locs : List Loc} {ls : Array Slot}, z_MB G z_P1c A s.heap T I0 Q o b M H locs → lv_has ls 4 [(0, .ref o), (1, .int x1), (2, .int x2)] → wl_X5_interlocks_4 M Qk n x1 x2 → W p l e R s m args below meth c H locs 0 0 (z_MQ below G z_P1c A T I0 Q (z_mi (fun r M1 => Qk r ∧ M1 = M) T Q o b) z_no args s 0 0) (F0 m 4 ls []) := by
  intro n
  induction n with
  | zero =>
    intro x1 x2 H locs ls hB hl h
    exact h.elim
  | succ n ih =>
    intro x1 x2 H locs ls hB hl h
    obtain ⟨hx, hb, -⟩ := id X
    unfold wl_X5_interlocks_4 at h
    refine lv_iload_n hx hb dX5_interlocks_4 rfl (lv_at hl 2 rfl) ?_
    refine lv_bipush (v := 8) hx hb dX5_interlocks_5 (by decide) ?_
    refine lv_icmp_ge (tgt := 42) hx hb dX5_interlocks_7 (by decide) (fun c1 => ?_) (fun c1 => ?_)
    · have h := h.1 c1
      refine lv_iload_n hx hb dX5_interlocks_42 rfl (lv_at hl 1 rfl) ?_
      obtain ⟨hL, I, hB, hM⟩ := hB
      exact z_iret X hB ⟨_, rfl, ⟨h, hM⟩, rfl, rfl⟩ (Nat.le_refl 0) (Nat.le_refl 0) dX5_interlocks_43
    · have h := h.2 c1
      refine lv_iconst (v := 0) hx hb dX5_interlocks_10 (by decide) ?_
      refine lv_istore_n (lv' := [(3, .int 0), (0, .ref o), (1, .int x1), (2, .int x2)]) hx hb dX5_interlocks_11 rfl hl (by decide) rfl (fun ls hl => ?_)
      obtain ⟨w, h⟩ := h
      exact wv_X5_interlocks_12 X (fun hB hl h => ih hB hl h) w hB (lv_sub hl [1, 2, 3, 0] rfl) h
theorem ww_X5_interlocks_0 {M : z_M} {Qk : Int32 → Prop} (X : z_XM l G A p R s m args meth c cX5_interlocks 4 "interlocks" (some .int) 8 120) {H : Heap} {locs : List Loc} {ls : Array Slot} (hB : z_MB G z_P1c A s.heap T I0 Q o b M H locs) (hl : lv_has ls 4 [(0, .ref o)]) (h : wb_X5_interlocks_0 M Qk) : W p l e R s m args below meth c H locs 0 0 (z_MQ below G z_P1c A T I0 Q (z_mi (fun r M1 => Qk r ∧ M1 = M) T Q o b) z_no args s 0 0) (F0 m 0 ls []) := by
  obtain ⟨hx, hb, -⟩ := id X
  unfold wb_X5_interlocks_0 at h
  refine lv_iconst (v := 0) hx hb dX5_interlocks_0 (by decide) ?_
  refine lv_istore_n (lv' := [(1, .int 0), (0, .ref o)]) hx hb dX5_interlocks_1 rfl hl (by decide) rfl (fun ls hl => ?_)
  refine lv_iconst (v := 0) hx hb dX5_interlocks_2 (by decide) ?_
  refine lv_istore_n (lv' := [(2, .int 0), (1, .int 0), (0, .ref o)]) hx hb dX5_interlocks_3 rfl hl (by decide) rfl (fun ls hl => ?_)
  obtain ⟨w, h⟩ := h
  exact wv_X5_interlocks_4 X  w hB (lv_sub hl [2, 1, 0] rfl) h
theorem pk_X5_interlocks : z_PV RX5 yX5_interlocks cX5_interlocks 4 (some .int) 0 := ⟨q3654, qs83, q131, q3655, by decide +kernel⟩
theorem met_X5_interlocks {l : Launch} {G : z_E} {T : z_T} {I : z_I} {Q : z_Q} {o : Nat} {b : Nat → Nat} {M : z_M} (hL : z_lie T Q o b) (hM : z_of I o b = M) (Qk : Int32 → Prop) (h : wp_X5_interlocks M Qk) : z_GM l G yX5_interlocks (ws_ yX5_interlocks cX5_interlocks 4 (some .int)) 8 120 0 0 [.ref o] z_P1c T I Q (z_mi (fun r M1 => Qk r ∧ M1 = M) T Q o b) z_no := by
  refine z_body (own := RX5) (nm := "interlocks") (by decide +kernel) rfl rfl (Nat.le_of_ble_eq_true rfl) (fun p e R s m below meth c A ls X hB hl => ?_)
  exact ww_X5_interlocks_0 X ⟨hL, I, hB, hM⟩ hl h
/-! X5_sum -/
theorem wv_X5_sum_4 {M : z_M} {Qk : Int32 → Prop} (X : z_XM l G A p R s m args meth c cX5_sum 3 "sum" (some .int) 8 120) : ∀ (n : Nat) {x0 : Nat} {x1 : Int32} {x2 : Int32} {H : Heap} {locs : List Loc} {ls : Array Slot}, z_ln x0 ≠ 0 → z_MB G z_P1c A s.heap T I0 Q o b M H locs → lv_has ls 3 [(0, .ref (b x0)), (1, .int x1), (2, .int x2)] → wl_X5_sum_4 M Qk n x0 x1 x2 → W p l e R s m args below meth c H locs 0 0 (z_MQ below G z_P1c A T I0 Q (z_mi (fun r M1 => Qk r ∧ M1 = M) T Q o b) z_no args s 0 0) (F0 m 4 ls []) := by
  intro n
  induction n with
  | zero =>
    intro x0 x1 x2 H locs ls hf_x0 hB hl h
    exact h.elim
  | succ n ih =>
    intro x0 x1 x2 H locs ls hf_x0 hB hl h
    obtain ⟨hx, hb, -⟩ := id X
    unfold wl_X5_sum_4 at h
    refine lv_iload_n hx hb dX5_sum_4 rfl (lv_at hl 2 rfl) ?_
    refine lv_aload_n hx hb dX5_sum_5 rfl (lv_at hl 0 rfl) ?_
    refine z_malen (f := x0) X hB hf_x0 dX5_sum_6 ?_
    refine lv_icmp_ge (tgt := 22) hx hb dX5_sum_7 (by decide) (fun c1 => ?_) (fun c1 => ?_)
    · have h := h.1 c1
      refine lv_iload_n hx hb dX5_sum_22 rfl (lv_at hl 1 rfl) ?_
      obtain ⟨hL, I, hB, hM⟩ := hB
      exact z_iret X hB ⟨_, rfl, ⟨h, hM⟩, rfl, rfl⟩ (Nat.le_refl 0) (Nat.le_refl 0) dX5_sum_23
    · have h := h.2 c1
      refine lv_iload_n hx hb dX5_sum_10 rfl (lv_at hl 1 rfl) ?_
      refine lv_aload_n hx hb dX5_sum_11 rfl (lv_at hl 0 rfl) ?_
      refine lv_iload_n hx hb dX5_sum_12 rfl (lv_at hl 2 rfl) ?_
      obtain ⟨h1, h⟩ := h
      refine z_mald (f := x0) X hB hf_x0 h1 dX5_sum_13 ?_
      refine lv_iadd hx hb dX5_sum_14 ?_
      refine lv_topi (fun y2 ey2 => ?_)
      have h := h y2 ey2
      refine lv_istore_n (lv' := [(1, .int y2), (0, .ref (b x0)), (2, .int x2)]) hx hb dX5_sum_15 rfl hl (by decide) rfl (fun ls hl => ?_)
      obtain ⟨y3, ey3⟩ : ∃ z : Int32, z = x2 + 1 := ⟨_, rfl⟩
      have h := h y3 ey3
      refine lv_iinc (v := y3) (lv' := [(2, .int y3), (1, .int y2), (0, .ref (b x0))]) hx hb dX5_sum_16 hl (k := 2) rfl (by rw [ey3]; rfl) (by decide) rfl (fun ls hl => ?_)
      refine lv_goto (tgt := 4) hx hb dX5_sum_19 (by decide) ?_
      exact ih hf_x0 hB (lv_sub hl [2, 1, 0] rfl) h
theorem ww_X5_sum_0 {M : z_M} {Qk : Int32 → Prop} (X : z_XM l G A p R s m args meth c cX5_sum 3 "sum" (some .int) 8 120) {x0 : Nat} {H : Heap} {locs : List Loc} {ls : Array Slot} (hf_x0 : z_ln x0 ≠ 0) (hB : z_MB G z_P1c A s.heap T I0 Q o b M H locs) (hl : lv_has ls 3 [(0, .ref (b x0))]) (h : wb_X5_sum_0 M Qk x0) : W p l e R s m args below meth c H locs 0 0 (z_MQ below G z_P1c A T I0 Q (z_mi (fun r M1 => Qk r ∧ M1 = M) T Q o b) z_no args s 0 0) (F0 m 0 ls []) := by
  obtain ⟨hx, hb, -⟩ := id X
  unfold wb_X5_sum_0 at h
  refine lv_iconst (v := 0) hx hb dX5_sum_0 (by decide) ?_
  refine lv_istore_n (lv' := [(1, .int 0), (0, .ref (b x0))]) hx hb dX5_sum_1 rfl hl (by decide) rfl (fun ls hl => ?_)
  refine lv_iconst (v := 0) hx hb dX5_sum_2 (by decide) ?_
  refine lv_istore_n (lv' := [(2, .int 0), (1, .int 0), (0, .ref (b x0))]) hx hb dX5_sum_3 rfl hl (by decide) rfl (fun ls hl => ?_)
  obtain ⟨w, h⟩ := h
  exact wv_X5_sum_4 X  w hf_x0 hB (lv_sub hl [2, 1, 0] rfl) h
theorem pk_X5_sum : z_PS yX5_sum cX5_sum 3 (some .int) 1 := ⟨q3650, q131, q3651, by decide +kernel⟩
theorem met_X5_sum {l : Launch} {G : z_E} {T : z_T} {I : z_I} {Q : z_Q} {o : Nat} {b : Nat → Nat} {M : z_M} (hL : z_lie T Q o b) (hM : z_of I o b = M) {x0 : Nat} (hf_x0 : z_ln x0 ≠ 0) (Qk : Int32 → Prop) (h : wp_X5_sum M x0 Qk) : z_GM l G yX5_sum (ws_ yX5_sum cX5_sum 3 (some .int)) 8 120 0 0 [.ref (b x0)] z_P1c T I Q (z_mi (fun r M1 => Qk r ∧ M1 = M) T Q o b) z_no := by
  refine z_body (own := RX5) (nm := "sum") (by decide +kernel) rfl rfl (Nat.le_of_ble_eq_true rfl) (fun p e R s m below meth c A ls X hB hl => ?_)
  exact ww_X5_sum_0 X hf_x0 ⟨hL, I, hB, hM⟩ hl h
/-! X5_account -/
theorem ww_X5_account_0 {Qk : Int32 → z_M → Prop} (X : z_XM l G A p R s m args meth c cX5_account 2 "account" (some .int) 9 143) {M : z_M} {x1 : Int32} {H : Heap} {locs : List Loc} {ls : Array Slot} (hB : z_MB G z_P1c A s.heap T I0 Q o b M H locs) (hl : lv_has ls 2 [(0, .ref o), (1, .int x1)]) (h : wb_X5_account_0 Qk M x1) : W p l e R s m args below meth c H locs 0 0 (z_MQ below G z_P1c A T I0 Q (z_mi Qk T Q o b) z_no args s 0 0) (F0 m 0 ls []) := by
  obtain ⟨hx, hb, -⟩ := id X
  unfold wb_X5_account_0 at h
  refine lv_iload_n hx hb dX5_account_0 rfl (lv_at hl 1 rfl) ?_
  refine lv_iconst (v := 0) hx hb dX5_account_1 (by decide) ?_
  refine lv_bipush (v := 9) hx hb dX5_account_2 (by decide) ?_
  refine z_mcallzp (fun I1 hB1 hM => z_runS (rest := []) [.int x1, .int 0, .int 9] pk_X5_isBetween (met_X5_isBetween x1 0 9 _ h) X hB1 (fun h => h) q3415 rfl hl.1 (Nat.le_of_ble_eq_true rfl) dX5_account_4 (Nat.le_refl 0) (Nat.le_refl 0) (by decide) (by decide)) hB (fun r1 H locs hz h hB => ?_)
  have h := h hz
  refine lv_if_ne (tgt := 16) hx hb dX5_account_7 (by decide) (fun c2 => ?_) (fun c2 => ?_)
  · have h := h.1 c2
    refine lv_aload_n hx hb dX5_account_16 rfl (lv_at hl 0 rfl) ?_
    refine lv_iconst (v := 0) hx hb dX5_account_17 (by decide) ?_
    obtain ⟨M3, eM3⟩ : ∃ z, z = z_us M 0 0 := ⟨_, rfl⟩
    have h := h M3 eM3
    refine z_mputs (j := 0) (ty := .int) X hB q3210 rfl (Nat.le_of_ble_eq_true rfl) rfl rfl rfl rfl (Or.inl rfl) rfl dX5_account_18 (fun H locs hB => ?_)
    rw [← eM3] at hB
    refine lv_iload_n hx hb dX5_account_21 rfl (lv_at hl 1 rfl) ?_
    by_cases c4_0 : x1 = 0
    · have h := h.1 c4_0
      refine lv_tableIn (off := 50) (tgt := 72) hx hb dX5_account_22 (by rw [c4_0]; decide) (by rw [c4_0]; decide) (by rw [c4_0]; rfl) (by decide) ?_
      refine lv_aload_n hx hb dX5_account_72 rfl (lv_at hl 0 rfl) ?_
      refine z_mgets (j := 33) X hB q3243 rfl (Nat.le_of_ble_eq_true rfl) rfl rfl dX5_account_73 ?_
      obtain ⟨hL, I, hB, hM⟩ := hB
      exact z_iret X hB ⟨_, rfl, (by rw [hM]; exact h), rfl, rfl⟩ (Nat.le_refl 0) (Nat.le_refl 0) dX5_account_76
    · by_cases c4_1 : x1 = 1
      · have h := h.2.1 c4_1
        refine lv_tableIn (off := 55) (tgt := 77) hx hb dX5_account_22 (by rw [c4_1]; decide) (by rw [c4_1]; decide) (by rw [c4_1]; rfl) (by decide) ?_
        refine lv_aload_n hx hb dX5_account_77 rfl (lv_at hl 0 rfl) ?_
        refine z_mgets (j := 34) X hB q3244 rfl (Nat.le_of_ble_eq_true rfl) rfl rfl dX5_account_78 ?_
        obtain ⟨hL, I, hB, hM⟩ := hB
        exact z_iret X hB ⟨_, rfl, (by rw [hM]; exact h), rfl, rfl⟩ (Nat.le_refl 0) (Nat.le_refl 0) dX5_account_81
      · by_cases c4_2 : x1 = 2
        · have h := h.2.2.1 c4_2
          refine lv_tableIn (off := 60) (tgt := 82) hx hb dX5_account_22 (by rw [c4_2]; decide) (by rw [c4_2]; decide) (by rw [c4_2]; rfl) (by decide) ?_
          refine lv_aload_n hx hb dX5_account_82 rfl (lv_at hl 0 rfl) ?_
          refine z_mgets (j := 37) X hB q3247 rfl (Nat.le_of_ble_eq_true rfl) rfl rfl dX5_account_83 ?_
          obtain ⟨hL, I, hB, hM⟩ := hB
          exact z_iret X hB ⟨_, rfl, (by rw [hM]; exact h), rfl, rfl⟩ (Nat.le_refl 0) (Nat.le_refl 0) dX5_account_86
        · by_cases c4_3 : x1 = 3
          · have h := h.2.2.2.1 c4_3
            refine lv_tableIn (off := 65) (tgt := 87) hx hb dX5_account_22 (by rw [c4_3]; decide) (by rw [c4_3]; decide) (by rw [c4_3]; rfl) (by decide) ?_
            refine lv_aload_n hx hb dX5_account_87 rfl (lv_at hl 0 rfl) ?_
            refine z_mgets (j := 38) X hB q3248 rfl (Nat.le_of_ble_eq_true rfl) rfl rfl dX5_account_88 ?_
            obtain ⟨hL, I, hB, hM⟩ := hB
            exact z_iret X hB ⟨_, rfl, (by rw [hM]; exact h), rfl, rfl⟩ (Nat.le_refl 0) (Nat.le_refl 0) dX5_account_91
          · by_cases c4_4 : x1 = 4
            · have h := h.2.2.2.2.1 c4_4
              refine lv_tableIn (off := 70) (tgt := 92) hx hb dX5_account_22 (by rw [c4_4]; decide) (by rw [c4_4]; decide) (by rw [c4_4]; rfl) (by decide) ?_
              refine lv_aload_n hx hb dX5_account_92 rfl (lv_at hl 0 rfl) ?_
              refine z_mgets (j := 35) X hB q3245 rfl (Nat.le_of_ble_eq_true rfl) rfl rfl dX5_account_93 ?_
              obtain ⟨hL, I, hB, hM⟩ := hB
              exact z_iret X hB ⟨_, rfl, (by rw [hM]; exact h), rfl, rfl⟩ (Nat.le_refl 0) (Nat.le_refl 0) dX5_account_96
            · by_cases c4_5 : x1 = 5
              · have h := h.2.2.2.2.2.1 c4_5
                refine lv_tableIn (off := 75) (tgt := 97) hx hb dX5_account_22 (by rw [c4_5]; decide) (by rw [c4_5]; decide) (by rw [c4_5]; rfl) (by decide) ?_
                refine lv_aload_n hx hb dX5_account_97 rfl (lv_at hl 0 rfl) ?_
                refine z_mgeta (j := 4) X hB q3214 rfl (Nat.le_of_ble_eq_true rfl) rfl (by decide) dX5_account_98 ?_
                refine z_mcalli (fun _ h => h) (fun I1 hB1 hM => z_runS (rest := []) [.ref (b 4)] pk_X5_sum (met_X5_sum hB.1 hM (by decide) _ h) X hB1 (by decide) q3649 rfl hl.1 (Nat.le_of_ble_eq_true rfl) dX5_account_101 (Nat.le_refl 0) (Nat.le_refl 0) (by decide) (by decide)) hB (fun r5 M6 H locs h hB => ?_)
                obtain ⟨h, eM6⟩ := h
                rw [eM6] at hB
                obtain ⟨hL, I, hB, hM⟩ := hB
                exact z_iret X hB ⟨_, rfl, (by rw [hM]; exact h), rfl, rfl⟩ (Nat.le_refl 0) (Nat.le_refl 0) dX5_account_104
              · by_cases c4_6 : x1 = 6
                · have h := h.2.2.2.2.2.2.1 c4_6
                  refine lv_tableIn (off := 83) (tgt := 105) hx hb dX5_account_22 (by rw [c4_6]; decide) (by rw [c4_6]; decide) (by rw [c4_6]; rfl) (by decide) ?_
                  refine lv_aload_n hx hb dX5_account_105 rfl (lv_at hl 0 rfl) ?_
                  refine z_mgets (j := 36) X hB q3246 rfl (Nat.le_of_ble_eq_true rfl) rfl rfl dX5_account_106 ?_
                  obtain ⟨hL, I, hB, hM⟩ := hB
                  exact z_iret X hB ⟨_, rfl, (by rw [hM]; exact h), rfl, rfl⟩ (Nat.le_refl 0) (Nat.le_refl 0) dX5_account_109
                · by_cases c4_7 : x1 = 7
                  · have h := h.2.2.2.2.2.2.2.1 c4_7
                    refine lv_tableIn (off := 88) (tgt := 110) hx hb dX5_account_22 (by rw [c4_7]; decide) (by rw [c4_7]; decide) (by rw [c4_7]; rfl) (by decide) ?_
                    refine lv_aload_n hx hb dX5_account_110 rfl (lv_at hl 0 rfl) ?_
                    refine z_mgets (j := 40) X hB q3250 rfl (Nat.le_of_ble_eq_true rfl) rfl rfl dX5_account_111 ?_
                    obtain ⟨hL, I, hB, hM⟩ := hB
                    exact z_iret X hB ⟨_, rfl, (by rw [hM]; exact h), rfl, rfl⟩ (Nat.le_refl 0) (Nat.le_refl 0) dX5_account_114
                  · by_cases c4_8 : x1 = 8
                    · have h := h.2.2.2.2.2.2.2.2.1 c4_8
                      refine lv_tableIn (off := 93) (tgt := 115) hx hb dX5_account_22 (by rw [c4_8]; decide) (by rw [c4_8]; decide) (by rw [c4_8]; rfl) (by decide) ?_
                      refine lv_aload_n hx hb dX5_account_115 rfl (lv_at hl 0 rfl) ?_
                      refine z_mgeta (j := 20) X hB q3230 rfl (Nat.le_of_ble_eq_true rfl) rfl (by decide) dX5_account_116 ?_
                      refine z_mcalli (fun _ h => h) (fun I1 hB1 hM => z_runS (rest := []) [.ref (b 20)] pk_X5_sum (met_X5_sum hB.1 hM (by decide) _ h) X hB1 (by decide) q3649 rfl hl.1 (Nat.le_of_ble_eq_true rfl) dX5_account_119 (Nat.le_refl 0) (Nat.le_refl 0) (by decide) (by decide)) hB (fun r7 M8 H locs h hB => ?_)
                      obtain ⟨h, eM8⟩ := h
                      rw [eM8] at hB
                      obtain ⟨hL, I, hB, hM⟩ := hB
                      exact z_iret X hB ⟨_, rfl, (by rw [hM]; exact h), rfl, rfl⟩ (Nat.le_refl 0) (Nat.le_refl 0) dX5_account_122
                    · have h := h.2.2.2.2.2.2.2.2.2 c4_0 c4_1 c4_2 c4_3 c4_4 c4_5 c4_6 c4_7 c4_8
                      refine lv_tableOut (tgt := 123) hx hb dX5_account_22 ?_ (by decide) ?_
                      · have q0 := lv_neT c4_0 (a := 0) (by decide)
                        have q1 := lv_neT c4_1 (a := 1) (by decide)
                        have q2 := lv_neT c4_2 (a := 2) (by decide)
                        have q3 := lv_neT c4_3 (a := 3) (by decide)
                        have q4 := lv_neT c4_4 (a := 4) (by decide)
                        have q5 := lv_neT c4_5 (a := 5) (by decide)
                        have q6 := lv_neT c4_6 (a := 6) (by decide)
                        have q7 := lv_neT c4_7 (a := 7) (by decide)
                        have q8 := lv_neT c4_8 (a := 8) (by decide)
                        omega
                      · refine lv_aload_n hx hb dX5_account_123 rfl (lv_at hl 0 rfl) ?_
                        refine z_mcalli (fun _ h => h) (fun I1 hB1 hM => z_runV (rest := []) [] pk_X5_interlocks (met_X5_interlocks hB.1 hM _ h) X hB1 (by decide) q3652 kc_X5 (by decide) (by rw [hB.1.1]) rfl hl.1 (Nat.le_of_ble_eq_true rfl) dX5_account_124 (Nat.le_refl 0) (Nat.le_refl 0) (by decide) (by decide)) hB (fun r9 M10 H locs h hB => ?_)
                        obtain ⟨h, eM10⟩ := h
                        rw [eM10] at hB
                        obtain ⟨hL, I, hB, hM⟩ := hB
                        exact z_iret X hB ⟨_, rfl, (by rw [hM]; exact h), rfl, rfl⟩ (Nat.le_refl 0) (Nat.le_refl 0) dX5_account_127
  · have h := h.2 c2
    refine lv_aload_n hx hb dX5_account_10 rfl (lv_at hl 0 rfl) ?_
    refine lv_iconst (v := 1) hx hb dX5_account_11 (by decide) ?_
    refine z_mcalli (fun _ h => h) (fun I1 hB1 hM => z_runV (rest := []) [.int 1] pk_X5_fails (met_X5_fails hB.1 hM 1 _ h) X hB1 (by decide) q3472 kc_X5 (by decide) (by rw [hB.1.1]) rfl hl.1 (Nat.le_of_ble_eq_true rfl) dX5_account_12 (Nat.le_refl 0) (Nat.le_refl 0) (by decide) (by decide)) hB (fun r11 M12 H locs h hB => ?_)
    obtain ⟨hL, I, hB, hM⟩ := hB
    exact z_iret X hB ⟨_, rfl, (by rw [hM]; exact h), rfl, rfl⟩ (Nat.le_refl 0) (Nat.le_refl 0) dX5_account_15
theorem pk_X5_account : z_PV RX5 yX5_account cX5_account 2 (some .int) 1 := ⟨q3646, q3647, q131, q3648, by decide +kernel⟩
theorem met_X5_account {l : Launch} {G : z_E} {T : z_T} {I : z_I} {Q : z_Q} {o : Nat} {b : Nat → Nat} {M : z_M} (hL : z_lie T Q o b) (hM : z_of I o b = M) (x1 : Int32) (Qk : Int32 → z_M → Prop) (h : wp_X5_account M x1 Qk) : z_GM l G yX5_account (ws_ yX5_account cX5_account 2 (some .int)) 9 143 0 0 [.ref o, .int x1] z_P1c T I Q (z_mi Qk T Q o b) z_no := by
  refine z_body (own := RX5) (nm := "account") (by decide +kernel) rfl rfl (Nat.le_of_ble_eq_true rfl) (fun p e R s m below meth c A ls X hB hl => ?_)
  exact ww_X5_account_0 X ⟨hL, I, hB, hM⟩ hl h
/-! X5_use -/
theorem ww_X5_use_54 {Qk : UInt32 → z_M → Prop} (X : z_XM l G A p R s m args meth c cX5_use 2 "use" (some .float) 10 162) {M : z_M} {s0 : UInt32} {H : Heap} {locs : List Loc} {ls : Array Slot} (hB : z_MB G z_P1c A s.heap T I0 Q o b M H locs) (hl : lv_has ls 2 []) (h : wb_X5_use_54 Qk M s0) : W p l e R s m args below meth c H locs 0 0 (z_MQ below G z_P1c A T I0 Q (z_mf Qk T Q o b) z_no args s 0 0) (F0 m 54 ls [.float s0]) := by
  obtain ⟨hx, hb, -⟩ := id X
  unfold wb_X5_use_54 at h
  obtain ⟨hL, I, hB, hM⟩ := hB
  exact z_fret X hB ⟨_, rfl, (by rw [hM]; exact h), rfl, rfl⟩ (Nat.le_refl 0) (Nat.le_refl 0) dX5_use_54
theorem ww_X5_use_27 {Qk : UInt32 → z_M → Prop} (X : z_XM l G A p R s m args meth c cX5_use 2 "use" (some .float) 10 162) {M : z_M} {x1 : Int32} {s1 : Int32} {H : Heap} {locs : List Loc} {ls : Array Slot} (hB : z_MB G z_P1c A s.heap T I0 Q o b M H locs) (hl : lv_has ls 2 [(0, .ref o), (1, .int x1)]) (h : wb_X5_use_27 Qk M x1 s1) : W p l e R s m args below meth c H locs 0 0 (z_MQ below G z_P1c A T I0 Q (z_mf Qk T Q o b) z_no args s 0 0) (F0 m 27 ls [.int s1, .ref o]) := by
  obtain ⟨hx, hb, -⟩ := id X
  unfold wb_X5_use_27 at h
  obtain ⟨M5, eM5⟩ : ∃ z, z = z_us M 0 s1 := ⟨_, rfl⟩
  have h := h M5 eM5
  refine z_mputs (j := 0) (ty := .int) X hB q3210 rfl (Nat.le_of_ble_eq_true rfl) rfl rfl rfl rfl (Or.inl rfl) rfl dX5_use_27 (fun H locs hB => ?_)
  rw [← eM5] at hB
  refine lv_aload_n hx hb dX5_use_30 rfl (lv_at hl 0 rfl) ?_
  refine z_mgets (j := 33) X hB q3243 rfl (Nat.le_of_ble_eq_true rfl) rfl rfl dX5_use_31 ?_
  refine lv_if_ne (tgt := 41) hx hb dX5_use_34 (by decide) (fun c6 => ?_) (fun c6 => ?_)
  · have h := h.1 c6
    refine lv_aload_n hx hb dX5_use_41 rfl (lv_at hl 0 rfl) ?_
    refine z_mgeta (j := 21) X hB q3231 rfl (Nat.le_of_ble_eq_true rfl) rfl (by decide) dX5_use_42 ?_
    refine lv_iload_n hx hb dX5_use_45 rfl (lv_at hl 1 rfl) ?_
    obtain ⟨h1, h⟩ := h
    refine z_mald (f := 21) X hB (by decide) h1 dX5_use_46 ?_
    refine lv_i2f hx hb dX5_use_47 ?_
    refine lv_aload_n hx hb dX5_use_48 rfl (lv_at hl 0 rfl) ?_
    refine z_mgets (j := 33) X hB q3243 rfl (Nat.le_of_ble_eq_true rfl) rfl rfl dX5_use_49 ?_
    refine lv_i2f hx hb dX5_use_52 ?_
    obtain ⟨hn, h⟩ := h
    refine lv_fdiv hx hb dX5_use_53 hn ?_
    exact ww_X5_use_54 X  hB (lv_sub hl [] rfl) h
  · have h := h.2 c6
    refine lv_fconst0 hx hb dX5_use_37 ?_
    refine lv_goto (tgt := 54) hx hb dX5_use_38 (by decide) ?_
    exact ww_X5_use_54 X  hB (lv_sub hl [] rfl) h
theorem ww_X5_use_0 {Qk : UInt32 → z_M → Prop} (X : z_XM l G A p R s m args meth c cX5_use 2 "use" (some .float) 10 162) {M : z_M} {x1 : Int32} {H : Heap} {locs : List Loc} {ls : Array Slot} (hB : z_MB G z_P1c A s.heap T I0 Q o b M H locs) (hl : lv_has ls 2 [(0, .ref o), (1, .int x1)]) (h : wb_X5_use_0 Qk M x1) : W p l e R s m args below meth c H locs 0 0 (z_MQ below G z_P1c A T I0 Q (z_mf Qk T Q o b) z_no args s 0 0) (F0 m 0 ls []) := by
  obtain ⟨hx, hb, -⟩ := id X
  unfold wb_X5_use_0 at h
  refine lv_iload_n hx hb dX5_use_0 rfl (lv_at hl 1 rfl) ?_
  refine z_mcallzp (fun I1 hB1 hM => z_runS (rest := []) [.int x1] pk_X5_isArm (met_X5_isArm x1 _ h) X hB1 (fun h => h) q3469 rfl hl.1 (Nat.le_of_ble_eq_true rfl) dX5_use_1 (Nat.le_refl 0) (Nat.le_refl 0) (by decide) (by decide)) hB (fun r1 H locs hz h hB => ?_)
  have h := h hz
  refine lv_if_ne (tgt := 14) hx hb dX5_use_4 (by decide) (fun c2 => ?_) (fun c2 => ?_)
  · have h := h.1 c2
    refine lv_aload_n hx hb dX5_use_14 rfl (lv_at hl 0 rfl) ?_
    refine lv_aload_n hx hb dX5_use_15 rfl (lv_at hl 0 rfl) ?_
    refine z_mgets (j := 33) X hB q3243 rfl (Nat.le_of_ble_eq_true rfl) rfl rfl dX5_use_16 ?_
    refine lv_if_ne (tgt := 26) hx hb dX5_use_19 (by decide) (fun c3 => ?_) (fun c3 => ?_)
    · have h := h.1 c3
      refine lv_iconst (v := 0) hx hb dX5_use_26 (by decide) ?_
      exact ww_X5_use_27 X  hB (lv_sub hl [0, 1] rfl) h
    · have h := h.2 c3
      refine lv_iconst (v := 2) hx hb dX5_use_22 (by decide) ?_
      refine lv_goto (tgt := 27) hx hb dX5_use_23 (by decide) ?_
      exact ww_X5_use_27 X  hB (lv_sub hl [0, 1] rfl) h
  · have h := h.2 c2
    refine lv_aload_n hx hb dX5_use_7 rfl (lv_at hl 0 rfl) ?_
    refine lv_iconst (v := 1) hx hb dX5_use_8 (by decide) ?_
    obtain ⟨M4, eM4⟩ : ∃ z, z = z_us M 0 1 := ⟨_, rfl⟩
    have h := h M4 eM4
    refine z_mputs (j := 0) (ty := .int) X hB q3210 rfl (Nat.le_of_ble_eq_true rfl) rfl rfl rfl rfl (Or.inl rfl) rfl dX5_use_9 (fun H locs hB => ?_)
    rw [← eM4] at hB
    refine lv_fconst0 hx hb dX5_use_12 ?_
    obtain ⟨hL, I, hB, hM⟩ := hB
    exact z_fret X hB ⟨_, rfl, (by rw [hM]; exact h), rfl, rfl⟩ (Nat.le_refl 0) (Nat.le_refl 0) dX5_use_13
theorem pk_X5_use : z_PV RX5 yX5_use cX5_use 2 (some .float) 1 := ⟨q3657, q3658, q131, q3659, by decide +kernel⟩
theorem met_X5_use {l : Launch} {G : z_E} {T : z_T} {I : z_I} {Q : z_Q} {o : Nat} {b : Nat → Nat} {M : z_M} (hL : z_lie T Q o b) (hM : z_of I o b = M) (x1 : Int32) (Qk : UInt32 → z_M → Prop) (h : wp_X5_use M x1 Qk) : z_GM l G yX5_use (ws_ yX5_use cX5_use 2 (some .float)) 10 162 0 0 [.ref o, .int x1] z_P1c T I Q (z_mf Qk T Q o b) z_no := by
  refine z_body (own := RX5) (nm := "use") (by decide +kernel) rfl rfl (Nat.le_of_ble_eq_true rfl) (fun p e R s m below meth c A ls X hB hl => ?_)
  exact ww_X5_use_0 X ⟨hL, I, hB, hM⟩ hl h
/-! X5_meanDuration -/
theorem ww_X5_meanDuration_38 {Qk : UInt64 → z_M → Prop} (X : z_XM l G A p R s m args meth c cX5_meanDuration 1 "meanDuration" (some .double) 8 120) {M : z_M} {s0 : UInt64} {H : Heap} {locs : List Loc} {ls : Array Slot} (hB : z_MB G z_P1c A s.heap T I0 Q o b M H locs) (hl : lv_has ls 1 []) (h : wb_X5_meanDuration_38 Qk M s0) : W p l e R s m args below meth c H locs 0 0 (z_MQ below G z_P1c A T I0 Q (z_md Qk T Q o b) z_no args s 0 0) (F0 m 38 ls [.double s0]) := by
  obtain ⟨hx, hb, -⟩ := id X
  unfold wb_X5_meanDuration_38 at h
  obtain ⟨hL, I, hB, hM⟩ := hB
  exact z_dret X hB ⟨_, rfl, (by rw [hM]; exact h), rfl, rfl⟩ (Nat.le_refl 0) (Nat.le_refl 0) dX5_meanDuration_38
theorem ww_X5_meanDuration_13 {Qk : UInt64 → z_M → Prop} (X : z_XM l G A p R s m args meth c cX5_meanDuration 1 "meanDuration" (some .double) 8 120) {M : z_M} {s1 : Int32} {H : Heap} {locs : List Loc} {ls : Array Slot} (hB : z_MB G z_P1c A s.heap T I0 Q o b M H locs) (hl : lv_has ls 1 [(0, .ref o)]) (h : wb_X5_meanDuration_13 Qk M s1) : W p l e R s m args below meth c H locs 0 0 (z_MQ below G z_P1c A T I0 Q (z_md Qk T Q o b) z_no args s 0 0) (F0 m 13 ls [.int s1, .ref o]) := by
  obtain ⟨hx, hb, -⟩ := id X
  unfold wb_X5_meanDuration_13 at h
  obtain ⟨M2, eM2⟩ : ∃ z, z = z_us M 0 s1 := ⟨_, rfl⟩
  have h := h M2 eM2
  refine z_mputs (j := 0) (ty := .int) X hB q3210 rfl (Nat.le_of_ble_eq_true rfl) rfl rfl rfl rfl (Or.inl rfl) rfl dX5_meanDuration_13 (fun H locs hB => ?_)
  rw [← eM2] at hB
  refine lv_aload_n hx hb dX5_meanDuration_16 rfl (lv_at hl 0 rfl) ?_
  refine z_mgets (j := 37) X hB q3247 rfl (Nat.le_of_ble_eq_true rfl) rfl rfl dX5_meanDuration_17 ?_
  refine lv_if_ne (tgt := 27) hx hb dX5_meanDuration_20 (by decide) (fun c3 => ?_) (fun c3 => ?_)
  · have h := h.1 c3
    refine lv_aload_n hx hb dX5_meanDuration_27 rfl (lv_at hl 0 rfl) ?_
    refine z_mgets (j := 39) X hB q3249 rfl (Nat.le_of_ble_eq_true rfl) rfl rfl dX5_meanDuration_28 ?_
    refine lv_i2d hx hb dX5_meanDuration_31 ?_
    refine lv_aload_n hx hb dX5_meanDuration_32 rfl (lv_at hl 0 rfl) ?_
    refine z_mgets (j := 37) X hB q3247 rfl (Nat.le_of_ble_eq_true rfl) rfl rfl dX5_meanDuration_33 ?_
    refine lv_i2d hx hb dX5_meanDuration_36 ?_
    obtain ⟨hn, h⟩ := h
    refine lv_ddiv hx hb dX5_meanDuration_37 hn ?_
    exact ww_X5_meanDuration_38 X  hB (lv_sub hl [] rfl) h
  · have h := h.2 c3
    refine lv_dconst0 hx hb dX5_meanDuration_23 ?_
    refine lv_goto (tgt := 38) hx hb dX5_meanDuration_24 (by decide) ?_
    exact ww_X5_meanDuration_38 X  hB (lv_sub hl [] rfl) h
theorem ww_X5_meanDuration_0 {Qk : UInt64 → z_M → Prop} (X : z_XM l G A p R s m args meth c cX5_meanDuration 1 "meanDuration" (some .double) 8 120) {M : z_M} {H : Heap} {locs : List Loc} {ls : Array Slot} (hB : z_MB G z_P1c A s.heap T I0 Q o b M H locs) (hl : lv_has ls 1 [(0, .ref o)]) (h : wb_X5_meanDuration_0 Qk M) : W p l e R s m args below meth c H locs 0 0 (z_MQ below G z_P1c A T I0 Q (z_md Qk T Q o b) z_no args s 0 0) (F0 m 0 ls []) := by
  obtain ⟨hx, hb, -⟩ := id X
  unfold wb_X5_meanDuration_0 at h
  refine lv_aload_n hx hb dX5_meanDuration_0 rfl (lv_at hl 0 rfl) ?_
  refine lv_aload_n hx hb dX5_meanDuration_1 rfl (lv_at hl 0 rfl) ?_
  refine z_mgets (j := 37) X hB q3247 rfl (Nat.le_of_ble_eq_true rfl) rfl rfl dX5_meanDuration_2 ?_
  refine lv_if_ne (tgt := 12) hx hb dX5_meanDuration_5 (by decide) (fun c1 => ?_) (fun c1 => ?_)
  · have h := h.1 c1
    refine lv_iconst (v := 0) hx hb dX5_meanDuration_12 (by decide) ?_
    exact ww_X5_meanDuration_13 X  hB (lv_sub hl [0] rfl) h
  · have h := h.2 c1
    refine lv_iconst (v := 1) hx hb dX5_meanDuration_8 (by decide) ?_
    refine lv_goto (tgt := 13) hx hb dX5_meanDuration_9 (by decide) ?_
    exact ww_X5_meanDuration_13 X  hB (lv_sub hl [0] rfl) h
theorem pk_X5_meanDuration : z_PV RX5 yX5_meanDuration cX5_meanDuration 1 (some .double) 0 := ⟨q3661, q3662, q131, q3663, by decide +kernel⟩
theorem met_X5_meanDuration {l : Launch} {G : z_E} {T : z_T} {I : z_I} {Q : z_Q} {o : Nat} {b : Nat → Nat} {M : z_M} (hL : z_lie T Q o b) (hM : z_of I o b = M) (Qk : UInt64 → z_M → Prop) (h : wp_X5_meanDuration M Qk) : z_GM l G yX5_meanDuration (ws_ yX5_meanDuration cX5_meanDuration 1 (some .double)) 8 120 0 0 [.ref o] z_P1c T I Q (z_md Qk T Q o b) z_no := by
  refine z_body (own := RX5) (nm := "meanDuration") (by decide +kernel) rfl rfl (Nat.le_of_ble_eq_true rfl) (fun p e R s m below meth c A ls X hB hl => ?_)
  exact ww_X5_meanDuration_0 X ⟨hL, I, hB, hM⟩ hl h
/-! X5_feed -/
theorem ww_X5_feed_0 {Qk : Int32 → z_M → Prop} (X : z_XM l G A p R s m args meth c cX5_feed 2 "feed" (some .int) 9 141) {M : z_M} {x1 : Int32} {H : Heap} {locs : List Loc} {ls : Array Slot} (hB : z_MB G z_P1c A s.heap T I0 Q o b M H locs) (hl : lv_has ls 2 [(0, .ref o), (1, .int x1)]) (h : wb_X5_feed_0 Qk M x1) : W p l e R s m args below meth c H locs 0 0 (z_MQ below G z_P1c A T I0 Q (z_mi Qk T Q o b) z_no args s 0 0) (F0 m 0 ls []) := by
  obtain ⟨hx, hb, -⟩ := id X
  unfold wb_X5_feed_0 at h
  refine lv_aload_n hx hb dX5_feed_0 rfl (lv_at hl 0 rfl) ?_
  refine z_mgets (j := 51) X hB q3261 rfl (Nat.le_of_ble_eq_true rfl) rfl rfl dX5_feed_1 ?_
  refine lv_bipush (v := 80) hx hb dX5_feed_4 (by decide) ?_
  refine lv_icmp_ne (tgt := 15) hx hb dX5_feed_6 (by decide) (fun c1 => ?_) (fun c1 => ?_)
  · have h := h.1 c1
    refine lv_aload_n hx hb dX5_feed_15 rfl (lv_at hl 0 rfl) ?_
    refine lv_iconst (v := 0) hx hb dX5_feed_16 (by decide) ?_
    obtain ⟨M2, eM2⟩ : ∃ z, z = z_us M 0 0 := ⟨_, rfl⟩
    have h := h M2 eM2
    refine z_mputs (j := 0) (ty := .int) X hB q3210 rfl (Nat.le_of_ble_eq_true rfl) rfl rfl rfl rfl (Or.inl rfl) rfl dX5_feed_17 (fun H locs hB => ?_)
    rw [← eM2] at hB
    refine lv_aload_n hx hb dX5_feed_20 rfl (lv_at hl 0 rfl) ?_
    refine z_mgeta (j := 48) X hB q3258 rfl (Nat.le_of_ble_eq_true rfl) rfl (by decide) dX5_feed_21 ?_
    refine lv_aload_n hx hb dX5_feed_24 rfl (lv_at hl 0 rfl) ?_
    refine z_mgets (j := 51) X hB q3261 rfl (Nat.le_of_ble_eq_true rfl) rfl rfl dX5_feed_25 ?_
    refine lv_iload_n hx hb dX5_feed_28 rfl (lv_at hl 1 rfl) ?_
    obtain ⟨h1, h⟩ := h
    obtain ⟨M3, eM3⟩ : ∃ z, z = z_up M2 48 (M2 51 0).toNatClampNeg x1 := ⟨_, rfl⟩
    have h := h M3 eM3
    refine z_mast (P := z_P1c) (f := 48) rfl X hB (by decide) h1 dX5_feed_29 (fun H locs hB => ?_)
    rw [← eM3] at hB
    refine lv_aload_n hx hb dX5_feed_30 rfl (lv_at hl 0 rfl) ?_
    refine lv_dup hx hb dX5_feed_31 rfl ?_
    refine z_mgets (j := 51) X hB q3261 rfl (Nat.le_of_ble_eq_true rfl) rfl rfl dX5_feed_32 ?_
    refine lv_iconst (v := 1) hx hb dX5_feed_35 (by decide) ?_
    refine lv_iadd hx hb dX5_feed_36 ?_
    obtain ⟨M4, eM4⟩ : ∃ z, z = z_us M3 51 ((M3 51 0) + 1) := ⟨_, rfl⟩
    have h := h M4 eM4
    refine z_mputs (j := 51) (ty := .int) X hB q3261 rfl (Nat.le_of_ble_eq_true rfl) rfl rfl rfl rfl (Or.inl rfl) rfl dX5_feed_37 (fun H locs hB => ?_)
    rw [← eM4] at hB
    refine lv_aload_n hx hb dX5_feed_40 rfl (lv_at hl 0 rfl) ?_
    refine z_mgets (j := 51) X hB q3261 rfl (Nat.le_of_ble_eq_true rfl) rfl rfl dX5_feed_41 ?_
    obtain ⟨hL, I, hB, hM⟩ := hB
    exact z_iret X hB ⟨_, rfl, (by rw [hM]; exact h), rfl, rfl⟩ (Nat.le_refl 0) (Nat.le_refl 0) dX5_feed_44
  · have h := h.2 c1
    refine lv_aload_n hx hb dX5_feed_9 rfl (lv_at hl 0 rfl) ?_
    refine lv_iconst (v := 1) hx hb dX5_feed_10 (by decide) ?_
    refine z_mcalli (fun _ h => h) (fun I1 hB1 hM => z_runV (rest := []) [.int 1] pk_X5_fails (met_X5_fails hB.1 hM 1 _ h) X hB1 (by decide) q3472 kc_X5 (by decide) (by rw [hB.1.1]) rfl hl.1 (Nat.le_of_ble_eq_true rfl) dX5_feed_11 (Nat.le_refl 0) (Nat.le_refl 0) (by decide) (by decide)) hB (fun r5 M6 H locs h hB => ?_)
    obtain ⟨hL, I, hB, hM⟩ := hB
    exact z_iret X hB ⟨_, rfl, (by rw [hM]; exact h), rfl, rfl⟩ (Nat.le_refl 0) (Nat.le_refl 0) dX5_feed_14
theorem pk_X5_feed : z_PV RX5 yX5_feed cX5_feed 2 (some .int) 1 := ⟨q3665, q3666, q131, q3667, by decide +kernel⟩
theorem met_X5_feed {l : Launch} {G : z_E} {T : z_T} {I : z_I} {Q : z_Q} {o : Nat} {b : Nat → Nat} {M : z_M} (hL : z_lie T Q o b) (hM : z_of I o b = M) (x1 : Int32) (Qk : Int32 → z_M → Prop) (h : wp_X5_feed M x1 Qk) : z_GM l G yX5_feed (ws_ yX5_feed cX5_feed 2 (some .int)) 9 141 0 0 [.ref o, .int x1] z_P1c T I Q (z_mi Qk T Q o b) z_no := by
  refine z_body (own := RX5) (nm := "feed") (by decide +kernel) rfl rfl (Nat.le_of_ble_eq_true rfl) (fun p e R s m below meth c A ls X hB hl => ?_)
  exact ww_X5_feed_0 X ⟨hL, I, hB, hM⟩ hl h
/-! X5_does -/
theorem ww_X5_does_274 {Qk : Int32 → z_M → Prop} (X : z_XM l G A p R s m args meth c cX5_does 4 "does" (some .boolean) 17 326) {M : z_M} {H : Heap} {locs : List Loc} {ls : Array Slot} (hB : z_MB G z_P1c A s.heap T I0 Q o b M H locs) (hl : lv_has ls 4 []) (h : wb_X5_does_274 Qk M) : W p l e R s m args below meth c H locs 0 0 (z_MQ below G z_P1c A T I0 Q (z_mz Qk T Q o b) z_no args s 0 0) (F0 m 274 ls []) := by
  obtain ⟨hx, hb, -⟩ := id X
  unfold wb_X5_does_274 at h
  refine lv_iconst (v := 1) hx hb dX5_does_274 (by decide) ?_
  obtain ⟨hL, I, hB, hM⟩ := hB
  exact z_zret X hB (Or.inr rfl) ⟨_, rfl, (Or.inr rfl), (by rw [hM]; exact h), rfl, rfl⟩ (Nat.le_refl 0) (Nat.le_refl 0) dX5_does_275
theorem wv_X5_does_151 {Qk : Int32 → z_M → Prop} (X : z_XM l G A p R s m args meth c cX5_does 4 "does" (some .boolean) 17 326) : ∀ (n : Nat) {M : z_M} {x2 : Int32} {x3 : Int32} {H : Heap} {locs : List Loc} {ls : Array Slot}, z_MB G z_P1c A s.heap T I0 Q o b M H locs → lv_has ls 4 [(0, .ref o), (2, .int x2), (3, .int x3)] → wl_X5_does_151 Qk n M x2 x3 → W p l e R s m args below meth c H locs 0 0 (z_MQ below G z_P1c A T I0 Q (z_mz Qk T Q o b) z_no args s 0 0) (F0 m 151 ls []) := by
  intro n
  induction n with
  | zero =>
    intro M x2 x3 H locs ls hB hl h
    exact h.elim
  | succ n ih =>
    intro M x2 x3 H locs ls hB hl h
    obtain ⟨hx, hb, -⟩ := id X
    unfold wl_X5_does_151 at h
    refine lv_iload_n hx hb dX5_does_151 rfl (lv_at hl 2 rfl) ?_
    refine lv_aload_n hx hb dX5_does_152 rfl (lv_at hl 0 rfl) ?_
    refine z_mgeta (j := 50) X hB q3260 rfl (Nat.le_of_ble_eq_true rfl) rfl (by decide) dX5_does_153 ?_
    refine lv_iload_n hx hb dX5_does_156 rfl (lv_at hl 1 rfl) ?_
    obtain ⟨h1, h⟩ := h
    refine z_mald (f := 50) X hB (by decide) h1 dX5_does_157 ?_
    refine lv_icmp_ge (tgt := 171) hx hb dX5_does_158 (by decide) (fun c17 => ?_) (fun c17 => ?_)
    · have h := h.1 c17
      refine lv_goto (tgt := 274) hx hb dX5_does_171 (by decide) ?_
      exact ww_X5_does_274 X  hB (lv_sub hl [] rfl) h
    · have h := h.2 c17
      refine lv_aload_n hx hb dX5_does_161 rfl (lv_at hl 0 rfl) ?_
      refine z_mcallv (fun _ h => h) (fun I1 hB1 hM => z_runV (rest := []) [] pk_X5_ticks (met_X5_ticks hB.1 hM _ h) X hB1 (by decide) q3549 kc_X5 (by decide) (by rw [hB.1.1]) rfl hl.1 (Nat.le_of_ble_eq_true rfl) dX5_does_162 (Nat.le_refl 0) (Nat.le_refl 0) (by decide) (by decide)) hB (fun M19 H locs h hB => ?_)
      obtain ⟨y20, ey20⟩ : ∃ z : Int32, z = x3 + 1 := ⟨_, rfl⟩
      have h := h y20 ey20
      refine lv_iinc (v := y20) (lv' := [(3, .int y20), (0, .ref o), (2, .int x2)]) hx hb dX5_does_165 hl (k := 2) rfl (by rw [ey20]; rfl) (by decide) rfl (fun ls hl => ?_)
      refine lv_goto (tgt := 151) hx hb dX5_does_168 (by decide) ?_
      exact ih hB (lv_sub hl [1, 2, 0] rfl) h
theorem ww_X5_does_230 {Qk : Int32 → z_M → Prop} (X : z_XM l G A p R s m args meth c cX5_does 4 "does" (some .boolean) 17 326) {M : z_M} {x2 : Int32} {s0 : Int32} {H : Heap} {locs : List Loc} {ls : Array Slot} (hB : z_MB G z_P1c A s.heap T I0 Q o b M H locs) (hl : lv_has ls 4 [(0, .ref o), (2, .int x2)]) (h : wb_X5_does_230 Qk M x2 s0) : W p l e R s m args below meth c H locs 0 0 (z_MQ below G z_P1c A T I0 Q (z_mz Qk T Q o b) z_no args s 0 0) (F0 m 230 ls [.int s0]) := by
  obtain ⟨hx, hb, -⟩ := id X
  unfold wb_X5_does_230 at h
  refine lv_istore_n (lv' := [(3, .int s0), (0, .ref o), (2, .int x2)]) hx hb dX5_does_230 rfl hl (by decide) rfl (fun ls hl => ?_)
  refine lv_aload_n hx hb dX5_does_231 rfl (lv_at hl 1 rfl) ?_
  refine lv_aload_n hx hb dX5_does_232 rfl (lv_at hl 1 rfl) ?_
  refine z_mgeta (j := 50) X hB q3260 rfl (Nat.le_of_ble_eq_true rfl) rfl (by decide) dX5_does_233 ?_
  refine lv_iload_n hx hb dX5_does_236 rfl (lv_at hl 2 rfl) ?_
  obtain ⟨h1, h⟩ := h
  refine z_mald (f := 50) X hB (by decide) h1 dX5_does_237 ?_
  refine lv_aload_n hx hb dX5_does_238 rfl (lv_at hl 1 rfl) ?_
  refine z_mgeta (j := 50) X hB q3260 rfl (Nat.le_of_ble_eq_true rfl) rfl (by decide) dX5_does_239 ?_
  refine lv_iload_n hx hb dX5_does_242 rfl (lv_at hl 2 rfl) ?_
  refine lv_iconst (v := 1) hx hb dX5_does_243 (by decide) ?_
  refine lv_iadd hx hb dX5_does_244 ?_
  obtain ⟨h1, h⟩ := h
  refine z_mald (f := 50) X hB (by decide) h1 dX5_does_245 ?_
  refine lv_iload_n hx hb dX5_does_246 rfl (lv_at hl 0 rfl) ?_
  refine z_mcalli (fun _ h => h) (fun I1 hB1 hM => z_runV (rest := []) [.int (M 50 x2.toNatClampNeg), .int (M 50 (x2 + 1).toNatClampNeg), .int s0] pk_X5_notLocked (met_X5_notLocked hB.1 hM (M 50 x2.toNatClampNeg) (M 50 (x2 + 1).toNatClampNeg) s0 _ h) X hB1 (by decide) q3408 kc_X5 (by decide) (by rw [hB.1.1]) rfl hl.1 (Nat.le_of_ble_eq_true rfl) dX5_does_247 (Nat.le_refl 0) (Nat.le_refl 0) (by decide) (by decide)) hB (fun r21 M22 H locs h hB => ?_)
  obtain ⟨h, eM22⟩ := h
  rw [eM22] at hB
  refine lv_if_le (tgt := 255) hx hb dX5_does_250 (by decide) (fun c23 => ?_) (fun c23 => ?_)
  · have h := h.1 c23
    refine lv_aload_n hx hb dX5_does_255 rfl (lv_at hl 1 rfl) ?_
    refine lv_aload_n hx hb dX5_does_256 rfl (lv_at hl 1 rfl) ?_
    refine z_mgeta (j := 50) X hB q3260 rfl (Nat.le_of_ble_eq_true rfl) rfl (by decide) dX5_does_257 ?_
    refine lv_iload_n hx hb dX5_does_260 rfl (lv_at hl 2 rfl) ?_
    obtain ⟨h1, h⟩ := h
    refine z_mald (f := 50) X hB (by decide) h1 dX5_does_261 ?_
    refine lv_aload_n hx hb dX5_does_262 rfl (lv_at hl 1 rfl) ?_
    refine z_mgeta (j := 50) X hB q3260 rfl (Nat.le_of_ble_eq_true rfl) rfl (by decide) dX5_does_263 ?_
    refine lv_iload_n hx hb dX5_does_266 rfl (lv_at hl 2 rfl) ?_
    refine lv_iconst (v := 1) hx hb dX5_does_267 (by decide) ?_
    refine lv_iadd hx hb dX5_does_268 ?_
    obtain ⟨h1, h⟩ := h
    refine z_mald (f := 50) X hB (by decide) h1 dX5_does_269 ?_
    refine lv_iload_n hx hb dX5_does_270 rfl (lv_at hl 0 rfl) ?_
    refine z_mcallv (fun _ h => h) (fun I1 hB1 hM => z_runV (rest := []) [.int (M 50 x2.toNatClampNeg), .int (M 50 (x2 + 1).toNatClampNeg), .int s0] pk_X5_locks (met_X5_locks hB.1 hM (M 50 x2.toNatClampNeg) (M 50 (x2 + 1).toNatClampNeg) s0 _ h) X hB1 (by decide) q3461 kc_X5 (by decide) (by rw [hB.1.1]) rfl hl.1 (Nat.le_of_ble_eq_true rfl) dX5_does_271 (Nat.le_refl 0) (Nat.le_refl 0) (by decide) (by decide)) hB (fun M25 H locs h hB => ?_)
    exact ww_X5_does_274 X  hB (lv_sub hl [] rfl) h
  · have h := h.2 c23
    refine lv_iconst (v := 0) hx hb dX5_does_253 (by decide) ?_
    obtain ⟨hL, I, hB, hM⟩ := hB
    exact z_zret X hB (Or.inl rfl) ⟨_, rfl, (Or.inl rfl), (by rw [hM]; exact h), rfl, rfl⟩ (Nat.le_refl 0) (Nat.le_refl 0) dX5_does_254
theorem ww_X5_does_225 {Qk : Int32 → z_M → Prop} (X : z_XM l G A p R s m args meth c cX5_does 4 "does" (some .boolean) 17 326) {M : z_M} {x2 : Int32} {H : Heap} {locs : List Loc} {ls : Array Slot} (hB : z_MB G z_P1c A s.heap T I0 Q o b M H locs) (hl : lv_has ls 4 [(0, .ref o), (2, .int x2)]) (h : wb_X5_does_225 Qk M x2) : W p l e R s m args below meth c H locs 0 0 (z_MQ below G z_P1c A T I0 Q (z_mz Qk T Q o b) z_no args s 0 0) (F0 m 225 ls []) := by
  obtain ⟨hx, hb, -⟩ := id X
  unfold wb_X5_does_225 at h
  refine lv_iconst (v := 1) hx hb dX5_does_225 (by decide) ?_
  refine lv_goto (tgt := 230) hx hb dX5_does_226 (by decide) ?_
  exact ww_X5_does_230 X  hB (lv_sub hl [0, 1] rfl) h
theorem ww_X5_does_0 {Qk : Int32 → z_M → Prop} (X : z_XM l G A p R s m args meth c cX5_does 4 "does" (some .boolean) 17 326) {M : z_M} {x1 : Int32} {H : Heap} {locs : List Loc} {ls : Array Slot} (hB : z_MB G z_P1c A s.heap T I0 Q o b M H locs) (hl : lv_has ls 4 [(0, .ref o), (1, .int x1)]) (h : wb_X5_does_0 Qk M x1) : W p l e R s m args below meth c H locs 0 0 (z_MQ below G z_P1c A T I0 Q (z_mz Qk T Q o b) z_no args s 0 0) (F0 m 0 ls []) := by
  obtain ⟨hx, hb, -⟩ := id X
  unfold wb_X5_does_0 at h
  refine lv_bipush (v := 6) hx hb dX5_does_0 (by decide) ?_
  refine lv_iload_n hx hb dX5_does_2 rfl (lv_at hl 1 rfl) ?_
  refine lv_imul hx hb dX5_does_3 ?_
  refine lv_topi (fun y1 ey1 => ?_)
  have h := h y1 ey1
  refine lv_istore_n (lv' := [(2, .int y1), (0, .ref o), (1, .int x1)]) hx hb dX5_does_4 rfl hl (by decide) rfl (fun ls hl => ?_)
  refine lv_aload_n hx hb dX5_does_5 rfl (lv_at hl 1 rfl) ?_
  refine z_mgeta (j := 49) X hB q3259 rfl (Nat.le_of_ble_eq_true rfl) rfl (by decide) dX5_does_6 ?_
  refine lv_iload_n hx hb dX5_does_9 rfl (lv_at hl 2 rfl) ?_
  obtain ⟨h1, h⟩ := h
  refine z_mald (f := 49) X hB (by decide) h1 dX5_does_10 ?_
  refine lv_if_ne (tgt := 122) hx hb dX5_does_11 (by decide) (fun c2 => ?_) (fun c2 => ?_)
  · have h := h.1 c2
    refine lv_aload_n hx hb dX5_does_122 rfl (lv_at hl 1 rfl) ?_
    refine z_mgeta (j := 49) X hB q3259 rfl (Nat.le_of_ble_eq_true rfl) rfl (by decide) dX5_does_123 ?_
    refine lv_iload_n hx hb dX5_does_126 rfl (lv_at hl 2 rfl) ?_
    obtain ⟨h1, h⟩ := h
    refine z_mald (f := 49) X hB (by decide) h1 dX5_does_127 ?_
    refine lv_iconst (v := 1) hx hb dX5_does_128 (by decide) ?_
    refine lv_icmp_ne (tgt := 174) hx hb dX5_does_129 (by decide) (fun c3 => ?_) (fun c3 => ?_)
    · have h := h.1 c3
      refine lv_aload_n hx hb dX5_does_174 rfl (lv_at hl 1 rfl) ?_
      refine z_mgeta (j := 50) X hB q3260 rfl (Nat.le_of_ble_eq_true rfl) rfl (by decide) dX5_does_175 ?_
      refine lv_iload_n hx hb dX5_does_178 rfl (lv_at hl 0 rfl) ?_
      obtain ⟨h1, h⟩ := h
      refine z_mald (f := 50) X hB (by decide) h1 dX5_does_179 ?_
      refine z_mcallzp (fun I1 hB1 hM => z_runS (rest := []) [.int (M 50 y1.toNatClampNeg)] pk_X5_isZone (met_X5_isZone (M 50 y1.toNatClampNeg) _ h) X hB1 (fun h => h) q3412 rfl hl.1 (Nat.le_of_ble_eq_true rfl) dX5_does_180 (Nat.le_refl 0) (Nat.le_refl 0) (by decide) (by decide)) hB (fun r4 H locs hz h hB => ?_)
      have h := h hz
      refine lv_if_eq (tgt := 225) hx hb dX5_does_183 (by decide) (fun c5 => ?_) (fun c5 => ?_)
      · have h := h.1 c5
        exact ww_X5_does_225 X  hB (lv_sub hl [1, 0] rfl) h
      · have h := h.2 c5
        refine lv_aload_n hx hb dX5_does_186 rfl (lv_at hl 1 rfl) ?_
        refine z_mgeta (j := 50) X hB q3260 rfl (Nat.le_of_ble_eq_true rfl) rfl (by decide) dX5_does_187 ?_
        refine lv_iload_n hx hb dX5_does_190 rfl (lv_at hl 0 rfl) ?_
        refine lv_iconst (v := 1) hx hb dX5_does_191 (by decide) ?_
        refine lv_iadd hx hb dX5_does_192 ?_
        obtain ⟨h1, h⟩ := h
        refine z_mald (f := 50) X hB (by decide) h1 dX5_does_193 ?_
        refine z_mcallzp (fun I1 hB1 hM => z_runS (rest := []) [.int (M 50 (y1 + 1).toNatClampNeg)] pk_X5_isZone (met_X5_isZone (M 50 (y1 + 1).toNatClampNeg) _ h) X hB1 (fun h => h) q3412 rfl hl.1 (Nat.le_of_ble_eq_true rfl) dX5_does_194 (Nat.le_refl 0) (Nat.le_refl 0) (by decide) (by decide)) hB (fun r6 H locs hz h hB => ?_)
        have h := h hz
        refine lv_if_eq (tgt := 225) hx hb dX5_does_197 (by decide) (fun c7 => ?_) (fun c7 => ?_)
        · have h := h.1 c7
          exact ww_X5_does_225 X  hB (lv_sub hl [1, 0] rfl) h
        · have h := h.2 c7
          refine lv_aload_n hx hb dX5_does_200 rfl (lv_at hl 1 rfl) ?_
          refine z_mgeta (j := 1) X hB q3211 rfl (Nat.le_of_ble_eq_true rfl) rfl (by decide) dX5_does_201 ?_
          refine lv_aload_n hx hb dX5_does_204 rfl (lv_at hl 1 rfl) ?_
          refine z_mgeta (j := 50) X hB q3260 rfl (Nat.le_of_ble_eq_true rfl) rfl (by decide) dX5_does_205 ?_
          refine lv_iload_n hx hb dX5_does_208 rfl (lv_at hl 0 rfl) ?_
          obtain ⟨h1, h⟩ := h
          refine z_mald (f := 50) X hB (by decide) h1 dX5_does_209 ?_
          obtain ⟨h1, h⟩ := h
          refine z_mald (f := 1) X hB (by decide) h1 dX5_does_210 ?_
          refine lv_aload_n hx hb dX5_does_211 rfl (lv_at hl 1 rfl) ?_
          refine z_mgeta (j := 50) X hB q3260 rfl (Nat.le_of_ble_eq_true rfl) rfl (by decide) dX5_does_212 ?_
          refine lv_iload_n hx hb dX5_does_215 rfl (lv_at hl 0 rfl) ?_
          refine lv_iconst (v := 1) hx hb dX5_does_216 (by decide) ?_
          refine lv_iadd hx hb dX5_does_217 ?_
          obtain ⟨h1, h⟩ := h
          refine z_mald (f := 50) X hB (by decide) h1 dX5_does_218 ?_
          refine z_mcallzp (fun I1 hB1 hM => z_runS (rest := []) [.int (M 1 (M 50 y1.toNatClampNeg).toNatClampNeg), .int (M 50 (y1 + 1).toNatClampNeg)] pk_X5_has (met_X5_has (M 1 (M 50 y1.toNatClampNeg).toNatClampNeg) (M 50 (y1 + 1).toNatClampNeg) _ h) X hB1 (fun h => h) q3434 rfl hl.1 (Nat.le_of_ble_eq_true rfl) dX5_does_219 (Nat.le_refl 0) (Nat.le_refl 0) (by decide) (by decide)) hB (fun r8 H locs hz h hB => ?_)
          have h := h hz
          refine lv_if_ne (tgt := 229) hx hb dX5_does_222 (by decide) (fun c9 => ?_) (fun c9 => ?_)
          · have h := h.1 c9
            refine lv_iconst (v := 0) hx hb dX5_does_229 (by decide) ?_
            exact ww_X5_does_230 X  hB (lv_sub hl [1, 0] rfl) h
          · have h := h.2 c9
            exact ww_X5_does_225 X  hB (lv_sub hl [1, 0] rfl) h
    · have h := h.2 c3
      refine lv_aload_n hx hb dX5_does_132 rfl (lv_at hl 1 rfl) ?_
      refine z_mgeta (j := 50) X hB q3260 rfl (Nat.le_of_ble_eq_true rfl) rfl (by decide) dX5_does_133 ?_
      refine lv_iload_n hx hb dX5_does_136 rfl (lv_at hl 0 rfl) ?_
      obtain ⟨h1, h⟩ := h
      refine z_mald (f := 50) X hB (by decide) h1 dX5_does_137 ?_
      refine lv_iconst (v := 1) hx hb dX5_does_138 (by decide) ?_
      refine lv_bipush (v := 50) hx hb dX5_does_139 (by decide) ?_
      refine z_mcallzp (fun I1 hB1 hM => z_runS (rest := []) [.int (M 50 y1.toNatClampNeg), .int 1, .int 50] pk_X5_isBetween (met_X5_isBetween (M 50 y1.toNatClampNeg) 1 50 _ h) X hB1 (fun h => h) q3415 rfl hl.1 (Nat.le_of_ble_eq_true rfl) dX5_does_141 (Nat.le_refl 0) (Nat.le_refl 0) (by decide) (by decide)) hB (fun r10 H locs hz h hB => ?_)
      have h := h hz
      refine lv_if_ne (tgt := 149) hx hb dX5_does_144 (by decide) (fun c11 => ?_) (fun c11 => ?_)
      · have h := h.1 c11
        refine lv_iconst (v := 0) hx hb dX5_does_149 (by decide) ?_
        refine lv_istore_n (lv' := [(3, .int 0), (2, .int y1), (0, .ref o), (1, .int x1)]) hx hb dX5_does_150 rfl hl (by decide) rfl (fun ls hl => ?_)
        obtain ⟨w, h⟩ := h
        exact wv_X5_does_151 X  w hB (lv_sub hl [2, 1, 0] rfl) h
      · have h := h.2 c11
        refine lv_iconst (v := 0) hx hb dX5_does_147 (by decide) ?_
        obtain ⟨hL, I, hB, hM⟩ := hB
        exact z_zret X hB (Or.inl rfl) ⟨_, rfl, (Or.inl rfl), (by rw [hM]; exact h), rfl, rfl⟩ (Nat.le_refl 0) (Nat.le_refl 0) dX5_does_148
  · have h := h.2 c2
    refine lv_aload_n hx hb dX5_does_14 rfl (lv_at hl 1 rfl) ?_
    refine lv_aload_n hx hb dX5_does_15 rfl (lv_at hl 1 rfl) ?_
    refine z_mgeta (j := 50) X hB q3260 rfl (Nat.le_of_ble_eq_true rfl) rfl (by decide) dX5_does_16 ?_
    refine lv_iload_n hx hb dX5_does_19 rfl (lv_at hl 0 rfl) ?_
    obtain ⟨h1, h⟩ := h
    refine z_mald (f := 50) X hB (by decide) h1 dX5_does_20 ?_
    refine lv_aload_n hx hb dX5_does_21 rfl (lv_at hl 1 rfl) ?_
    refine z_mgeta (j := 50) X hB q3260 rfl (Nat.le_of_ble_eq_true rfl) rfl (by decide) dX5_does_22 ?_
    refine lv_iload_n hx hb dX5_does_25 rfl (lv_at hl 0 rfl) ?_
    refine lv_iconst (v := 1) hx hb dX5_does_26 (by decide) ?_
    refine lv_iadd hx hb dX5_does_27 ?_
    obtain ⟨h1, h⟩ := h
    refine z_mald (f := 50) X hB (by decide) h1 dX5_does_28 ?_
    refine lv_aload_n hx hb dX5_does_29 rfl (lv_at hl 1 rfl) ?_
    refine z_mgeta (j := 50) X hB q3260 rfl (Nat.le_of_ble_eq_true rfl) rfl (by decide) dX5_does_30 ?_
    refine lv_iload_n hx hb dX5_does_33 rfl (lv_at hl 0 rfl) ?_
    refine lv_iconst (v := 2) hx hb dX5_does_34 (by decide) ?_
    refine lv_iadd hx hb dX5_does_35 ?_
    obtain ⟨h1, h⟩ := h
    refine z_mald (f := 50) X hB (by decide) h1 dX5_does_36 ?_
    refine lv_aload_n hx hb dX5_does_37 rfl (lv_at hl 1 rfl) ?_
    refine z_mgeta (j := 50) X hB q3260 rfl (Nat.le_of_ble_eq_true rfl) rfl (by decide) dX5_does_38 ?_
    refine lv_iload_n hx hb dX5_does_41 rfl (lv_at hl 0 rfl) ?_
    refine lv_iconst (v := 3) hx hb dX5_does_42 (by decide) ?_
    refine lv_iadd hx hb dX5_does_43 ?_
    obtain ⟨h1, h⟩ := h
    refine z_mald (f := 50) X hB (by decide) h1 dX5_does_44 ?_
    refine lv_aload_n hx hb dX5_does_45 rfl (lv_at hl 1 rfl) ?_
    refine z_mgeta (j := 50) X hB q3260 rfl (Nat.le_of_ble_eq_true rfl) rfl (by decide) dX5_does_46 ?_
    refine lv_iload_n hx hb dX5_does_49 rfl (lv_at hl 0 rfl) ?_
    refine lv_iconst (v := 4) hx hb dX5_does_50 (by decide) ?_
    refine lv_iadd hx hb dX5_does_51 ?_
    obtain ⟨h1, h⟩ := h
    refine z_mald (f := 50) X hB (by decide) h1 dX5_does_52 ?_
    refine lv_aload_n hx hb dX5_does_53 rfl (lv_at hl 1 rfl) ?_
    refine z_mgeta (j := 50) X hB q3260 rfl (Nat.le_of_ble_eq_true rfl) rfl (by decide) dX5_does_54 ?_
    refine lv_iload_n hx hb dX5_does_57 rfl (lv_at hl 0 rfl) ?_
    refine lv_iconst (v := 5) hx hb dX5_does_58 (by decide) ?_
    refine lv_iadd hx hb dX5_does_59 ?_
    obtain ⟨h1, h⟩ := h
    refine z_mald (f := 50) X hB (by decide) h1 dX5_does_60 ?_
    refine z_mcalli (fun _ h => h) (fun I1 hB1 hM => z_runV (rest := []) [.int (M 50 y1.toNatClampNeg), .int (M 50 (y1 + 1).toNatClampNeg), .int (M 50 (y1 + 2).toNatClampNeg), .int (M 50 (y1 + 3).toNatClampNeg), .int (M 50 (y1 + 4).toNatClampNeg), .int (M 50 (y1 + 5).toNatClampNeg)] pk_X5_notGiven (met_X5_notGiven hB.1 hM (M 50 y1.toNatClampNeg) (M 50 (y1 + 1).toNatClampNeg) (M 50 (y1 + 2).toNatClampNeg) (M 50 (y1 + 3).toNatClampNeg) (M 50 (y1 + 4).toNatClampNeg) (M 50 (y1 + 5).toNatClampNeg) _ h) X hB1 (by decide) q3511 kc_X5 (by decide) (by rw [hB.1.1]) rfl hl.1 (Nat.le_of_ble_eq_true rfl) dX5_does_61 (Nat.le_refl 0) (Nat.le_refl 0) (by decide) (by decide)) hB (fun r12 M13 H locs h hB => ?_)
    obtain ⟨h, eM13⟩ := h
    rw [eM13] at hB
    refine lv_if_le (tgt := 69) hx hb dX5_does_64 (by decide) (fun c14 => ?_) (fun c14 => ?_)
    · have h := h.1 c14
      refine lv_aload_n hx hb dX5_does_69 rfl (lv_at hl 1 rfl) ?_
      refine lv_aload_n hx hb dX5_does_70 rfl (lv_at hl 1 rfl) ?_
      refine z_mgeta (j := 50) X hB q3260 rfl (Nat.le_of_ble_eq_true rfl) rfl (by decide) dX5_does_71 ?_
      refine lv_iload_n hx hb dX5_does_74 rfl (lv_at hl 0 rfl) ?_
      obtain ⟨h1, h⟩ := h
      refine z_mald (f := 50) X hB (by decide) h1 dX5_does_75 ?_
      refine lv_aload_n hx hb dX5_does_76 rfl (lv_at hl 1 rfl) ?_
      refine z_mgeta (j := 50) X hB q3260 rfl (Nat.le_of_ble_eq_true rfl) rfl (by decide) dX5_does_77 ?_
      refine lv_iload_n hx hb dX5_does_80 rfl (lv_at hl 0 rfl) ?_
      refine lv_iconst (v := 1) hx hb dX5_does_81 (by decide) ?_
      refine lv_iadd hx hb dX5_does_82 ?_
      obtain ⟨h1, h⟩ := h
      refine z_mald (f := 50) X hB (by decide) h1 dX5_does_83 ?_
      refine lv_aload_n hx hb dX5_does_84 rfl (lv_at hl 1 rfl) ?_
      refine z_mgeta (j := 50) X hB q3260 rfl (Nat.le_of_ble_eq_true rfl) rfl (by decide) dX5_does_85 ?_
      refine lv_iload_n hx hb dX5_does_88 rfl (lv_at hl 0 rfl) ?_
      refine lv_iconst (v := 2) hx hb dX5_does_89 (by decide) ?_
      refine lv_iadd hx hb dX5_does_90 ?_
      obtain ⟨h1, h⟩ := h
      refine z_mald (f := 50) X hB (by decide) h1 dX5_does_91 ?_
      refine lv_aload_n hx hb dX5_does_92 rfl (lv_at hl 1 rfl) ?_
      refine z_mgeta (j := 50) X hB q3260 rfl (Nat.le_of_ble_eq_true rfl) rfl (by decide) dX5_does_93 ?_
      refine lv_iload_n hx hb dX5_does_96 rfl (lv_at hl 0 rfl) ?_
      refine lv_iconst (v := 3) hx hb dX5_does_97 (by decide) ?_
      refine lv_iadd hx hb dX5_does_98 ?_
      obtain ⟨h1, h⟩ := h
      refine z_mald (f := 50) X hB (by decide) h1 dX5_does_99 ?_
      refine lv_aload_n hx hb dX5_does_100 rfl (lv_at hl 1 rfl) ?_
      refine z_mgeta (j := 50) X hB q3260 rfl (Nat.le_of_ble_eq_true rfl) rfl (by decide) dX5_does_101 ?_
      refine lv_iload_n hx hb dX5_does_104 rfl (lv_at hl 0 rfl) ?_
      refine lv_iconst (v := 4) hx hb dX5_does_105 (by decide) ?_
      refine lv_iadd hx hb dX5_does_106 ?_
      obtain ⟨h1, h⟩ := h
      refine z_mald (f := 50) X hB (by decide) h1 dX5_does_107 ?_
      refine lv_aload_n hx hb dX5_does_108 rfl (lv_at hl 1 rfl) ?_
      refine z_mgeta (j := 50) X hB q3260 rfl (Nat.le_of_ble_eq_true rfl) rfl (by decide) dX5_does_109 ?_
      refine lv_iload_n hx hb dX5_does_112 rfl (lv_at hl 0 rfl) ?_
      refine lv_iconst (v := 5) hx hb dX5_does_113 (by decide) ?_
      refine lv_iadd hx hb dX5_does_114 ?_
      obtain ⟨h1, h⟩ := h
      refine z_mald (f := 50) X hB (by decide) h1 dX5_does_115 ?_
      refine z_mcallv (fun _ h => h) (fun I1 hB1 hM => z_runV (rest := []) [.int (M 50 y1.toNatClampNeg), .int (M 50 (y1 + 1).toNatClampNeg), .int (M 50 (y1 + 2).toNatClampNeg), .int (M 50 (y1 + 3).toNatClampNeg), .int (M 50 (y1 + 4).toNatClampNeg), .int (M 50 (y1 + 5).toNatClampNeg)] pk_X5_gives (met_X5_gives hB.1 hM (M 50 y1.toNatClampNeg) (M 50 (y1 + 1).toNatClampNeg) (M 50 (y1 + 2).toNatClampNeg) (M 50 (y1 + 3).toNatClampNeg) (M 50 (y1 + 4).toNatClampNeg) (M 50 (y1 + 5).toNatClampNeg) _ h) X hB1 (by decide) q3521 kc_X5 (by decide) (by rw [hB.1.1]) rfl hl.1 (Nat.le_of_ble_eq_true rfl) dX5_does_116 (Nat.le_refl 0) (Nat.le_refl 0) (by decide) (by decide)) hB (fun M16 H locs h hB => ?_)
      refine lv_goto (tgt := 274) hx hb dX5_does_119 (by decide) ?_
      exact ww_X5_does_274 X  hB (lv_sub hl [] rfl) h
    · have h := h.2 c14
      refine lv_iconst (v := 0) hx hb dX5_does_67 (by decide) ?_
      obtain ⟨hL, I, hB, hM⟩ := hB
      exact z_zret X hB (Or.inl rfl) ⟨_, rfl, (Or.inl rfl), (by rw [hM]; exact h), rfl, rfl⟩ (Nat.le_refl 0) (Nat.le_refl 0) dX5_does_68
theorem pk_X5_does : z_PV RX5 yX5_does cX5_does 4 (some .boolean) 1 := ⟨q3706, qs92, q131, q3707, by decide +kernel⟩
theorem met_X5_does {l : Launch} {G : z_E} {T : z_T} {I : z_I} {Q : z_Q} {o : Nat} {b : Nat → Nat} {M : z_M} (hL : z_lie T Q o b) (hM : z_of I o b = M) (x1 : Int32) (Qk : Int32 → z_M → Prop) (h : wp_X5_does M x1 Qk) : z_GM l G yX5_does (ws_ yX5_does cX5_does 4 (some .boolean)) 17 326 0 0 [.ref o, .int x1] z_P1c T I Q (z_mz Qk T Q o b) z_no := by
  refine z_body (own := RX5) (nm := "does") (by decide +kernel) rfl rfl (Nat.le_of_ble_eq_true rfl) (fun p e R s m below meth c A ls X hB hl => ?_)
  exact ww_X5_does_0 X ⟨hL, I, hB, hM⟩ hl h
/-! X5_skips -/
theorem ww_X5_skips_24 {Qk : Int32 → z_M → Prop} (X : z_XM l G A p R s m args meth c cX5_skips 2 "skips" (some .boolean) 8 120) {M : z_M} {H : Heap} {locs : List Loc} {ls : Array Slot} (hB : z_MB G z_P1c A s.heap T I0 Q o b M H locs) (hl : lv_has ls 2 []) (h : wb_X5_skips_24 Qk M) : W p l e R s m args below meth c H locs 0 0 (z_MQ below G z_P1c A T I0 Q (z_mz Qk T Q o b) z_no args s 0 0) (F0 m 24 ls []) := by
  obtain ⟨hx, hb, -⟩ := id X
  unfold wb_X5_skips_24 at h
  refine lv_iconst (v := 0) hx hb dX5_skips_24 (by decide) ?_
  obtain ⟨hL, I, hB, hM⟩ := hB
  exact z_zret X hB (Or.inl rfl) ⟨_, rfl, (Or.inl rfl), (by rw [hM]; exact h), rfl, rfl⟩ (Nat.le_refl 0) (Nat.le_refl 0) dX5_skips_25
theorem ww_X5_skips_0 {Qk : Int32 → z_M → Prop} (X : z_XM l G A p R s m args meth c cX5_skips 2 "skips" (some .boolean) 8 120) {M : z_M} {x1 : Int32} {H : Heap} {locs : List Loc} {ls : Array Slot} (hB : z_MB G z_P1c A s.heap T I0 Q o b M H locs) (hl : lv_has ls 2 [(0, .ref o), (1, .int x1)]) (h : wb_X5_skips_0 Qk M x1) : W p l e R s m args below meth c H locs 0 0 (z_MQ below G z_P1c A T I0 Q (z_mz Qk T Q o b) z_no args s 0 0) (F0 m 0 ls []) := by
  obtain ⟨hx, hb, -⟩ := id X
  unfold wb_X5_skips_0 at h
  refine lv_aload_n hx hb dX5_skips_0 rfl (lv_at hl 0 rfl) ?_
  refine z_mgets (j := 52) X hB q3262 rfl (Nat.le_of_ble_eq_true rfl) rfl rfl dX5_skips_1 ?_
  refine lv_aload_n hx hb dX5_skips_4 rfl (lv_at hl 0 rfl) ?_
  refine z_mgets (j := 51) X hB q3261 rfl (Nat.le_of_ble_eq_true rfl) rfl rfl dX5_skips_5 ?_
  refine lv_icmp_eq (tgt := 24) hx hb dX5_skips_8 (by decide) (fun c1 => ?_) (fun c1 => ?_)
  · have h := h.1 c1
    exact ww_X5_skips_24 X  hB (lv_sub hl [] rfl) h
  · have h := h.2 c1
    refine lv_aload_n hx hb dX5_skips_11 rfl (lv_at hl 0 rfl) ?_
    refine z_mgeta (j := 48) X hB q3258 rfl (Nat.le_of_ble_eq_true rfl) rfl (by decide) dX5_skips_12 ?_
    refine lv_aload_n hx hb dX5_skips_15 rfl (lv_at hl 0 rfl) ?_
    refine z_mgets (j := 52) X hB q3262 rfl (Nat.le_of_ble_eq_true rfl) rfl rfl dX5_skips_16 ?_
    obtain ⟨h1, h⟩ := h
    refine z_mald (f := 48) X hB (by decide) h1 dX5_skips_19 ?_
    refine lv_iload_n hx hb dX5_skips_20 rfl (lv_at hl 1 rfl) ?_
    refine lv_icmp_eq (tgt := 26) hx hb dX5_skips_21 (by decide) (fun c2 => ?_) (fun c2 => ?_)
    · have h := h.1 c2
      refine lv_aload_n hx hb dX5_skips_26 rfl (lv_at hl 0 rfl) ?_
      refine lv_dup hx hb dX5_skips_27 rfl ?_
      refine z_mgets (j := 52) X hB q3262 rfl (Nat.le_of_ble_eq_true rfl) rfl rfl dX5_skips_28 ?_
      refine lv_iconst (v := 1) hx hb dX5_skips_31 (by decide) ?_
      refine lv_iadd hx hb dX5_skips_32 ?_
      obtain ⟨M3, eM3⟩ : ∃ z, z = z_us M 52 ((M 52 0) + 1) := ⟨_, rfl⟩
      have h := h M3 eM3
      refine z_mputs (j := 52) (ty := .int) X hB q3262 rfl (Nat.le_of_ble_eq_true rfl) rfl rfl rfl rfl (Or.inl rfl) rfl dX5_skips_33 (fun H locs hB => ?_)
      rw [← eM3] at hB
      refine lv_iconst (v := 1) hx hb dX5_skips_36 (by decide) ?_
      obtain ⟨hL, I, hB, hM⟩ := hB
      exact z_zret X hB (Or.inr rfl) ⟨_, rfl, (Or.inr rfl), (by rw [hM]; exact h), rfl, rfl⟩ (Nat.le_refl 0) (Nat.le_refl 0) dX5_skips_37
    · have h := h.2 c2
      exact ww_X5_skips_24 X  hB (lv_sub hl [] rfl) h
theorem pk_X5_skips : z_PV RX5 yX5_skips cX5_skips 2 (some .boolean) 1 := ⟨q3682, qs86, q131, q3683, by decide +kernel⟩
theorem met_X5_skips {l : Launch} {G : z_E} {T : z_T} {I : z_I} {Q : z_Q} {o : Nat} {b : Nat → Nat} {M : z_M} (hL : z_lie T Q o b) (hM : z_of I o b = M) (x1 : Int32) (Qk : Int32 → z_M → Prop) (h : wp_X5_skips M x1 Qk) : z_GM l G yX5_skips (ws_ yX5_skips cX5_skips 2 (some .boolean)) 8 120 0 0 [.ref o, .int x1] z_P1c T I Q (z_mz Qk T Q o b) z_no := by
  refine z_body (own := RX5) (nm := "skips") (by decide +kernel) rfl rfl (Nat.le_of_ble_eq_true rfl) (fun p e R s m below meth c A ls X hB hl => ?_)
  exact ww_X5_skips_0 X ⟨hL, I, hB, hM⟩ hl h
/-! X5_takes -/
theorem ww_X5_takes_30 {Qk : Int32 → z_M → Prop} (X : z_XM l G A p R s m args meth c cX5_takes 1 "takes" (some .boolean) 9 142) {M : z_M} {H : Heap} {locs : List Loc} {ls : Array Slot} (hB : z_MB G z_P1c A s.heap T I0 Q o b M H locs) (hl : lv_has ls 1 []) (h : wb_X5_takes_30 Qk M) : W p l e R s m args below meth c H locs 0 0 (z_MQ below G z_P1c A T I0 Q (z_mz Qk T Q o b) z_no args s 0 0) (F0 m 30 ls []) := by
  obtain ⟨hx, hb, -⟩ := id X
  unfold wb_X5_takes_30 at h
  refine lv_iconst (v := 0) hx hb dX5_takes_30 (by decide) ?_
  obtain ⟨hL, I, hB, hM⟩ := hB
  exact z_zret X hB (Or.inl rfl) ⟨_, rfl, (Or.inl rfl), (by rw [hM]; exact h), rfl, rfl⟩ (Nat.le_refl 0) (Nat.le_refl 0) dX5_takes_31
theorem ww_X5_takes_0 {Qk : Int32 → z_M → Prop} (X : z_XM l G A p R s m args meth c cX5_takes 1 "takes" (some .boolean) 9 142) {M : z_M} {H : Heap} {locs : List Loc} {ls : Array Slot} (hB : z_MB G z_P1c A s.heap T I0 Q o b M H locs) (hl : lv_has ls 1 [(0, .ref o)]) (h : wb_X5_takes_0 Qk M) : W p l e R s m args below meth c H locs 0 0 (z_MQ below G z_P1c A T I0 Q (z_mz Qk T Q o b) z_no args s 0 0) (F0 m 0 ls []) := by
  obtain ⟨hx, hb, -⟩ := id X
  unfold wb_X5_takes_0 at h
  refine lv_aload_n hx hb dX5_takes_0 rfl (lv_at hl 0 rfl) ?_
  refine z_mgets (j := 52) X hB q3262 rfl (Nat.le_of_ble_eq_true rfl) rfl rfl dX5_takes_1 ?_
  refine lv_aload_n hx hb dX5_takes_4 rfl (lv_at hl 0 rfl) ?_
  refine z_mgets (j := 51) X hB q3261 rfl (Nat.le_of_ble_eq_true rfl) rfl rfl dX5_takes_5 ?_
  refine lv_icmp_eq (tgt := 30) hx hb dX5_takes_8 (by decide) (fun c1 => ?_) (fun c1 => ?_)
  · have h := h.1 c1
    exact ww_X5_takes_30 X  hB (lv_sub hl [] rfl) h
  · have h := h.2 c1
    refine lv_aload_n hx hb dX5_takes_11 rfl (lv_at hl 0 rfl) ?_
    refine z_mgeta (j := 48) X hB q3258 rfl (Nat.le_of_ble_eq_true rfl) rfl (by decide) dX5_takes_12 ?_
    refine lv_aload_n hx hb dX5_takes_15 rfl (lv_at hl 0 rfl) ?_
    refine z_mgets (j := 52) X hB q3262 rfl (Nat.le_of_ble_eq_true rfl) rfl rfl dX5_takes_16 ?_
    obtain ⟨h1, h⟩ := h
    refine z_mald (f := 48) X hB (by decide) h1 dX5_takes_19 ?_
    refine lv_bipush (v := 48) hx hb dX5_takes_20 (by decide) ?_
    refine lv_bipush (v := 57) hx hb dX5_takes_22 (by decide) ?_
    refine z_mcallzp (fun I1 hB1 hM => z_runS (rest := []) [.int (M 48 (M 52 0).toNatClampNeg), .int 48, .int 57] pk_X5_isBetween (met_X5_isBetween (M 48 (M 52 0).toNatClampNeg) 48 57 _ h) X hB1 (fun h => h) q3415 rfl hl.1 (Nat.le_of_ble_eq_true rfl) dX5_takes_24 (Nat.le_refl 0) (Nat.le_refl 0) (by decide) (by decide)) hB (fun r2 H locs hz h hB => ?_)
    have h := h hz
    refine lv_if_ne (tgt := 32) hx hb dX5_takes_27 (by decide) (fun c3 => ?_) (fun c3 => ?_)
    · have h := h.1 c3
      refine lv_aload_n hx hb dX5_takes_32 rfl (lv_at hl 0 rfl) ?_
      refine lv_aload_n hx hb dX5_takes_33 rfl (lv_at hl 0 rfl) ?_
      refine z_mgeta (j := 48) X hB q3258 rfl (Nat.le_of_ble_eq_true rfl) rfl (by decide) dX5_takes_34 ?_
      refine lv_aload_n hx hb dX5_takes_37 rfl (lv_at hl 0 rfl) ?_
      refine z_mgets (j := 52) X hB q3262 rfl (Nat.le_of_ble_eq_true rfl) rfl rfl dX5_takes_38 ?_
      obtain ⟨h1, h⟩ := h
      refine z_mald (f := 48) X hB (by decide) h1 dX5_takes_41 ?_
      refine lv_bipush (v := 48) hx hb dX5_takes_42 (by decide) ?_
      refine lv_isub hx hb dX5_takes_44 ?_
      obtain ⟨M4, eM4⟩ : ∃ z, z = z_us M 54 ((M 48 (M 52 0).toNatClampNeg) - 48) := ⟨_, rfl⟩
      have h := h M4 eM4
      refine z_mputs (j := 54) (ty := .int) X hB q3264 rfl (Nat.le_of_ble_eq_true rfl) rfl rfl rfl rfl (Or.inl rfl) rfl dX5_takes_45 (fun H locs hB => ?_)
      rw [← eM4] at hB
      refine lv_aload_n hx hb dX5_takes_48 rfl (lv_at hl 0 rfl) ?_
      refine lv_dup hx hb dX5_takes_49 rfl ?_
      refine z_mgets (j := 52) X hB q3262 rfl (Nat.le_of_ble_eq_true rfl) rfl rfl dX5_takes_50 ?_
      refine lv_iconst (v := 1) hx hb dX5_takes_53 (by decide) ?_
      refine lv_iadd hx hb dX5_takes_54 ?_
      obtain ⟨M5, eM5⟩ : ∃ z, z = z_us M4 52 ((M4 52 0) + 1) := ⟨_, rfl⟩
      have h := h M5 eM5
      refine z_mputs (j := 52) (ty := .int) X hB q3262 rfl (Nat.le_of_ble_eq_true rfl) rfl rfl rfl rfl (Or.inl rfl) rfl dX5_takes_55 (fun H locs hB => ?_)
      rw [← eM5] at hB
      refine lv_iconst (v := 1) hx hb dX5_takes_58 (by decide) ?_
      obtain ⟨hL, I, hB, hM⟩ := hB
      exact z_zret X hB (Or.inr rfl) ⟨_, rfl, (Or.inr rfl), (by rw [hM]; exact h), rfl, rfl⟩ (Nat.le_refl 0) (Nat.le_refl 0) dX5_takes_59
    · have h := h.2 c3
      exact ww_X5_takes_30 X  hB (lv_sub hl [] rfl) h
theorem pk_X5_takes : z_PV RX5 yX5_takes cX5_takes 1 (some .boolean) 0 := ⟨q3694, qs89, q131, q3695, by decide +kernel⟩
theorem met_X5_takes {l : Launch} {G : z_E} {T : z_T} {I : z_I} {Q : z_Q} {o : Nat} {b : Nat → Nat} {M : z_M} (hL : z_lie T Q o b) (hM : z_of I o b = M) (Qk : Int32 → z_M → Prop) (h : wp_X5_takes M Qk) : z_GM l G yX5_takes (ws_ yX5_takes cX5_takes 1 (some .boolean)) 9 142 0 0 [.ref o] z_P1c T I Q (z_mz Qk T Q o b) z_no := by
  refine z_body (own := RX5) (nm := "takes") (by decide +kernel) rfl rfl (Nat.le_of_ble_eq_true rfl) (fun p e R s m below meth c A ls X hB hl => ?_)
  exact ww_X5_takes_0 X ⟨hL, I, hB, hM⟩ hl h
/-! X5_takesAt -/
theorem ww_X5_takesAt_0 {Qk : Int32 → z_M → Prop} (X : z_XM l G A p R s m args meth c cX5_takesAt 2 "takesAt" (some .boolean) 10 162) {M : z_M} {x1 : Int32} {H : Heap} {locs : List Loc} {ls : Array Slot} (hB : z_MB G z_P1c A s.heap T I0 Q o b M H locs) (hl : lv_has ls 2 [(0, .ref o), (1, .int x1)]) (h : wb_X5_takesAt_0 Qk M x1) : W p l e R s m args below meth c H locs 0 0 (z_MQ below G z_P1c A T I0 Q (z_mz Qk T Q o b) z_no args s 0 0) (F0 m 0 ls []) := by
  obtain ⟨hx, hb, -⟩ := id X
  unfold wb_X5_takesAt_0 at h
  refine lv_aload_n hx hb dX5_takesAt_0 rfl (lv_at hl 0 rfl) ?_
  refine z_mcallz (fun _ h => h) (fun I1 hB1 hM => z_runV (rest := []) [] pk_X5_takes (met_X5_takes hB.1 hM _ h) X hB1 (by decide) q3692 kc_X5 (by decide) (by rw [hB.1.1]) rfl hl.1 (Nat.le_of_ble_eq_true rfl) dX5_takesAt_1 (Nat.le_refl 0) (Nat.le_refl 0) (by decide) (by decide)) hB (fun r1 M2 H locs hz h hB => ?_)
  have h := h hz
  refine lv_if_ne (tgt := 9) hx hb dX5_takesAt_4 (by decide) (fun c3 => ?_) (fun c3 => ?_)
  · have h := h.1 c3
    refine lv_aload_n hx hb dX5_takesAt_9 rfl (lv_at hl 0 rfl) ?_
    refine z_mgeta (j := 50) X hB q3260 rfl (Nat.le_of_ble_eq_true rfl) rfl (by decide) dX5_takesAt_10 ?_
    refine lv_bipush (v := 6) hx hb dX5_takesAt_13 (by decide) ?_
    refine lv_aload_n hx hb dX5_takesAt_15 rfl (lv_at hl 0 rfl) ?_
    refine z_mgets (j := 53) X hB q3263 rfl (Nat.le_of_ble_eq_true rfl) rfl rfl dX5_takesAt_16 ?_
    refine lv_imul hx hb dX5_takesAt_19 ?_
    refine lv_iload_n hx hb dX5_takesAt_20 rfl (lv_at hl 1 rfl) ?_
    refine lv_iadd hx hb dX5_takesAt_21 ?_
    refine lv_aload_n hx hb dX5_takesAt_22 rfl (lv_at hl 0 rfl) ?_
    refine z_mgets (j := 54) X hB q3264 rfl (Nat.le_of_ble_eq_true rfl) rfl rfl dX5_takesAt_23 ?_
    obtain ⟨h1, h⟩ := h
    obtain ⟨M4, eM4⟩ : ∃ z, z = z_up M2 50 ((6 * (M2 53 0)) + x1).toNatClampNeg (M2 54 0) := ⟨_, rfl⟩
    have h := h M4 eM4
    refine z_mast (P := z_P1c) (f := 50) rfl X hB (by decide) h1 dX5_takesAt_26 (fun H locs hB => ?_)
    rw [← eM4] at hB
    refine lv_iconst (v := 1) hx hb dX5_takesAt_27 (by decide) ?_
    obtain ⟨hL, I, hB, hM⟩ := hB
    exact z_zret X hB (Or.inr rfl) ⟨_, rfl, (Or.inr rfl), (by rw [hM]; exact h), rfl, rfl⟩ (Nat.le_refl 0) (Nat.le_refl 0) dX5_takesAt_28
  · have h := h.2 c3
    refine lv_iconst (v := 0) hx hb dX5_takesAt_7 (by decide) ?_
    obtain ⟨hL, I, hB, hM⟩ := hB
    exact z_zret X hB (Or.inl rfl) ⟨_, rfl, (Or.inl rfl), (by rw [hM]; exact h), rfl, rfl⟩ (Nat.le_refl 0) (Nat.le_refl 0) dX5_takesAt_8
theorem pk_X5_takesAt : z_PV RX5 yX5_takesAt cX5_takesAt 2 (some .boolean) 1 := ⟨q3690, qs88, q131, q3691, by decide +kernel⟩
theorem met_X5_takesAt {l : Launch} {G : z_E} {T : z_T} {I : z_I} {Q : z_Q} {o : Nat} {b : Nat → Nat} {M : z_M} (hL : z_lie T Q o b) (hM : z_of I o b = M) (x1 : Int32) (Qk : Int32 → z_M → Prop) (h : wp_X5_takesAt M x1 Qk) : z_GM l G yX5_takesAt (ws_ yX5_takesAt cX5_takesAt 2 (some .boolean)) 10 162 0 0 [.ref o, .int x1] z_P1c T I Q (z_mz Qk T Q o b) z_no := by
  refine z_body (own := RX5) (nm := "takesAt") (by decide +kernel) rfl rfl (Nat.le_of_ble_eq_true rfl) (fun p e R s m below meth c A ls X hB hl => ?_)
  exact ww_X5_takesAt_0 X ⟨hL, I, hB, hM⟩ hl h
/-! X5_takesPath -/
theorem ww_X5_takesPath_59 {Qk : Int32 → z_M → Prop} (X : z_XM l G A p R s m args meth c cX5_takesPath 3 "takesPath" (some .boolean) 10 162) {M : z_M} {x1 : Int32} {H : Heap} {locs : List Loc} {ls : Array Slot} (hB : z_MB G z_P1c A s.heap T I0 Q o b M H locs) (hl : lv_has ls 3 [(0, .ref o), (1, .int x1)]) (h : wb_X5_takesPath_59 Qk M x1) : W p l e R s m args below meth c H locs 0 0 (z_MQ below G z_P1c A T I0 Q (z_mz Qk T Q o b) z_no args s 0 0) (F0 m 59 ls []) := by
  obtain ⟨hx, hb, -⟩ := id X
  unfold wb_X5_takesPath_59 at h
  refine lv_aload_n hx hb dX5_takesPath_59 rfl (lv_at hl 0 rfl) ?_
  refine z_mgeta (j := 50) X hB q3260 rfl (Nat.le_of_ble_eq_true rfl) rfl (by decide) dX5_takesPath_60 ?_
  refine lv_bipush (v := 6) hx hb dX5_takesPath_63 (by decide) ?_
  refine lv_aload_n hx hb dX5_takesPath_65 rfl (lv_at hl 0 rfl) ?_
  refine z_mgets (j := 53) X hB q3263 rfl (Nat.le_of_ble_eq_true rfl) rfl rfl dX5_takesPath_66 ?_
  refine lv_imul hx hb dX5_takesPath_69 ?_
  refine lv_iconst (v := 1) hx hb dX5_takesPath_70 (by decide) ?_
  refine lv_iadd hx hb dX5_takesPath_71 ?_
  refine lv_iload_n hx hb dX5_takesPath_72 rfl (lv_at hl 1 rfl) ?_
  obtain ⟨h1, h⟩ := h
  obtain ⟨M11, eM11⟩ : ∃ z, z = z_up M 50 ((6 * (M 53 0)) + 1).toNatClampNeg x1 := ⟨_, rfl⟩
  have h := h M11 eM11
  refine z_mast (P := z_P1c) (f := 50) rfl X hB (by decide) h1 dX5_takesPath_73 (fun H locs hB => ?_)
  rw [← eM11] at hB
  refine lv_iconst (v := 1) hx hb dX5_takesPath_74 (by decide) ?_
  obtain ⟨hL, I, hB, hM⟩ := hB
  exact z_zret X hB (Or.inr rfl) ⟨_, rfl, (Or.inr rfl), (by rw [hM]; exact h), rfl, rfl⟩ (Nat.le_refl 0) (Nat.le_refl 0) dX5_takesPath_75
theorem ww_X5_takesPath_41 {k4 : z_M → Int32 → Int32 → Prop} {Qk : Int32 → z_M → Prop} (X : z_XM l G A p R s m args meth c cX5_takesPath 3 "takesPath" (some .boolean) 10 162) (hk4 : ∀ {M : z_M} {x1 : Int32} {x2 : Int32} {H : Heap} {locs : List Loc} {ls : Array Slot}, z_MB G z_P1c A s.heap T I0 Q o b M H locs → lv_has ls 3 [(0, .ref o), (1, .int x1), (2, .int x2)] → k4 M x1 x2 → W p l e R s m args below meth c H locs 0 0 (z_MQ below G z_P1c A T I0 Q (z_mz Qk T Q o b) z_no args s 0 0) (F0 m 4 ls [])) {M : z_M} {x2 : Int32} {s0 : Int32} {H : Heap} {locs : List Loc} {ls : Array Slot} (hB : z_MB G z_P1c A s.heap T I0 Q o b M H locs) (hl : lv_has ls 3 [(0, .ref o), (2, .int x2)]) (h : wb_X5_takesPath_41 k4 Qk M x2 s0) : W p l e R s m args below meth c H locs 0 0 (z_MQ below G z_P1c A T I0 Q (z_mz Qk T Q o b) z_no args s 0 0) (F0 m 41 ls [.int s0]) := by
  obtain ⟨hx, hb, -⟩ := id X
  unfold wb_X5_takesPath_41 at h
  refine lv_istore_n (lv' := [(1, .int s0), (0, .ref o), (2, .int x2)]) hx hb dX5_takesPath_41 rfl hl (by decide) rfl (fun ls hl => ?_)
  obtain ⟨y6, ey6⟩ : ∃ z : Int32, z = x2 + 1 := ⟨_, rfl⟩
  have h := h y6 ey6
  refine lv_iinc (v := y6) (lv' := [(2, .int y6), (1, .int s0), (0, .ref o)]) hx hb dX5_takesPath_42 hl (k := 2) rfl (by rw [ey6]; rfl) (by decide) rfl (fun ls hl => ?_)
  refine lv_iload_n hx hb dX5_takesPath_45 rfl (lv_at hl 0 rfl) ?_
  refine lv_iconst (v := 5) hx hb dX5_takesPath_46 (by decide) ?_
  refine lv_icmp_ge (tgt := 59) hx hb dX5_takesPath_47 (by decide) (fun c7 => ?_) (fun c7 => ?_)
  · have h := h.1 c7
    exact ww_X5_takesPath_59 X  hB (lv_sub hl [2, 1] rfl) h
  · have h := h.2 c7
    refine lv_aload_n hx hb dX5_takesPath_50 rfl (lv_at hl 2 rfl) ?_
    refine lv_bipush (v := 44) hx hb dX5_takesPath_51 (by decide) ?_
    refine z_mcallz (fun _ h => h) (fun I1 hB1 hM => z_runV (rest := []) [.int 44] pk_X5_skips (met_X5_skips hB.1 hM 44 _ h) X hB1 (by decide) q3680 kc_X5 (by decide) (by rw [hB.1.1]) rfl hl.1 (Nat.le_of_ble_eq_true rfl) dX5_takesPath_53 (Nat.le_refl 0) (Nat.le_refl 0) (by decide) (by decide)) hB (fun r8 M9 H locs hz h hB => ?_)
    have h := h hz
    refine lv_if_ne (tgt := 4) hx hb dX5_takesPath_56 (by decide) (fun c10 => ?_) (fun c10 => ?_)
    · have h := h.1 c10
      exact hk4 hB (lv_sub hl [2, 1, 0] rfl) h
    · have h := h.2 c10
      exact ww_X5_takesPath_59 X  hB (lv_sub hl [2, 1] rfl) h
theorem ww_X5_takesPath_26 {k4 : z_M → Int32 → Int32 → Prop} {Qk : Int32 → z_M → Prop} (X : z_XM l G A p R s m args meth c cX5_takesPath 3 "takesPath" (some .boolean) 10 162) (hk4 : ∀ {M : z_M} {x1 : Int32} {x2 : Int32} {H : Heap} {locs : List Loc} {ls : Array Slot}, z_MB G z_P1c A s.heap T I0 Q o b M H locs → lv_has ls 3 [(0, .ref o), (1, .int x1), (2, .int x2)] → k4 M x1 x2 → W p l e R s m args below meth c H locs 0 0 (z_MQ below G z_P1c A T I0 Q (z_mz Qk T Q o b) z_no args s 0 0) (F0 m 4 ls [])) {M : z_M} {x2 : Int32} {H : Heap} {locs : List Loc} {ls : Array Slot} (hB : z_MB G z_P1c A s.heap T I0 Q o b M H locs) (hl : lv_has ls 3 [(0, .ref o), (2, .int x2)]) (h : wb_X5_takesPath_26 k4 Qk M x2) : W p l e R s m args below meth c H locs 0 0 (z_MQ below G z_P1c A T I0 Q (z_mz Qk T Q o b) z_no args s 0 0) (F0 m 26 ls []) := by
  obtain ⟨hx, hb, -⟩ := id X
  unfold wb_X5_takesPath_26 at h
  refine lv_iconst (v := (-1)) hx hb dX5_takesPath_26 (by decide) ?_
  refine lv_goto (tgt := 41) hx hb dX5_takesPath_27 (by decide) ?_
  exact ww_X5_takesPath_41 X hk4 hB (lv_sub hl [0, 1] rfl) h
theorem wv_X5_takesPath_4 {Qk : Int32 → z_M → Prop} (X : z_XM l G A p R s m args meth c cX5_takesPath 3 "takesPath" (some .boolean) 10 162) : ∀ (n : Nat) {M : z_M} {x1 : Int32} {x2 : Int32} {H : Heap} {locs : List Loc} {ls : Array Slot}, z_MB G z_P1c A s.heap T I0 Q o b M H locs → lv_has ls 3 [(0, .ref o), (1, .int x1), (2, .int x2)] → wl_X5_takesPath_4 Qk n M x1 x2 → W p l e R s m args below meth c H locs 0 0 (z_MQ below G z_P1c A T I0 Q (z_mz Qk T Q o b) z_no args s 0 0) (F0 m 4 ls []) := by
  intro n
  induction n with
  | zero =>
    intro M x1 x2 H locs ls hB hl h
    exact h.elim
  | succ n ih =>
    intro M x1 x2 H locs ls hB hl h
    obtain ⟨hx, hb, -⟩ := id X
    unfold wl_X5_takesPath_4 at h
    refine lv_aload_n hx hb dX5_takesPath_4 rfl (lv_at hl 0 rfl) ?_
    refine z_mcallz (fun _ h => h) (fun I1 hB1 hM => z_runV (rest := []) [] pk_X5_takes (met_X5_takes hB.1 hM _ h) X hB1 (by decide) q3692 kc_X5 (by decide) (by rw [hB.1.1]) rfl hl.1 (Nat.le_of_ble_eq_true rfl) dX5_takesPath_5 (Nat.le_refl 0) (Nat.le_refl 0) (by decide) (by decide)) hB (fun r1 M2 H locs hz h hB => ?_)
    have h := h hz
    refine lv_if_ne (tgt := 13) hx hb dX5_takesPath_8 (by decide) (fun c3 => ?_) (fun c3 => ?_)
    · have h := h.1 c3
      refine lv_iload_n hx hb dX5_takesPath_13 rfl (lv_at hl 1 rfl) ?_
      refine lv_if_lt (tgt := 26) hx hb dX5_takesPath_14 (by decide) (fun c4 => ?_) (fun c4 => ?_)
      · have h := h.1 c4
        exact ww_X5_takesPath_26 X (fun hB hl h => ih hB hl h) hB (lv_sub hl [0, 2] rfl) h
      · have h := h.2 c4
        refine lv_aload_n hx hb dX5_takesPath_17 rfl (lv_at hl 0 rfl) ?_
        refine z_mgets (j := 54) X hB q3264 rfl (Nat.le_of_ble_eq_true rfl) rfl rfl dX5_takesPath_18 ?_
        refine lv_bipush (v := 8) hx hb dX5_takesPath_21 (by decide) ?_
        refine lv_icmp_lt (tgt := 30) hx hb dX5_takesPath_23 (by decide) (fun c5 => ?_) (fun c5 => ?_)
        · have h := h.1 c5
          refine lv_bipush (v := 10) hx hb dX5_takesPath_30 (by decide) ?_
          refine lv_iload_n hx hb dX5_takesPath_32 rfl (lv_at hl 1 rfl) ?_
          refine lv_imul hx hb dX5_takesPath_33 ?_
          refine lv_aload_n hx hb dX5_takesPath_34 rfl (lv_at hl 0 rfl) ?_
          refine z_mgets (j := 54) X hB q3264 rfl (Nat.le_of_ble_eq_true rfl) rfl rfl dX5_takesPath_35 ?_
          refine lv_iadd hx hb dX5_takesPath_38 ?_
          refine lv_iconst (v := 1) hx hb dX5_takesPath_39 (by decide) ?_
          refine lv_iadd hx hb dX5_takesPath_40 ?_
          exact ww_X5_takesPath_41 X (fun hB hl h => ih hB hl h) hB (lv_sub hl [0, 2] rfl) h
        · have h := h.2 c5
          exact ww_X5_takesPath_26 X (fun hB hl h => ih hB hl h) hB (lv_sub hl [0, 2] rfl) h
    · have h := h.2 c3
      refine lv_iconst (v := 0) hx hb dX5_takesPath_11 (by decide) ?_
      obtain ⟨hL, I, hB, hM⟩ := hB
      exact z_zret X hB (Or.inl rfl) ⟨_, rfl, (Or.inl rfl), (by rw [hM]; exact h), rfl, rfl⟩ (Nat.le_refl 0) (Nat.le_refl 0) dX5_takesPath_12
theorem ww_X5_takesPath_0 {Qk : Int32 → z_M → Prop} (X : z_XM l G A p R s m args meth c cX5_takesPath 3 "takesPath" (some .boolean) 10 162) {M : z_M} {H : Heap} {locs : List Loc} {ls : Array Slot} (hB : z_MB G z_P1c A s.heap T I0 Q o b M H locs) (hl : lv_has ls 3 [(0, .ref o)]) (h : wb_X5_takesPath_0 Qk M) : W p l e R s m args below meth c H locs 0 0 (z_MQ below G z_P1c A T I0 Q (z_mz Qk T Q o b) z_no args s 0 0) (F0 m 0 ls []) := by
  obtain ⟨hx, hb, -⟩ := id X
  unfold wb_X5_takesPath_0 at h
  refine lv_iconst (v := 0) hx hb dX5_takesPath_0 (by decide) ?_
  refine lv_istore_n (lv' := [(1, .int 0), (0, .ref o)]) hx hb dX5_takesPath_1 rfl hl (by decide) rfl (fun ls hl => ?_)
  refine lv_iconst (v := 0) hx hb dX5_takesPath_2 (by decide) ?_
  refine lv_istore_n (lv' := [(2, .int 0), (1, .int 0), (0, .ref o)]) hx hb dX5_takesPath_3 rfl hl (by decide) rfl (fun ls hl => ?_)
  obtain ⟨w, h⟩ := h
  exact wv_X5_takesPath_4 X  w hB (lv_sub hl [2, 1, 0] rfl) h
theorem pk_X5_takesPath : z_PV RX5 yX5_takesPath cX5_takesPath 3 (some .boolean) 0 := ⟨q3698, qs90, q131, q3699, by decide +kernel⟩
theorem met_X5_takesPath {l : Launch} {G : z_E} {T : z_T} {I : z_I} {Q : z_Q} {o : Nat} {b : Nat → Nat} {M : z_M} (hL : z_lie T Q o b) (hM : z_of I o b = M) (Qk : Int32 → z_M → Prop) (h : wp_X5_takesPath M Qk) : z_GM l G yX5_takesPath (ws_ yX5_takesPath cX5_takesPath 3 (some .boolean)) 10 162 0 0 [.ref o] z_P1c T I Q (z_mz Qk T Q o b) z_no := by
  refine z_body (own := RX5) (nm := "takesPath") (by decide +kernel) rfl rfl (Nat.le_of_ble_eq_true rfl) (fun p e R s m below meth c A ls X hB hl => ?_)
  exact ww_X5_takesPath_0 X ⟨hL, I, hB, hM⟩ hl h
end
