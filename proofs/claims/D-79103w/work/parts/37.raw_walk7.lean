/-! THE CODE: walks 7 -/
set_option maxRecDepth 100000
section
variable {p : Program} {l : Launch} {e : Env} {R : Room} {s : State} {m : MethodId} {args : Array Value} {below : List Frame} {meth : Method} {c : Code}
variable {G : z_E} {A : Nat → Prop} {T T0 : z_T} {I I0 : z_I} {Q Q0 : z_Q} {mc ms : Nat}
/-! X1_elementAt -/
theorem ww_X1_elementAt_42 {k12 : z_T → z_I → z_Q → Nat → Nat → Int32 → Option Nat → Int32 → Option Nat → Prop} {Qk : Option Nat → z_T → z_I → z_Q → Prop} (X : z_X l G A p R s m args meth c cX1_elementAt 6 RX1 "elementAt" (some (.object "java/lang/Object")) mc ms 12 203) (hk12 : ∀ {cells slots : Nat} {T : z_T} {I : z_I} {Q : z_Q} {kc : Nat} {ks : Nat} {x1 : Int32} {x2 : Option Nat} {x3 : Int32} {x4 : Option Nat} {H : Heap} {locs : List Loc} {ls : Array Slot}, z_HB G z_PR A s.heap T0 I0 Q0 T I Q H locs → cells + kc ≤ mc → slots + ks ≤ ms → lv_has ls 6 [(1, .int x1), (2, va_rf x2), (3, .int x3), (4, va_rf x4)] → k12 T I Q kc ks x1 x2 x3 x4 → W p l e R s m args below meth c H locs cells slots (z_MQ below G z_PR A T0 I0 Q0 (z_qr Qk) z_no args s mc ms) (F0 m 12 ls [])) {cells slots : Nat} {T : z_T} {I : z_I} {Q : z_Q} {kc : Nat} {ks : Nat} {x1 : Int32} {x3 : Int32} {x4 : Option Nat} {s0 : Option Nat} {H : Heap} {locs : List Loc} {ls : Array Slot} (hB : z_HB G z_PR A s.heap T0 I0 Q0 T I Q H locs) (hK1 : cells + kc ≤ mc) (hK2 : slots + ks ≤ ms) (hl : lv_has ls 6 [(1, .int x1), (3, .int x3), (4, va_rf x4)]) (h : wb_X1_elementAt_42 k12 Qk T I Q kc ks x1 x3 x4 s0) : W p l e R s m args below meth c H locs cells slots (z_MQ below G z_PR A T0 I0 Q0 (z_qr Qk) z_no args s mc ms) (F0 m 42 ls [va_rf s0]) := by
  obtain ⟨hx, hb, -⟩ := id X
  unfold wb_X1_elementAt_42 at h
  refine z_astore_n (x := s0) (lv' := [(2, va_rf s0), (1, .int x1), (3, .int x3), (4, va_rf x4)]) hx hb dX1_elementAt_42 rfl hl (by decide) rfl (fun ls hl9 => ?_)
  replace hl := hl9
  clear hl9
  obtain ⟨y18, ey18⟩ : ∃ z : Int32, z = x3 + 1 := ⟨_, rfl⟩
  replace h := h y18 ey18
  refine lv_iinc (v := y18) (lv' := [(3, .int y18), (2, va_rf s0), (1, .int x1), (4, va_rf x4)]) hx hb dX1_elementAt_43 hl (k := 2) rfl (by rw [ey18]; rfl) (by decide) (by simp [z_cat, z_rfs, z_catq]) (fun ls hl9 => ?_)
  replace hl := hl9
  clear hl9
  refine lv_goto (tgt := 12) hx hb dX1_elementAt_46 (by decide) ?_
  exact hk12 hB hK1 hK2 (lv_sub hl [2, 1, 0, 3] rfl) h
theorem wv_X1_elementAt_12 {Qk : Option Nat → z_T → z_I → z_Q → Prop} (X : z_X l G A p R s m args meth c cX1_elementAt 6 RX1 "elementAt" (some (.object "java/lang/Object")) mc ms 12 203) : ∀ (n : Nat) {cells slots : Nat} {T : z_T} {I : z_I} {Q : z_Q} {kc : Nat} {ks : Nat} {x1 : Int32} {x2 : Option Nat} {x3 : Int32} {x4 : Option Nat} {H : Heap} {locs : List Loc} {ls : Array Slot}, z_HB G z_PR A s.heap T0 I0 Q0 T I Q H locs → cells + kc ≤ mc → slots + ks ≤ ms → lv_has ls 6 [(1, .int x1), (2, va_rf x2), (3, .int x3), (4, va_rf x4)] → wl_X1_elementAt_12 Qk n T I Q kc ks x1 x2 x3 x4 → W p l e R s m args below meth c H locs cells slots (z_MQ below G z_PR A T0 I0 Q0 (z_qr Qk) z_no args s mc ms) (F0 m 12 ls []) := by
  intro n
  induction n with
  | zero =>
    intro cells slots T I Q kc ks x1 x2 x3 x4 H locs ls hB hK1 hK2 hl h
    exact h.elim
  | succ n ih =>
    intro cells slots T I Q kc ks x1 x2 x3 x4 H locs ls hB hK1 hK2 hl h
    obtain ⟨hx, hb, -⟩ := id X
    unfold wl_X1_elementAt_12 at h
    refine z_aload (x := x4) hx hb dX1_elementAt_12 (lv_at hl 3 rfl) ?_
    obtain ⟨a9, rfl, h⟩ := h
    refine z_call5zp (z_run_itHas (rest := []) h X hB q2621 hl.1 (Nat.le_of_ble_eq_true rfl) dX1_elementAt_14 (z_k4 hK1) (z_k4 hK2) (by decide) (by decide)) hB (fun r10 H locs hz h9 hB => ?_)
    replace h := h9
    clear h9
    replace h := h hz
    refine lv_if_eq (tgt := 49) hx hb dX1_elementAt_19 (by decide) (fun c11 => ?_) (fun c11 => ?_)
    · replace h := h.1 c11
      refine z_aload_n (x := x2) hx hb dX1_elementAt_49 rfl (lv_at hl 1 rfl) ?_
      exact z_aret (v := x2) X (by first | exact Or.inl ⟨_, rfl⟩ | exact Or.inr ⟨_, rfl⟩) hB ⟨_, rfl, h⟩ (z_k3 hK1) (z_k3 hK2) dX1_elementAt_50
    · replace h := h.2 c11
      refine lv_aload (x := a9) hx hb dX1_elementAt_22 (lv_at hl 3 rfl) ?_
      obtain ⟨co13, hco13, h⟩ := h
      refine z_call5r (z_run_itNext (rest := []) h X hB (z_coR0 hco13) q2623 hl.1 (Nat.le_of_ble_eq_true rfl) dX1_elementAt_24 (z_k4 hK1) (z_k4 hK2) (by decide) (by decide)) hB (z_coR hco13) (fun r12 T14 I15 Q16 H locs h9 hF hB => ?_)
      replace h := h9
      clear h9
      replace h := h hF
      refine z_astore (x := r12) (lv' := [(5, va_rf r12), (1, .int x1), (2, va_rf x2), (3, .int x3), (4, .ref a9)]) hx hb dX1_elementAt_29 hl (by decide) rfl (fun ls hl9 => ?_)
      replace hl := hl9
      clear hl9
      refine lv_iload_n hx hb dX1_elementAt_31 rfl (lv_at hl 3 rfl) ?_
      refine lv_iload_n hx hb dX1_elementAt_32 rfl (lv_at hl 1 rfl) ?_
      refine lv_icmp_ne (tgt := 41) hx hb dX1_elementAt_33 (by decide) (fun c17 => ?_) (fun c17 => ?_)
      · replace h := h.1 c17
        refine z_aload_n (x := x2) hx hb dX1_elementAt_41 rfl (lv_at hl 2 rfl) ?_
        exact ww_X1_elementAt_42 X (fun hB hK1 hK2 hl h => ih hB hK1 hK2 hl h) hB hK1 hK2 (lv_sub hl [1, 3, 4] rfl) h
      · replace h := h.2 c17
        refine z_aload (x := r12) hx hb dX1_elementAt_36 (lv_at hl 0 rfl) ?_
        refine lv_goto (tgt := 42) hx hb dX1_elementAt_38 (by decide) ?_
        exact ww_X1_elementAt_42 X (fun hB hK1 hK2 hl h => ih hB hK1 hK2 hl h) hB hK1 hK2 (lv_sub hl [1, 3, 4] rfl) h
theorem ww_X1_elementAt_0 {Qk : Option Nat → z_T → z_I → z_Q → Prop} (X : z_X l G A p R s m args meth c cX1_elementAt 6 RX1 "elementAt" (some (.object "java/lang/Object")) mc ms 12 203) {cells slots : Nat} {T : z_T} {I : z_I} {Q : z_Q} {kc : Nat} {ks : Nat} {x0 : Option Nat} {x1 : Int32} {H : Heap} {locs : List Loc} {ls : Array Slot} (hB : z_HB G z_PR A s.heap T0 I0 Q0 T I Q H locs) (hK1 : cells + kc ≤ mc) (hK2 : slots + ks ≤ ms) (hl : lv_has ls 6 [(0, va_rf x0), (1, .int x1)]) (h : wb_X1_elementAt_0 Qk T I Q kc ks x0 x1) : W p l e R s m args below meth c H locs cells slots (z_MQ below G z_PR A T0 I0 Q0 (z_qr Qk) z_no args s mc ms) (F0 m 0 ls []) := by
  obtain ⟨hx, hb, -⟩ := id X
  unfold wb_X1_elementAt_0 at h
  refine lv_null hx hb dX1_elementAt_0 ?_
  refine z_stk (st' := [va_rf none]) rfl ?_
  refine z_astore_n (x := none) (lv' := [(2, va_rf none), (0, va_rf x0), (1, .int x1)]) hx hb dX1_elementAt_1 rfl hl (by decide) rfl (fun ls hl9 => ?_)
  replace hl := hl9
  clear hl9
  refine lv_iconst (v := 0) hx hb dX1_elementAt_2 (by decide) ?_
  refine lv_istore_n (lv' := [(3, .int 0), (2, va_rf none), (0, va_rf x0), (1, .int x1)]) hx hb dX1_elementAt_3 rfl hl (by decide) rfl (fun ls hl9 => ?_)
  replace hl := hl9
  clear hl9
  refine z_aload_n (x := x0) hx hb dX1_elementAt_4 rfl (lv_at hl 2 rfl) ?_
  obtain ⟨a1, rfl, h⟩ := h
  obtain ⟨hk_a1, h⟩ := h
  obtain ⟨co3, hco3, h⟩ := h
  obtain ⟨kc4, ks5, g1, g2, h⟩ := h
  refine z_call5r (z_runF (rest := []) [] (by simp [z_fw]) q2607 q2189 q128 q2191 (by decide +kernel) (met_J31_iterator co3 a1 kc4 ks5 _ h) X hB (z_coR0 hco3) q2603 kc_J31 (by decide) hk_a1 rfl hl.1 (Nat.le_of_ble_eq_true rfl) dX1_elementAt_5 (z_k1 hK1 g1) (z_k1 hK2 g2) (by decide) (by decide)) hB (z_coR hco3) (fun r2 T6 I7 Q8 H locs h9 hF hB => ?_)
  replace h := h9
  clear h9
  replace h := h hF
  have hk_a1 := z_tk hF hk_a1 (by decide)
  replace hK1 := z_k2 hK1 g1
  replace hK2 := z_k2 hK2 g2
  refine z_astore (x := r2) (lv' := [(4, va_rf r2), (3, .int 0), (2, va_rf none), (0, .ref a1), (1, .int x1)]) hx hb dX1_elementAt_10 hl (by decide) rfl (fun ls hl9 => ?_)
  replace hl := hl9
  clear hl9
  obtain ⟨w, h⟩ := h
  exact wv_X1_elementAt_12 X  w hB hK1 hK2 (lv_sub hl [4, 2, 1, 0] rfl) h
theorem pk_X1_elementAt : z_PS yX1_elementAt cX1_elementAt 6 (some (.object "java/lang/Object")) 2 := ⟨q2600, q94, q2601, by decide +kernel⟩
theorem met_X1_elementAt {l : Launch} {G : z_E} {T : z_T} {I : z_I} {Q : z_Q} (x0 : Option Nat) (x1 : Int32) (kc : Nat) (ks : Nat) (Qk : Option Nat → z_T → z_I → z_Q → Prop) (h : wp_X1_elementAt T I Q x0 x1 kc ks Qk) : z_GM l G yX1_elementAt (ws_ yX1_elementAt cX1_elementAt 6 (some (.object "java/lang/Object"))) 12 203 kc ks [va_rf x0, .int x1] z_PR T I Q (z_qr Qk) z_no := by
  refine z_body (own := RX1) (nm := "elementAt") (by decide +kernel) rfl rfl (by cases x0 <;> exact Nat.le_of_ble_eq_true rfl) (fun p e R s m below meth c A ls X hB hl => ?_)
  replace hl : lv_has ls 6 [(0, va_rf x0), (1, .int x1)] := by cases x0 <;> exact hl
  exact ww_X1_elementAt_0 X hB z_k0 z_k0 hl h
/-! X1_entry -/
theorem ww_X1_entry_0 {o : Nat} {Qk : Int32 → z_T → z_I → z_Q → Prop} {Xk : String → Nat → z_T → z_I → z_Q → Prop} (X : z_X l G A p R s m args meth c cX1_entry 4 RX1 "entry" (some .int) mc ms 13 228) (ho : (T0 o).1 = 1) {cells slots : Nat} {T : z_T} {I : z_I} {Q : z_Q} {kc : Nat} {ks : Nat} {x1 : Int32} {x2 : Int32} {H : Heap} {locs : List Loc} {ls : Array Slot} (hB : z_HB G z_PR A s.heap T0 I0 Q0 T I Q H locs) (hK1 : cells + kc ≤ mc) (hK2 : slots + ks ≤ ms) (hl : lv_has ls 4 [(0, .ref o), (1, .int x1), (2, .int x2)]) (h : wb_X1_entry_0 o Qk Xk T I Q kc ks x1 x2) : W p l e R s m args below meth c H locs cells slots (z_MQ below G z_PR A T0 I0 Q0 (z_qi Qk) Xk args s mc ms) (F0 m 0 ls []) := by
  obtain ⟨hx, hb, -⟩ := id X
  unfold wb_X1_entry_0 at h
  refine lv_iload_n hx hb dX1_entry_0 rfl (lv_at hl 1 rfl) ?_
  refine lv_aload_n (x := o) hx hb dX1_entry_1 rfl (lv_at hl 0 rfl) ?_
  refine z_getq X hB.1 kc_X1 in_X1 (j := 0) (Nat.le_of_ble_eq_true rfl) q1296 (fun _ h => h) rfl (by decide) (z_fo hB ho (by decide)) dX1_entry_2 ?_
  obtain ⟨a1, ea1, h⟩ := h
  refine z_stk (st' := [.ref a1, .int x1]) (by rw [ea1] <;> rfl) ?_
  obtain ⟨hk_a1, h⟩ := h
  refine z_getqN X hB.1 kc_X2 in_X2 (j := 4) (Nat.le_of_ble_eq_true rfl) q1249 (fun _ h => h) rfl (by decide) hk_a1 dX1_entry_5 ?_
  obtain ⟨a2, ea2, h⟩ := h
  refine z_stk (st' := [.ref a2, .int x1]) (by rw [ea2] <;> rfl) ?_
  obtain ⟨hk_a2, h⟩ := h
  refine z_callip (z_runV (rest := [.int x1]) [] pk_J31_size (met_J31_size a2 _ h) X hB (fun h => h) q2499 kc_J31 (by decide) hk_a2 rfl hl.1 (Nat.le_of_ble_eq_true rfl) dX1_entry_8 (z_k4 hK1) (z_k4 hK2) (by decide) (by decide)) hB (fun r3 H locs h9 hB => ?_)
  replace h := h9
  clear h9
  obtain ⟨kc5, ks6, g1, g2, h⟩ := h
  refine z_callXv (z_runS (rest := []) [.int x1, .int r3] pk_X1_checkIndex (met_X1_checkIndex x1 r3 kc5 ks6 _ _ h) X hB hB.2.2.2.2.2.2 q2387 rfl hl.1 (Nat.le_of_ble_eq_true rfl) dX1_entry_11 (z_k1 hK1 g1) (z_k1 hK2 g2) (by decide) (by decide)) hB (fun _ h => h) (z_on (by decide +kernel) X (z_k1 hK1 g1) (z_k1 hK2 g2)) (fun T7 I8 Q9 H locs h9 hF hB => ?_)
  replace h := h9
  clear h9
  replace h := h hF
  replace hK1 := z_k2 hK1 g1
  replace hK2 := z_k2 hK2 g2
  refine lv_iload_n hx hb dX1_entry_14 rfl (lv_at hl 2 rfl) ?_
  refine lv_iconst (v := 0) hx hb dX1_entry_15 (by decide) ?_
  refine lv_iconst (v := 3) hx hb dX1_entry_16 (by decide) ?_
  refine z_callzp (z_runS (rest := []) [.int x2, .int 0, .int 3] pk_X1_inRange (met_X1_inRange x2 0 3 _ h) X hB (fun h => h) q2390 rfl hl.1 (Nat.le_of_ble_eq_true rfl) dX1_entry_17 (z_k4 hK1) (z_k4 hK2) (by decide) (by decide)) hB (fun r10 H locs hz h9 hB => ?_)
  replace h := h9
  clear h9
  replace h := h hz
  obtain ⟨kc12, ks13, g1, g2, h⟩ := h
  refine z_callXv (z_runS (rest := []) [.int r10] pk_X1_checkArgument (met_X1_checkArgument r10 kc12 ks13 _ _ h) X hB hB.2.2.2.2.2.2 q2408 rfl hl.1 (Nat.le_of_ble_eq_true rfl) dX1_entry_20 (z_k1 hK1 g1) (z_k1 hK2 g2) (by decide) (by decide)) hB (fun _ h => h) (z_on (by decide +kernel) X (z_k1 hK1 g1) (z_k1 hK2 g2)) (fun T14 I15 Q16 H locs h9 hF hB => ?_)
  replace h := h9
  clear h9
  replace h := h hF
  replace hK1 := z_k2 hK1 g1
  replace hK2 := z_k2 hK2 g2
  refine lv_aload_n (x := o) hx hb dX1_entry_23 rfl (lv_at hl 0 rfl) ?_
  refine z_getq X hB.1 kc_X1 in_X1 (j := 0) (Nat.le_of_ble_eq_true rfl) q1296 (fun _ h => h) rfl (by decide) (z_fo hB ho (by decide)) dX1_entry_24 ?_
  obtain ⟨a17, ea17, h⟩ := h
  refine z_stk (st' := [.ref a17]) (by rw [ea17] <;> rfl) ?_
  obtain ⟨hk_a17, h⟩ := h
  refine z_getqN X hB.1 kc_X2 in_X2 (j := 4) (Nat.le_of_ble_eq_true rfl) q1249 (fun _ h => h) rfl (by decide) hk_a17 dX1_entry_27 ?_
  refine lv_iload_n hx hb dX1_entry_30 rfl (lv_at hl 1 rfl) ?_
  obtain ⟨kc19, ks20, g1, g2, h⟩ := h
  refine z_callr (z_runS (rest := []) [va_rf (Q16 a17 4), .int x1] pk_X1_elementAt (met_X1_elementAt (Q16 a17 4) x1 kc19 ks20 _ h) X hB hB.2.2.2.2.2.2 q2599 rfl hl.1 (Nat.le_of_ble_eq_true rfl) dX1_entry_31 (z_k1 hK1 g1) (z_k1 hK2 g2) (by decide) (by decide)) hB (fun _ h => h) (fun r18 T21 I22 Q23 H locs h9 hF hB => ?_)
  replace h := h9
  clear h9
  replace h := h hF
  replace hK1 := z_k2 hK1 g1
  replace hK2 := z_k2 hK2 g2
  obtain ⟨h2, h⟩ := h
  refine z_castR X hB.1 kc_X11 (by decide) h2 q2947 (Or.inl rfl) dX1_entry_34 ?_
  refine z_astore_n (x := r18) (lv' := [(3, va_rf r18), (0, .ref o), (1, .int x1), (2, .int x2)]) hx hb dX1_entry_37 rfl hl (by decide) rfl (fun ls hl9 => ?_)
  replace hl := hl9
  clear hl9
  refine z_aload_n (x := r18) hx hb dX1_entry_38 rfl (lv_at hl 0 rfl) ?_
  refine lv_iload_n hx hb dX1_entry_39 rfl (lv_at hl 3 rfl) ?_
  obtain ⟨a24, rfl, h⟩ := h
  obtain ⟨hk_a24, h⟩ := h
  refine z_callip (z_runV (rest := []) [.int x2] pk_X11_part (met_X11_part a24 x2 _ h) X hB (fun h => h) q2948 kc_X11 (by decide) hk_a24 rfl hl.1 (Nat.le_of_ble_eq_true rfl) dX1_entry_40 (z_k4 hK1) (z_k4 hK2) (by decide) (by decide)) hB (fun r25 H locs h9 hB => ?_)
  replace h := h9
  clear h9
  exact z_iret X hB ⟨_, rfl, h⟩ (z_k3 hK1) (z_k3 hK2) dX1_entry_43
theorem pk_X1_entry : z_PV RX1 yX1_entry cX1_entry 4 (some .int) 2 := ⟨q2944, q2945, q94, q2946, by decide +kernel⟩
theorem met_X1_entry {l : Launch} {G : z_E} {T : z_T} {I : z_I} {Q : z_Q} (o : Nat) (x1 : Int32) (x2 : Int32) (kc : Nat) (ks : Nat) (Qk : Int32 → z_T → z_I → z_Q → Prop) (Xk : String → Nat → z_T → z_I → z_Q → Prop) (h : wp_X1_entry T I Q o x1 x2 kc ks Qk Xk) : z_GM l G yX1_entry (ws_ yX1_entry cX1_entry 4 (some .int)) 13 228 kc ks [.ref o, .int x1, .int x2] z_PR T I Q (z_qi Qk) Xk := by
  obtain ⟨ho, h⟩ := h
  refine z_body (own := RX1) (nm := "entry") (by decide +kernel) rfl rfl (Nat.le_of_ble_eq_true rfl) (fun p e R s m below meth c A ls X hB hl => ?_)
  exact ww_X1_entry_0 X ho hB z_k0 z_k0 hl h
/-! X1_checkFound -/
theorem ww_X1_checkFound_0 {Qk : z_T → z_I → z_Q → Prop} {Xk : String → Nat → z_T → z_I → z_Q → Prop} (X : z_X l G A p R s m args meth c cX1_checkFound 1 RX1 "checkFound" none mc ms 8 120) {cells slots : Nat} {T : z_T} {I : z_I} {Q : z_Q} {kc : Nat} {ks : Nat} {x0 : Int32} {H : Heap} {locs : List Loc} {ls : Array Slot} (hB : z_HB G z_PR A s.heap T0 I0 Q0 T I Q H locs) (hK1 : cells + kc ≤ mc) (hK2 : slots + ks ≤ ms) (hl : lv_has ls 1 [(0, .int x0)]) (h : wb_X1_checkFound_0 Qk Xk T I Q kc ks x0) : W p l e R s m args below meth c H locs cells slots (z_MQ below G z_PR A T0 I0 Q0 (z_qv Qk) Xk args s mc ms) (F0 m 0 ls []) := by
  obtain ⟨hx, hb, -⟩ := id X
  unfold wb_X1_checkFound_0 at h
  refine lv_iload_n hx hb dX1_checkFound_0 rfl (lv_at hl 0 rfl) ?_
  refine lv_if_ne (tgt := 12) hx hb dX1_checkFound_1 (by decide) (fun c1 => ?_) (fun c1 => ?_)
  · replace h := h.1 c1
    exact z_vret X hB ⟨rfl, h⟩ (z_k3 hK1) (z_k3 hK2) dX1_checkFound_12
  · replace h := h.2 c1
    obtain ⟨g1, g2, h⟩ := h
    exact z_thr (cls := "java/util/NoSuchElementException") (names := ["java/lang/RuntimeException", "java/lang/Exception"]) (by decide +kernel) X hB (by decide +kernel) (by decide +kernel) q2597 q140 thr_RobotCell_21 hl.1 dX1_checkFound_4 dX1_checkFound_7 dX1_checkFound_8 dX1_checkFound_11 (by decide) (by simp [Value.category]) (z_k1 hK1 g1) (z_k1 hK2 g2) h
theorem pk_X1_checkFound : z_PS yX1_checkFound cX1_checkFound 1 none 1 := ⟨q2595, q94, q2596, by decide +kernel⟩
theorem met_X1_checkFound {l : Launch} {G : z_E} {T : z_T} {I : z_I} {Q : z_Q} (x0 : Int32) (kc : Nat) (ks : Nat) (Qk : z_T → z_I → z_Q → Prop) (Xk : String → Nat → z_T → z_I → z_Q → Prop) (h : wp_X1_checkFound T I Q x0 kc ks Qk Xk) : z_GM l G yX1_checkFound (ws_ yX1_checkFound cX1_checkFound 1 none) 8 120 kc ks [.int x0] z_PR T I Q (z_qv Qk) Xk := by
  refine z_body (own := RX1) (nm := "checkFound") (by decide +kernel) rfl rfl (Nat.le_of_ble_eq_true rfl) (fun p e R s m below meth c A ls X hB hl => ?_)
  exact ww_X1_checkFound_0 X hB z_k0 z_k0 hl h
/-! X1_idleAfter -/
theorem ww_X1_idleAfter_33 {o : Nat} {k14 : z_T → z_I → z_Q → Nat → Nat → Option Nat → Int32 → Prop} {Qk : Int32 → z_T → z_I → z_Q → Prop} {Xk : String → Nat → z_T → z_I → z_Q → Prop} (X : z_X l G A p R s m args meth c cX1_idleAfter 3 RX1 "idleAfter" (some .int) mc ms 26 513) (ho : (T0 o).1 = 1) (hk14 : ∀ {cells slots : Nat} {T : z_T} {I : z_I} {Q : z_Q} {kc : Nat} {ks : Nat} {x1 : Option Nat} {x2 : Int32} {H : Heap} {locs : List Loc} {ls : Array Slot}, z_HB G z_PR A s.heap T0 I0 Q0 T I Q H locs → cells + kc ≤ mc → slots + ks ≤ ms → lv_has ls 3 [(1, va_rf x1), (2, .int x2)] → k14 T I Q kc ks x1 x2 → W p l e R s m args below meth c H locs cells slots (z_MQ below G z_PR A T0 I0 Q0 (z_qi Qk) Xk args s mc ms) (F0 m 14 ls [])) {cells slots : Nat} {T : z_T} {I : z_I} {Q : z_Q} {kc : Nat} {ks : Nat} {x1 : Option Nat} {x2 : Int32} {s0 : Int32} {H : Heap} {locs : List Loc} {ls : Array Slot} (hB : z_HB G z_PR A s.heap T0 I0 Q0 T I Q H locs) (hK1 : cells + kc ≤ mc) (hK2 : slots + ks ≤ ms) (hl : lv_has ls 3 [(1, va_rf x1), (2, .int x2)]) (h : wb_X1_idleAfter_33 G.2.2 o k14 Qk Xk T I Q kc ks x1 x2 s0) : W p l e R s m args below meth c H locs cells slots (z_MQ below G z_PR A T0 I0 Q0 (z_qi Qk) Xk args s mc ms) (F0 m 33 ls [.int s0]) := by
  obtain ⟨hx, hb, -⟩ := id X
  unfold wb_X1_idleAfter_33 at h
  obtain ⟨kc18, ks19, g1, g2, h⟩ := h
  refine z_callXv (z_runS (rest := []) [.int s0] pk_X1_checkFound (met_X1_checkFound s0 kc18 ks19 _ _ h) X hB hB.2.2.2.2.2.2 q2594 rfl hl.1 (Nat.le_of_ble_eq_true rfl) dX1_idleAfter_33 (z_k1 hK1 g1) (z_k1 hK2 g2) (by decide) (by decide)) hB (fun _ h => h) (z_on (by decide +kernel) X (z_k1 hK1 g1) (z_k1 hK2 g2)) (fun T20 I21 Q22 H locs h9 hF hB => ?_)
  replace h := h9
  clear h9
  replace h := h hF
  replace hK1 := z_k2 hK1 g1
  replace hK2 := z_k2 hK2 g2
  refine z_aload_n (x := x1) hx hb dX1_idleAfter_36 rfl (lv_at hl 0 rfl) ?_
  obtain ⟨a23, rfl, h⟩ := h
  obtain ⟨hk_a23, h⟩ := h
  obtain ⟨co25, hco25, h⟩ := h
  obtain ⟨kc26, ks27, g1, g2, h⟩ := h
  refine z_callv (z_runV (rest := []) [] pk_X2_tick (met_X2_tick co25 a23 kc26 ks27 _ h) X hB (z_coR0 hco25) q2783 kc_X2 (by decide) hk_a23 rfl hl.1 (Nat.le_of_ble_eq_true rfl) dX1_idleAfter_37 (z_k1 hK1 g1) (z_k1 hK2 g2) (by decide) (by decide)) hB (z_coR hco25) (fun T28 I29 Q30 H locs h9 hF hB => ?_)
  replace h := h9
  clear h9
  replace h := h hF
  have hk_a23 := z_tk hF hk_a23 (by decide)
  replace hK1 := z_k2 hK1 g1
  replace hK2 := z_k2 hK2 g2
  obtain ⟨y31, ey31⟩ : ∃ z : Int32, z = x2 + 1 := ⟨_, rfl⟩
  replace h := h y31 ey31
  refine lv_iinc (v := y31) (lv' := [(2, .int y31), (1, .ref a23)]) hx hb dX1_idleAfter_40 hl (k := 1) rfl (by rw [ey31]; rfl) (by decide) rfl (fun ls hl9 => ?_)
  replace hl := hl9
  clear hl9
  refine lv_goto (tgt := 14) hx hb dX1_idleAfter_43 (by decide) ?_
  exact hk14 hB hK1 hK2 (lv_sub hl [1, 0] rfl) h
theorem wv_X1_idleAfter_14 {o : Nat} {Qk : Int32 → z_T → z_I → z_Q → Prop} {Xk : String → Nat → z_T → z_I → z_Q → Prop} (X : z_X l G A p R s m args meth c cX1_idleAfter 3 RX1 "idleAfter" (some .int) mc ms 26 513) (ho : (T0 o).1 = 1) : ∀ (n : Nat) {cells slots : Nat} {T : z_T} {I : z_I} {Q : z_Q} {kc : Nat} {ks : Nat} {x1 : Option Nat} {x2 : Int32} {H : Heap} {locs : List Loc} {ls : Array Slot}, z_HB G z_PR A s.heap T0 I0 Q0 T I Q H locs → cells + kc ≤ mc → slots + ks ≤ ms → lv_has ls 3 [(1, va_rf x1), (2, .int x2)] → wl_X1_idleAfter_14 G.2.2 o Qk Xk n T I Q kc ks x1 x2 → W p l e R s m args below meth c H locs cells slots (z_MQ below G z_PR A T0 I0 Q0 (z_qi Qk) Xk args s mc ms) (F0 m 14 ls []) := by
  intro n
  induction n with
  | zero =>
    intro cells slots T I Q kc ks x1 x2 H locs ls hB hK1 hK2 hl h
    exact h.elim
  | succ n ih =>
    intro cells slots T I Q kc ks x1 x2 H locs ls hB hK1 hK2 hl h
    obtain ⟨hx, hb, -⟩ := id X
    unfold wl_X1_idleAfter_14 at h
    refine z_aload_n (x := x1) hx hb dX1_idleAfter_14 rfl (lv_at hl 0 rfl) ?_
    obtain ⟨a13, rfl, h⟩ := h
    obtain ⟨hk_a13, h⟩ := h
    refine z_callzp (z_runV (rest := []) [] pk_X2_isIdle (met_X2_isIdle a13 _ h) X hB (fun h => h) q2935 kc_X2 (by decide) hk_a13 rfl hl.1 (Nat.le_of_ble_eq_true rfl) dX1_idleAfter_15 (z_k4 hK1) (z_k4 hK2) (by decide) (by decide)) hB (fun r14 H locs hz h9 hB => ?_)
    replace h := h9
    clear h9
    replace h := h hz
    refine lv_if_ne (tgt := 46) hx hb dX1_idleAfter_18 (by decide) (fun c15 => ?_) (fun c15 => ?_)
    · replace h := h.1 c15
      refine lv_iload_n hx hb dX1_idleAfter_46 rfl (lv_at hl 1 rfl) ?_
      exact z_iret X hB ⟨_, rfl, h⟩ (z_k3 hK1) (z_k3 hK2) dX1_idleAfter_47
    · replace h := h.2 c15
      refine lv_iload_n hx hb dX1_idleAfter_21 rfl (lv_at hl 1 rfl) ?_
      refine lv_sipush (v := 200) hx hb dX1_idleAfter_22 (by decide) ?_
      refine lv_icmp_ge (tgt := 32) hx hb dX1_idleAfter_25 (by decide) (fun c16 => ?_) (fun c16 => ?_)
      · replace h := h.1 c16
        refine lv_iconst (v := 0) hx hb dX1_idleAfter_32 (by decide) ?_
        exact ww_X1_idleAfter_33 X ho (fun hB hK1 hK2 hl h => ih hB hK1 hK2 hl h) hB hK1 hK2 (lv_sub hl [0, 1] rfl) h
      · replace h := h.2 c16
        refine lv_iconst (v := 1) hx hb dX1_idleAfter_28 (by decide) ?_
        refine lv_goto (tgt := 33) hx hb dX1_idleAfter_29 (by decide) ?_
        exact ww_X1_idleAfter_33 X ho (fun hB hK1 hK2 hl h => ih hB hK1 hK2 hl h) hB hK1 hK2 (lv_sub hl [0, 1] rfl) h
theorem ww_X1_idleAfter_0 {o : Nat} {Qk : Int32 → z_T → z_I → z_Q → Prop} {Xk : String → Nat → z_T → z_I → z_Q → Prop} (X : z_X l G A p R s m args meth c cX1_idleAfter 3 RX1 "idleAfter" (some .int) mc ms 26 513) (ho : (T0 o).1 = 1) {cells slots : Nat} {T : z_T} {I : z_I} {Q : z_Q} {kc : Nat} {ks : Nat} {H : Heap} {locs : List Loc} {ls : Array Slot} (hB : z_HB G z_PR A s.heap T0 I0 Q0 T I Q H locs) (hK1 : cells + kc ≤ mc) (hK2 : slots + ks ≤ ms) (hl : lv_has ls 3 [(0, .ref o)]) (h : wb_X1_idleAfter_0 G.2.2 o Qk Xk T I Q kc ks) : W p l e R s m args below meth c H locs cells slots (z_MQ below G z_PR A T0 I0 Q0 (z_qi Qk) Xk args s mc ms) (F0 m 0 ls []) := by
  obtain ⟨hx, hb, -⟩ := id X
  unfold wb_X1_idleAfter_0 at h
  obtain ⟨co1, hco1, h⟩ := h
  obtain ⟨g1, g2, h⟩ := h
  refine z_new (col := co1) tyX2 X hB kc_X2 in_X2 tyX2_ok q172 q173 q95 (by decide) (z_dvX2) hco1 (z_k1 hK1 g1) (z_k1 hK2 g2) dX1_idleAfter_0 (fun a2 H hq hB => ?_)
  obtain ⟨T3, eT3⟩ : ∃ z, z = z_t T a2 (3, 0, co1) := ⟨_, rfl⟩
  obtain ⟨I4, eI4⟩ : ∃ z, z = z_row I a2 (fun _ => 0) := ⟨_, rfl⟩
  obtain ⟨Q5, eQ5⟩ : ∃ z, z = z_row Q a2 (fun _ => none) := ⟨_, rfl⟩
  rw [← eT3, ← eI4, ← eQ5] at hB
  replace h := h a2 T3 I4 Q5 hq eT3 eI4 eQ5
  have hk_a2 := z_tq eT3
  have hc_a2 : 3 ≤ (T3 a2).2.2 := by rw [z_tqc eT3]; exact hco1
  replace hK1 := z_k2 hK1 g1
  replace hK2 := z_k2 hK2 g2
  refine lv_dup hx hb dX1_idleAfter_3 rfl ?_
  refine lv_aload_n (x := o) hx hb dX1_idleAfter_4 rfl (lv_at hl 0 rfl) ?_
  refine z_getq X hB.1 kc_X1 in_X1 (j := 0) (Nat.le_of_ble_eq_true rfl) q1296 (fun _ h => h) rfl (by decide) (z_fo hB ho (by decide)) dX1_idleAfter_5 ?_
  obtain ⟨co7, hco7, h⟩ := h
  obtain ⟨kc8, ks9, g1, g2, h⟩ := h
  refine z_callv (z_runI (rest := [.ref a2]) [va_rf (Q5 o 0)] pk_X2_init_2 (met_X2_init_2 co7 a2 (Q5 o 0) kc8 ks9 _ h) X hB (z_coR0 hco7) q1627 rfl hl.1 (Nat.le_of_ble_eq_true rfl) dX1_idleAfter_8 (z_k1 hK1 g1) (z_k1 hK2 g2) (by decide) (by decide)) hB (z_coR hco7) (fun T10 I11 Q12 H locs h9 hF hB => ?_)
  replace h := h9
  clear h9
  replace h := h hF
  have hc_a2 : 3 ≤ (T10 a2).2.2 := by rw [z_te hF hk_a2 (by decide)]; exact hc_a2
  have hk_a2 := z_tk hF hk_a2 (by decide)
  replace hK1 := z_k2 hK1 g1
  replace hK2 := z_k2 hK2 g2
  refine lv_astore_n (x := a2) (lv' := [(1, .ref a2), (0, .ref o)]) hx hb dX1_idleAfter_11 rfl hl (by decide) rfl (fun ls hl9 => ?_)
  replace hl := hl9
  clear hl9
  refine lv_iconst (v := 0) hx hb dX1_idleAfter_12 (by decide) ?_
  refine lv_istore_n (lv' := [(2, .int 0), (1, .ref a2), (0, .ref o)]) hx hb dX1_idleAfter_13 rfl hl (by decide) rfl (fun ls hl9 => ?_)
  replace hl := hl9
  clear hl9
  obtain ⟨w, h⟩ := h
  exact wv_X1_idleAfter_14 X ho  w hB hK1 hK2 (lv_sub hl [1, 0] rfl) h
theorem pk_X1_idleAfter : z_PV RX1 yX1_idleAfter cX1_idleAfter 3 (some .int) 0 := ⟨q2932, q2933, q94, q2934, by decide +kernel⟩
theorem met_X1_idleAfter {l : Launch} {G : z_E} {T : z_T} {I : z_I} {Q : z_Q} (o : Nat) (kc : Nat) (ks : Nat) (Qk : Int32 → z_T → z_I → z_Q → Prop) (Xk : String → Nat → z_T → z_I → z_Q → Prop) (h : wp_X1_idleAfter G.2.2 T I Q o kc ks Qk Xk) : z_GM l G yX1_idleAfter (ws_ yX1_idleAfter cX1_idleAfter 3 (some .int)) 26 513 kc ks [.ref o] z_PR T I Q (z_qi Qk) Xk := by
  obtain ⟨ho, h⟩ := h
  refine z_body (own := RX1) (nm := "idleAfter") (by decide +kernel) rfl rfl (Nat.le_of_ble_eq_true rfl) (fun p e R s m below meth c A ls X hB hl => ?_)
  exact ww_X1_idleAfter_0 X ho hB z_k0 z_k0 hl h
/-! X1_endsAfter -/
theorem ww_X1_endsAfter_87 {o : Nat} {k57 : z_T → z_I → z_Q → Nat → Nat → Int32 → Option Nat → Int32 → Prop} {Qk : Int32 → z_T → z_I → z_Q → Prop} {Xk : String → Nat → z_T → z_I → z_Q → Prop} (X : z_X l G A p R s m args meth c cX1_endsAfter 4 RX1 "endsAfter" (some .int) mc ms 26 513) (ho : (T0 o).1 = 1) (hk57 : ∀ {cells slots : Nat} {T : z_T} {I : z_I} {Q : z_Q} {kc : Nat} {ks : Nat} {x1 : Int32} {x2 : Option Nat} {x3 : Int32} {H : Heap} {locs : List Loc} {ls : Array Slot}, z_HB G z_PR A s.heap T0 I0 Q0 T I Q H locs → cells + kc ≤ mc → slots + ks ≤ ms → lv_has ls 4 [(1, .int x1), (2, va_rf x2), (3, .int x3)] → k57 T I Q kc ks x1 x2 x3 → W p l e R s m args below meth c H locs cells slots (z_MQ below G z_PR A T0 I0 Q0 (z_qi Qk) Xk args s mc ms) (F0 m 57 ls [])) {cells slots : Nat} {T : z_T} {I : z_I} {Q : z_Q} {kc : Nat} {ks : Nat} {x1 : Int32} {x2 : Option Nat} {x3 : Int32} {s0 : Int32} {H : Heap} {locs : List Loc} {ls : Array Slot} (hB : z_HB G z_PR A s.heap T0 I0 Q0 T I Q H locs) (hK1 : cells + kc ≤ mc) (hK2 : slots + ks ≤ ms) (hl : lv_has ls 4 [(1, .int x1), (2, va_rf x2), (3, .int x3)]) (h : wb_X1_endsAfter_87 G.2.2 o k57 Qk Xk T I Q kc ks x1 x2 x3 s0) : W p l e R s m args below meth c H locs cells slots (z_MQ below G z_PR A T0 I0 Q0 (z_qi Qk) Xk args s mc ms) (F0 m 87 ls [.int s0]) := by
  obtain ⟨hx, hb, -⟩ := id X
  unfold wb_X1_endsAfter_87 at h
  obtain ⟨kc40, ks41, g1, g2, h⟩ := h
  refine z_callXv (z_runS (rest := []) [.int s0] pk_X1_checkFound (met_X1_checkFound s0 kc40 ks41 _ _ h) X hB hB.2.2.2.2.2.2 q2594 rfl hl.1 (Nat.le_of_ble_eq_true rfl) dX1_endsAfter_87 (z_k1 hK1 g1) (z_k1 hK2 g2) (by decide) (by decide)) hB (fun _ h => h) (z_on (by decide +kernel) X (z_k1 hK1 g1) (z_k1 hK2 g2)) (fun T42 I43 Q44 H locs h9 hF hB => ?_)
  replace h := h9
  clear h9
  replace h := h hF
  replace hK1 := z_k2 hK1 g1
  replace hK2 := z_k2 hK2 g2
  refine z_aload_n (x := x2) hx hb dX1_endsAfter_90 rfl (lv_at hl 1 rfl) ?_
  obtain ⟨a45, rfl, h⟩ := h
  obtain ⟨hk_a45, h⟩ := h
  obtain ⟨co47, hco47, h⟩ := h
  obtain ⟨kc48, ks49, g1, g2, h⟩ := h
  refine z_callv (z_runV (rest := []) [] pk_X2_tick (met_X2_tick co47 a45 kc48 ks49 _ h) X hB (z_coR0 hco47) q2783 kc_X2 (by decide) hk_a45 rfl hl.1 (Nat.le_of_ble_eq_true rfl) dX1_endsAfter_91 (z_k1 hK1 g1) (z_k1 hK2 g2) (by decide) (by decide)) hB (z_coR hco47) (fun T50 I51 Q52 H locs h9 hF hB => ?_)
  replace h := h9
  clear h9
  replace h := h hF
  have hk_a45 := z_tk hF hk_a45 (by decide)
  replace hK1 := z_k2 hK1 g1
  replace hK2 := z_k2 hK2 g2
  obtain ⟨y53, ey53⟩ : ∃ z : Int32, z = x3 + 1 := ⟨_, rfl⟩
  replace h := h y53 ey53
  refine lv_iinc (v := y53) (lv' := [(3, .int y53), (1, .int x1), (2, .ref a45)]) hx hb dX1_endsAfter_94 hl (k := 2) rfl (by rw [ey53]; rfl) (by decide) rfl (fun ls hl9 => ?_)
  replace hl := hl9
  clear hl9
  refine lv_goto (tgt := 57) hx hb dX1_endsAfter_97 (by decide) ?_
  exact hk57 hB hK1 hK2 (lv_sub hl [1, 2, 0] rfl) h
theorem wv_X1_endsAfter_57 {o : Nat} {Qk : Int32 → z_T → z_I → z_Q → Prop} {Xk : String → Nat → z_T → z_I → z_Q → Prop} (X : z_X l G A p R s m args meth c cX1_endsAfter 4 RX1 "endsAfter" (some .int) mc ms 26 513) (ho : (T0 o).1 = 1) : ∀ (n : Nat) {cells slots : Nat} {T : z_T} {I : z_I} {Q : z_Q} {kc : Nat} {ks : Nat} {x1 : Int32} {x2 : Option Nat} {x3 : Int32} {H : Heap} {locs : List Loc} {ls : Array Slot}, z_HB G z_PR A s.heap T0 I0 Q0 T I Q H locs → cells + kc ≤ mc → slots + ks ≤ ms → lv_has ls 4 [(1, .int x1), (2, va_rf x2), (3, .int x3)] → wl_X1_endsAfter_57 G.2.2 o Qk Xk n T I Q kc ks x1 x2 x3 → W p l e R s m args below meth c H locs cells slots (z_MQ below G z_PR A T0 I0 Q0 (z_qi Qk) Xk args s mc ms) (F0 m 57 ls []) := by
  intro n
  induction n with
  | zero =>
    intro cells slots T I Q kc ks x1 x2 x3 H locs ls hB hK1 hK2 hl h
    exact h.elim
  | succ n ih =>
    intro cells slots T I Q kc ks x1 x2 x3 H locs ls hB hK1 hK2 hl h
    obtain ⟨hx, hb, -⟩ := id X
    unfold wl_X1_endsAfter_57 at h
    refine z_aload_n (x := x2) hx hb dX1_endsAfter_57 rfl (lv_at hl 1 rfl) ?_
    obtain ⟨a33, rfl, h⟩ := h
    obtain ⟨hk_a33, h⟩ := h
    refine z_getqN X hB.1 kc_X2 in_X2 (j := 3) (Nat.le_of_ble_eq_true rfl) q1247 (fun _ h => h) rfl (by decide) hk_a33 dX1_endsAfter_58 ?_
    refine lv_iload_n hx hb dX1_endsAfter_61 rfl (lv_at hl 0 rfl) ?_
    obtain ⟨a34, ea34, h⟩ := h
    refine z_stk (st' := [.int x1, .ref a34]) (by rw [ea34] <;> rfl) ?_
    obtain ⟨hk_a34, h⟩ := h
    refine z_callrp (z_runV (rest := []) [.int x1] pk_J30_get (met_J30_get a34 x1 _ h) X hB (fun h => h) q2740 kc_J30 (by decide) hk_a34 rfl hl.1 (Nat.le_of_ble_eq_true rfl) dX1_endsAfter_62 (z_k4 hK1) (z_k4 hK2) (by decide) (by decide)) hB (fun r35 H locs h9 hB => ?_)
    replace h := h9
    clear h9
    obtain ⟨h2, h⟩ := h
    refine z_castR X hB.1 kc_X6 (by decide) h2 q2708 (Or.inl rfl) dX1_endsAfter_65 ?_
    obtain ⟨a36, rfl, h⟩ := h
    obtain ⟨hk_a36, h⟩ := h
    refine z_getiN X hB.1 kc_X6 in_X6 (j := 2) (Nat.le_of_ble_eq_true rfl) q2293 (fun _ h => h) rfl (by decide) hk_a36 dX1_endsAfter_68 ?_
    refine lv_iconst (v := 2) hx hb dX1_endsAfter_71 (by decide) ?_
    refine lv_icmp_eq (tgt := 100) hx hb dX1_endsAfter_72 (by decide) (fun c37 => ?_) (fun c37 => ?_)
    · replace h := h.1 c37
      refine lv_iload_n hx hb dX1_endsAfter_100 rfl (lv_at hl 2 rfl) ?_
      exact z_iret X hB ⟨_, rfl, h⟩ (z_k3 hK1) (z_k3 hK2) dX1_endsAfter_101
    · replace h := h.2 c37
      refine lv_iload_n hx hb dX1_endsAfter_75 rfl (lv_at hl 2 rfl) ?_
      refine lv_sipush (v := 200) hx hb dX1_endsAfter_76 (by decide) ?_
      refine lv_icmp_ge (tgt := 86) hx hb dX1_endsAfter_79 (by decide) (fun c38 => ?_) (fun c38 => ?_)
      · replace h := h.1 c38
        refine lv_iconst (v := 0) hx hb dX1_endsAfter_86 (by decide) ?_
        exact ww_X1_endsAfter_87 X ho (fun hB hK1 hK2 hl h => ih hB hK1 hK2 hl h) hB hK1 hK2 (lv_sub hl [0, 1, 2] rfl) h
      · replace h := h.2 c38
        refine lv_iconst (v := 1) hx hb dX1_endsAfter_82 (by decide) ?_
        refine lv_goto (tgt := 87) hx hb dX1_endsAfter_83 (by decide) ?_
        exact ww_X1_endsAfter_87 X ho (fun hB hK1 hK2 hl h => ih hB hK1 hK2 hl h) hB hK1 hK2 (lv_sub hl [0, 1, 2] rfl) h
theorem ww_X1_endsAfter_40 {o : Nat} {Qk : Int32 → z_T → z_I → z_Q → Prop} {Xk : String → Nat → z_T → z_I → z_Q → Prop} (X : z_X l G A p R s m args meth c cX1_endsAfter 4 RX1 "endsAfter" (some .int) mc ms 26 513) (ho : (T0 o).1 = 1) {cells slots : Nat} {T : z_T} {I : z_I} {Q : z_Q} {kc : Nat} {ks : Nat} {x1 : Int32} {s0 : Int32} {H : Heap} {locs : List Loc} {ls : Array Slot} (hB : z_HB G z_PR A s.heap T0 I0 Q0 T I Q H locs) (hK1 : cells + kc ≤ mc) (hK2 : slots + ks ≤ ms) (hl : lv_has ls 4 [(0, .ref o), (1, .int x1)]) (h : wb_X1_endsAfter_40 G.2.2 o Qk Xk T I Q kc ks x1 s0) : W p l e R s m args below meth c H locs cells slots (z_MQ below G z_PR A T0 I0 Q0 (z_qi Qk) Xk args s mc ms) (F0 m 40 ls [.int s0]) := by
  obtain ⟨hx, hb, -⟩ := id X
  unfold wb_X1_endsAfter_40 at h
  obtain ⟨kc16, ks17, g1, g2, h⟩ := h
  refine z_callXv (z_runS (rest := []) [.int s0] pk_X1_checkFound (met_X1_checkFound s0 kc16 ks17 _ _ h) X hB hB.2.2.2.2.2.2 q2594 rfl hl.1 (Nat.le_of_ble_eq_true rfl) dX1_endsAfter_40 (z_k1 hK1 g1) (z_k1 hK2 g2) (by decide) (by decide)) hB (fun _ h => h) (z_on (by decide +kernel) X (z_k1 hK1 g1) (z_k1 hK2 g2)) (fun T18 I19 Q20 H locs h9 hF hB => ?_)
  replace h := h9
  clear h9
  replace h := h hF
  replace hK1 := z_k2 hK1 g1
  replace hK2 := z_k2 hK2 g2
  obtain ⟨co21, hco21, h⟩ := h
  obtain ⟨g1, g2, h⟩ := h
  refine z_new (col := co21) tyX2 X hB kc_X2 in_X2 tyX2_ok q172 q173 q95 (by decide) (z_dvX2) hco21 (z_k1 hK1 g1) (z_k1 hK2 g2) dX1_endsAfter_43 (fun a22 H hq hB => ?_)
  obtain ⟨T23, eT23⟩ : ∃ z, z = z_t T18 a22 (3, 0, co21) := ⟨_, rfl⟩
  obtain ⟨I24, eI24⟩ : ∃ z, z = z_row I19 a22 (fun _ => 0) := ⟨_, rfl⟩
  obtain ⟨Q25, eQ25⟩ : ∃ z, z = z_row Q20 a22 (fun _ => none) := ⟨_, rfl⟩
  rw [← eT23, ← eI24, ← eQ25] at hB
  replace h := h a22 T23 I24 Q25 hq eT23 eI24 eQ25
  have hk_a22 := z_tq eT23
  have hc_a22 : 3 ≤ (T23 a22).2.2 := by rw [z_tqc eT23]; exact hco21
  replace hK1 := z_k2 hK1 g1
  replace hK2 := z_k2 hK2 g2
  refine lv_dup hx hb dX1_endsAfter_46 rfl ?_
  refine lv_aload_n (x := o) hx hb dX1_endsAfter_47 rfl (lv_at hl 0 rfl) ?_
  refine z_getq X hB.1 kc_X1 in_X1 (j := 0) (Nat.le_of_ble_eq_true rfl) q1296 (fun _ h => h) rfl (by decide) (z_fo hB ho (by decide)) dX1_endsAfter_48 ?_
  obtain ⟨co27, hco27, h⟩ := h
  obtain ⟨kc28, ks29, g1, g2, h⟩ := h
  refine z_callv (z_runI (rest := [.ref a22]) [va_rf (Q25 o 0)] pk_X2_init_2 (met_X2_init_2 co27 a22 (Q25 o 0) kc28 ks29 _ h) X hB (z_coR0 hco27) q1627 rfl hl.1 (Nat.le_of_ble_eq_true rfl) dX1_endsAfter_51 (z_k1 hK1 g1) (z_k1 hK2 g2) (by decide) (by decide)) hB (z_coR hco27) (fun T30 I31 Q32 H locs h9 hF hB => ?_)
  replace h := h9
  clear h9
  replace h := h hF
  have hc_a22 : 3 ≤ (T30 a22).2.2 := by rw [z_te hF hk_a22 (by decide)]; exact hc_a22
  have hk_a22 := z_tk hF hk_a22 (by decide)
  replace hK1 := z_k2 hK1 g1
  replace hK2 := z_k2 hK2 g2
  refine lv_astore_n (x := a22) (lv' := [(2, .ref a22), (0, .ref o), (1, .int x1)]) hx hb dX1_endsAfter_54 rfl hl (by decide) rfl (fun ls hl9 => ?_)
  replace hl := hl9
  clear hl9
  refine lv_iconst (v := 0) hx hb dX1_endsAfter_55 (by decide) ?_
  refine lv_istore_n (lv' := [(3, .int 0), (2, .ref a22), (0, .ref o), (1, .int x1)]) hx hb dX1_endsAfter_56 rfl hl (by decide) rfl (fun ls hl9 => ?_)
  replace hl := hl9
  clear hl9
  obtain ⟨w, h⟩ := h
  exact wv_X1_endsAfter_57 X ho  w hB hK1 hK2 (lv_sub hl [3, 1, 0] rfl) h
theorem ww_X1_endsAfter_0 {o : Nat} {Qk : Int32 → z_T → z_I → z_Q → Prop} {Xk : String → Nat → z_T → z_I → z_Q → Prop} (X : z_X l G A p R s m args meth c cX1_endsAfter 4 RX1 "endsAfter" (some .int) mc ms 26 513) (ho : (T0 o).1 = 1) {cells slots : Nat} {T : z_T} {I : z_I} {Q : z_Q} {kc : Nat} {ks : Nat} {x1 : Int32} {H : Heap} {locs : List Loc} {ls : Array Slot} (hB : z_HB G z_PR A s.heap T0 I0 Q0 T I Q H locs) (hK1 : cells + kc ≤ mc) (hK2 : slots + ks ≤ ms) (hl : lv_has ls 4 [(0, .ref o), (1, .int x1)]) (h : wb_X1_endsAfter_0 G.2.2 o Qk Xk T I Q kc ks x1) : W p l e R s m args below meth c H locs cells slots (z_MQ below G z_PR A T0 I0 Q0 (z_qi Qk) Xk args s mc ms) (F0 m 0 ls []) := by
  obtain ⟨hx, hb, -⟩ := id X
  unfold wb_X1_endsAfter_0 at h
  refine lv_iload_n hx hb dX1_endsAfter_0 rfl (lv_at hl 1 rfl) ?_
  refine lv_aload_n (x := o) hx hb dX1_endsAfter_1 rfl (lv_at hl 0 rfl) ?_
  refine z_getq X hB.1 kc_X1 in_X1 (j := 0) (Nat.le_of_ble_eq_true rfl) q1296 (fun _ h => h) rfl (by decide) (z_fo hB ho (by decide)) dX1_endsAfter_2 ?_
  obtain ⟨a1, ea1, h⟩ := h
  refine z_stk (st' := [.ref a1, .int x1]) (by rw [ea1] <;> rfl) ?_
  obtain ⟨hk_a1, h⟩ := h
  refine z_getqN X hB.1 kc_X2 in_X2 (j := 3) (Nat.le_of_ble_eq_true rfl) q1247 (fun _ h => h) rfl (by decide) hk_a1 dX1_endsAfter_5 ?_
  obtain ⟨a2, ea2, h⟩ := h
  refine z_stk (st' := [.ref a2, .int x1]) (by rw [ea2] <;> rfl) ?_
  obtain ⟨hk_a2, h⟩ := h
  refine z_callip (z_runV (rest := [.int x1]) [] pk_J30_size (met_J30_size a2 _ h) X hB (fun h => h) q2704 kc_J30 (by decide) hk_a2 rfl hl.1 (Nat.le_of_ble_eq_true rfl) dX1_endsAfter_8 (z_k4 hK1) (z_k4 hK2) (by decide) (by decide)) hB (fun r3 H locs h9 hB => ?_)
  replace h := h9
  clear h9
  obtain ⟨kc5, ks6, g1, g2, h⟩ := h
  refine z_callXv (z_runS (rest := []) [.int x1, .int r3] pk_X1_checkIndex (met_X1_checkIndex x1 r3 kc5 ks6 _ _ h) X hB hB.2.2.2.2.2.2 q2387 rfl hl.1 (Nat.le_of_ble_eq_true rfl) dX1_endsAfter_11 (z_k1 hK1 g1) (z_k1 hK2 g2) (by decide) (by decide)) hB (fun _ h => h) (z_on (by decide +kernel) X (z_k1 hK1 g1) (z_k1 hK2 g2)) (fun T7 I8 Q9 H locs h9 hF hB => ?_)
  replace h := h9
  clear h9
  replace h := h hF
  replace hK1 := z_k2 hK1 g1
  replace hK2 := z_k2 hK2 g2
  refine lv_aload_n (x := o) hx hb dX1_endsAfter_14 rfl (lv_at hl 0 rfl) ?_
  refine z_getq X hB.1 kc_X1 in_X1 (j := 0) (Nat.le_of_ble_eq_true rfl) q1296 (fun _ h => h) rfl (by decide) (z_fo hB ho (by decide)) dX1_endsAfter_15 ?_
  obtain ⟨a10, ea10, h⟩ := h
  refine z_stk (st' := [.ref a10]) (by rw [ea10] <;> rfl) ?_
  obtain ⟨hk_a10, h⟩ := h
  refine z_getqN X hB.1 kc_X2 in_X2 (j := 3) (Nat.le_of_ble_eq_true rfl) q1247 (fun _ h => h) rfl (by decide) hk_a10 dX1_endsAfter_18 ?_
  refine lv_iload_n hx hb dX1_endsAfter_21 rfl (lv_at hl 1 rfl) ?_
  obtain ⟨a11, ea11, h⟩ := h
  refine z_stk (st' := [.int x1, .ref a11]) (by rw [ea11] <;> rfl) ?_
  obtain ⟨hk_a11, h⟩ := h
  refine z_callrp (z_runV (rest := []) [.int x1] pk_J30_get (met_J30_get a11 x1 _ h) X hB (fun h => h) q2740 kc_J30 (by decide) hk_a11 rfl hl.1 (Nat.le_of_ble_eq_true rfl) dX1_endsAfter_22 (z_k4 hK1) (z_k4 hK2) (by decide) (by decide)) hB (fun r12 H locs h9 hB => ?_)
  replace h := h9
  clear h9
  obtain ⟨h2, h⟩ := h
  refine z_castR X hB.1 kc_X6 (by decide) h2 q2708 (Or.inl rfl) dX1_endsAfter_25 ?_
  obtain ⟨a13, rfl, h⟩ := h
  obtain ⟨hk_a13, h⟩ := h
  refine z_getiN X hB.1 kc_X6 in_X6 (j := 2) (Nat.le_of_ble_eq_true rfl) q2293 (fun _ h => h) rfl (by decide) hk_a13 dX1_endsAfter_28 ?_
  refine lv_iconst (v := 3) hx hb dX1_endsAfter_31 (by decide) ?_
  refine lv_icmp_eq (tgt := 39) hx hb dX1_endsAfter_32 (by decide) (fun c14 => ?_) (fun c14 => ?_)
  · replace h := h.1 c14
    refine lv_iconst (v := 0) hx hb dX1_endsAfter_39 (by decide) ?_
    exact ww_X1_endsAfter_40 X ho  hB hK1 hK2 (lv_sub hl [0, 1] rfl) h
  · replace h := h.2 c14
    refine lv_iconst (v := 1) hx hb dX1_endsAfter_35 (by decide) ?_
    refine lv_goto (tgt := 40) hx hb dX1_endsAfter_36 (by decide) ?_
    exact ww_X1_endsAfter_40 X ho  hB hK1 hK2 (lv_sub hl [0, 1] rfl) h
theorem pk_X1_endsAfter : z_PV RX1 yX1_endsAfter cX1_endsAfter 4 (some .int) 1 := ⟨q2925, q2926, q94, q2927, by decide +kernel⟩
theorem met_X1_endsAfter {l : Launch} {G : z_E} {T : z_T} {I : z_I} {Q : z_Q} (o : Nat) (x1 : Int32) (kc : Nat) (ks : Nat) (Qk : Int32 → z_T → z_I → z_Q → Prop) (Xk : String → Nat → z_T → z_I → z_Q → Prop) (h : wp_X1_endsAfter G.2.2 T I Q o x1 kc ks Qk Xk) : z_GM l G yX1_endsAfter (ws_ yX1_endsAfter cX1_endsAfter 4 (some .int)) 26 513 kc ks [.ref o, .int x1] z_PR T I Q (z_qi Qk) Xk := by
  obtain ⟨ho, h⟩ := h
  refine z_body (own := RX1) (nm := "endsAfter") (by decide +kernel) rfl rfl (Nat.le_of_ble_eq_true rfl) (fun p e R s m below meth c A ls X hB hl => ?_)
  exact ww_X1_endsAfter_0 X ho hB z_k0 z_k0 hl h
/-! X1_wouldBe -/
theorem ww_X1_wouldBe_51 {o : Nat} {Qk : Int32 → z_T → z_I → z_Q → Prop} {Xk : String → Nat → z_T → z_I → z_Q → Prop} (X : z_X l G A p R s m args meth c cX1_wouldBe 3 RX1 "wouldBe" (some .int) mc ms 21 407) (ho : (T0 o).1 = 1) {cells slots : Nat} {T : z_T} {I : z_I} {Q : z_Q} {kc : Nat} {ks : Nat} {x2 : Option Nat} {s0 : Int32} {H : Heap} {locs : List Loc} {ls : Array Slot} (hB : z_HB G z_PR A s.heap T0 I0 Q0 T I Q H locs) (hK1 : cells + kc ≤ mc) (hK2 : slots + ks ≤ ms) (hl : lv_has ls 3 [(2, va_rf x2)]) (h : wb_X1_wouldBe_51 G.2.2 o Qk Xk T I Q kc ks x2 s0) : W p l e R s m args below meth c H locs cells slots (z_MQ below G z_PR A T0 I0 Q0 (z_qi Qk) Xk args s mc ms) (F0 m 51 ls [.int s0]) := by
  obtain ⟨hx, hb, -⟩ := id X
  unfold wb_X1_wouldBe_51 at h
  obtain ⟨kc28, ks29, g1, g2, h⟩ := h
  refine z_callXv (z_runS (rest := []) [.int s0] pk_X1_checkFound (met_X1_checkFound s0 kc28 ks29 _ _ h) X hB hB.2.2.2.2.2.2 q2594 rfl hl.1 (Nat.le_of_ble_eq_true rfl) dX1_wouldBe_51 (z_k1 hK1 g1) (z_k1 hK2 g2) (by decide) (by decide)) hB (fun _ h => h) (z_on (by decide +kernel) X (z_k1 hK1 g1) (z_k1 hK2 g2)) (fun T30 I31 Q32 H locs h9 hF hB => ?_)
  replace h := h9
  clear h9
  replace h := h hF
  replace hK1 := z_k2 hK1 g1
  replace hK2 := z_k2 hK2 g2
  refine z_aload_n (x := x2) hx hb dX1_wouldBe_54 rfl (lv_at hl 0 rfl) ?_
  obtain ⟨a33, rfl, h⟩ := h
  obtain ⟨hk_a33, h⟩ := h
  obtain ⟨co35, hco35, h⟩ := h
  obtain ⟨kc36, ks37, g1, g2, h⟩ := h
  refine z_calli (z_runV (rest := []) [] pk_X4_request (met_X4_request co35 a33 kc36 ks37 _ h) X hB (z_coR0 hco35) q2920 kc_X4 (by decide) hk_a33 rfl hl.1 (Nat.le_of_ble_eq_true rfl) dX1_wouldBe_55 (z_k1 hK1 g1) (z_k1 hK2 g2) (by decide) (by decide)) hB (z_coR hco35) (fun r34 T38 I39 Q40 H locs h9 hF hB => ?_)
  replace h := h9
  clear h9
  replace h := h hF
  have hk_a33 := z_tk hF hk_a33 (by decide)
  replace hK1 := z_k2 hK1 g1
  replace hK2 := z_k2 hK2 g2
  exact z_iret X hB ⟨_, rfl, h⟩ (z_k3 hK1) (z_k3 hK2) dX1_wouldBe_58
theorem ww_X1_wouldBe_0 {o : Nat} {Qk : Int32 → z_T → z_I → z_Q → Prop} {Xk : String → Nat → z_T → z_I → z_Q → Prop} (X : z_X l G A p R s m args meth c cX1_wouldBe 3 RX1 "wouldBe" (some .int) mc ms 21 407) (ho : (T0 o).1 = 1) {cells slots : Nat} {T : z_T} {I : z_I} {Q : z_Q} {kc : Nat} {ks : Nat} {x1 : Int32} {H : Heap} {locs : List Loc} {ls : Array Slot} (hB : z_HB G z_PR A s.heap T0 I0 Q0 T I Q H locs) (hK1 : cells + kc ≤ mc) (hK2 : slots + ks ≤ ms) (hl : lv_has ls 3 [(0, .ref o), (1, .int x1)]) (h : wb_X1_wouldBe_0 G.2.2 o Qk Xk T I Q kc ks x1) : W p l e R s m args below meth c H locs cells slots (z_MQ below G z_PR A T0 I0 Q0 (z_qi Qk) Xk args s mc ms) (F0 m 0 ls []) := by
  obtain ⟨hx, hb, -⟩ := id X
  unfold wb_X1_wouldBe_0 at h
  refine lv_iload_n hx hb dX1_wouldBe_0 rfl (lv_at hl 1 rfl) ?_
  refine lv_iconst (v := 3) hx hb dX1_wouldBe_1 (by decide) ?_
  obtain ⟨kc2, ks3, g1, g2, h⟩ := h
  refine z_callXv (z_runS (rest := []) [.int x1, .int 3] pk_X1_checkIndex (met_X1_checkIndex x1 3 kc2 ks3 _ _ h) X hB hB.2.2.2.2.2.2 q2387 rfl hl.1 (Nat.le_of_ble_eq_true rfl) dX1_wouldBe_2 (z_k1 hK1 g1) (z_k1 hK2 g2) (by decide) (by decide)) hB (fun _ h => h) (z_on (by decide +kernel) X (z_k1 hK1 g1) (z_k1 hK2 g2)) (fun T4 I5 Q6 H locs h9 hF hB => ?_)
  replace h := h9
  clear h9
  replace h := h hF
  replace hK1 := z_k2 hK1 g1
  replace hK2 := z_k2 hK2 g2
  obtain ⟨co7, hco7, h⟩ := h
  obtain ⟨g1, g2, h⟩ := h
  refine z_new (col := co7) tyX2 X hB kc_X2 in_X2 tyX2_ok q172 q173 q95 (by decide) (z_dvX2) hco7 (z_k1 hK1 g1) (z_k1 hK2 g2) dX1_wouldBe_5 (fun a8 H hq hB => ?_)
  obtain ⟨T9, eT9⟩ : ∃ z, z = z_t T4 a8 (3, 0, co7) := ⟨_, rfl⟩
  obtain ⟨I10, eI10⟩ : ∃ z, z = z_row I5 a8 (fun _ => 0) := ⟨_, rfl⟩
  obtain ⟨Q11, eQ11⟩ : ∃ z, z = z_row Q6 a8 (fun _ => none) := ⟨_, rfl⟩
  rw [← eT9, ← eI10, ← eQ11] at hB
  replace h := h a8 T9 I10 Q11 hq eT9 eI10 eQ11
  have hk_a8 := z_tq eT9
  have hc_a8 : 3 ≤ (T9 a8).2.2 := by rw [z_tqc eT9]; exact hco7
  replace hK1 := z_k2 hK1 g1
  replace hK2 := z_k2 hK2 g2
  refine lv_dup hx hb dX1_wouldBe_8 rfl ?_
  refine lv_aload_n (x := o) hx hb dX1_wouldBe_9 rfl (lv_at hl 0 rfl) ?_
  refine z_getq X hB.1 kc_X1 in_X1 (j := 0) (Nat.le_of_ble_eq_true rfl) q1296 (fun _ h => h) rfl (by decide) (z_fo hB ho (by decide)) dX1_wouldBe_10 ?_
  obtain ⟨co13, hco13, h⟩ := h
  obtain ⟨kc14, ks15, g1, g2, h⟩ := h
  refine z_callv (z_runI (rest := [.ref a8]) [va_rf (Q11 o 0)] pk_X2_init_2 (met_X2_init_2 co13 a8 (Q11 o 0) kc14 ks15 _ h) X hB (z_coR0 hco13) q1627 rfl hl.1 (Nat.le_of_ble_eq_true rfl) dX1_wouldBe_13 (z_k1 hK1 g1) (z_k1 hK2 g2) (by decide) (by decide)) hB (z_coR hco13) (fun T16 I17 Q18 H locs h9 hF hB => ?_)
  replace h := h9
  clear h9
  replace h := h hF
  have hc_a8 : 3 ≤ (T16 a8).2.2 := by rw [z_te hF hk_a8 (by decide)]; exact hc_a8
  have hk_a8 := z_tk hF hk_a8 (by decide)
  replace hK1 := z_k2 hK1 g1
  replace hK2 := z_k2 hK2 g2
  refine z_getqN X hB.1 kc_X2 in_X2 (j := 2) (Nat.le_of_ble_eq_true rfl) q1243 (fun _ h => h) rfl (by decide) hk_a8 dX1_wouldBe_16 ?_
  refine lv_iload_n hx hb dX1_wouldBe_19 rfl (lv_at hl 1 rfl) ?_
  obtain ⟨a19, ea19, h⟩ := h
  refine z_stk (st' := [.int x1, .ref a19]) (by rw [ea19] <;> rfl) ?_
  obtain ⟨hk_a19, h⟩ := h
  obtain ⟨h1, h⟩ := h
  refine z_aald (k := 4) X hB.1 (by decide) hk_a19 h1 dX1_wouldBe_20 ?_
  obtain ⟨y20, ey20⟩ : ∃ z : Option Nat, z = (Q18 a19 x1.toNatClampNeg) := ⟨_, rfl⟩
  replace h := h y20 ey20
  refine z_stk (st' := [va_rf y20]) (by rw [ey20]) ?_
  refine z_astore_n (x := y20) (lv' := [(2, va_rf y20), (0, .ref o), (1, .int x1)]) hx hb dX1_wouldBe_21 rfl hl (by decide) rfl (fun ls hl9 => ?_)
  replace hl := hl9
  clear hl9
  refine z_aload_n (x := y20) hx hb dX1_wouldBe_22 rfl (lv_at hl 0 rfl) ?_
  obtain ⟨a21, rfl, h⟩ := h
  obtain ⟨hk_a21, h⟩ := h
  refine z_getiN X hB.1 kc_X4 in_X4 (j := 4) (Nat.le_of_ble_eq_true rfl) q1189 (fun _ h => h) rfl (by decide) hk_a21 dX1_wouldBe_23 ?_
  refine lv_if_ne (tgt := 47) hx hb dX1_wouldBe_26 (by decide) (fun c22 => ?_) (fun c22 => ?_)
  · replace h := h.1 c22
    refine lv_aload_n (x := a21) hx hb dX1_wouldBe_47 rfl (lv_at hl 0 rfl) ?_
    refine z_callzp (z_runV (rest := []) [] pk_X4_hasNext (met_X4_hasNext a21 _ h) X hB (fun h => h) q2919 kc_X4 (by decide) hk_a21 rfl hl.1 (Nat.le_of_ble_eq_true rfl) dX1_wouldBe_48 (z_k4 hK1) (z_k4 hK2) (by decide) (by decide)) hB (fun r23 H locs hz h9 hB => ?_)
    replace h := h9
    clear h9
    replace h := h hz
    exact ww_X1_wouldBe_51 X ho  hB hK1 hK2 (lv_sub hl [0] rfl) h
  · replace h := h.2 c22
    refine lv_aload_n (x := a21) hx hb dX1_wouldBe_29 rfl (lv_at hl 0 rfl) ?_
    refine z_getqN X hB.1 kc_X4 in_X4 (j := 2) (Nat.le_of_ble_eq_true rfl) q1184 (fun _ h => h) rfl (by decide) hk_a21 dX1_wouldBe_30 ?_
    obtain ⟨a24, ea24, h⟩ := h
    refine z_stk (st' := [.ref a24]) (by rw [ea24] <;> rfl) ?_
    obtain ⟨hk_a24, h⟩ := h
    refine z_callzp (z_runV (rest := []) [] pk_J31_isEmpty (met_J31_isEmpty a24 _ h) X hB (fun h => h) q2718 kc_J31 (by decide) hk_a24 rfl hl.1 (Nat.le_of_ble_eq_true rfl) dX1_wouldBe_33 (z_k4 hK1) (z_k4 hK2) (by decide) (by decide)) hB (fun r25 H locs hz h9 hB => ?_)
    replace h := h9
    clear h9
    replace h := h hz
    refine lv_if_ne (tgt := 43) hx hb dX1_wouldBe_36 (by decide) (fun c26 => ?_) (fun c26 => ?_)
    · replace h := h.1 c26
      refine lv_iconst (v := 0) hx hb dX1_wouldBe_43 (by decide) ?_
      refine lv_goto (tgt := 51) hx hb dX1_wouldBe_44 (by decide) ?_
      exact ww_X1_wouldBe_51 X ho  hB hK1 hK2 (lv_sub hl [0] rfl) h
    · replace h := h.2 c26
      refine lv_iconst (v := 1) hx hb dX1_wouldBe_39 (by decide) ?_
      refine lv_goto (tgt := 51) hx hb dX1_wouldBe_40 (by decide) ?_
      exact ww_X1_wouldBe_51 X ho  hB hK1 hK2 (lv_sub hl [0] rfl) h
theorem pk_X1_wouldBe : z_PV RX1 yX1_wouldBe cX1_wouldBe 3 (some .int) 1 := ⟨q2916, q2917, q94, q2918, by decide +kernel⟩
theorem met_X1_wouldBe {l : Launch} {G : z_E} {T : z_T} {I : z_I} {Q : z_Q} (o : Nat) (x1 : Int32) (kc : Nat) (ks : Nat) (Qk : Int32 → z_T → z_I → z_Q → Prop) (Xk : String → Nat → z_T → z_I → z_Q → Prop) (h : wp_X1_wouldBe G.2.2 T I Q o x1 kc ks Qk Xk) : z_GM l G yX1_wouldBe (ws_ yX1_wouldBe cX1_wouldBe 3 (some .int)) 21 407 kc ks [.ref o, .int x1] z_PR T I Q (z_qi Qk) Xk := by
  obtain ⟨ho, h⟩ := h
  refine z_body (own := RX1) (nm := "wouldBe") (by decide +kernel) rfl rfl (Nat.le_of_ble_eq_true rfl) (fun p e R s m below meth c A ls X hB hl => ?_)
  exact ww_X1_wouldBe_0 X ho hB z_k0 z_k0 hl h
/-! X1_reason -/
theorem ww_X1_reason_59 {o : Nat} {Qk : Int32 → z_T → z_I → z_Q → Prop} {Xk : String → Nat → z_T → z_I → z_Q → Prop} (X : z_X l G A p R s m args meth c cX1_reason 3 RX1 "reason" (some .int) mc ms 10 163) (ho : (T0 o).1 = 1) {cells slots : Nat} {T : z_T} {I : z_I} {Q : z_Q} {kc : Nat} {ks : Nat} {s0 : Int32} {H : Heap} {locs : List Loc} {ls : Array Slot} (hB : z_HB G z_PR A s.heap T0 I0 Q0 T I Q H locs) (hK1 : cells + kc ≤ mc) (hK2 : slots + ks ≤ ms) (hl : lv_has ls 3 []) (h : wb_X1_reason_59 o Qk Xk T I Q kc ks s0) : W p l e R s m args below meth c H locs cells slots (z_MQ below G z_PR A T0 I0 Q0 (z_qi Qk) Xk args s mc ms) (F0 m 59 ls [.int s0]) := by
  obtain ⟨hx, hb, -⟩ := id X
  unfold wb_X1_reason_59 at h
  exact z_iret X hB ⟨_, rfl, h⟩ (z_k3 hK1) (z_k3 hK2) dX1_reason_59
theorem ww_X1_reason_25 {o : Nat} {Qk : Int32 → z_T → z_I → z_Q → Prop} {Xk : String → Nat → z_T → z_I → z_Q → Prop} (X : z_X l G A p R s m args meth c cX1_reason 3 RX1 "reason" (some .int) mc ms 10 163) (ho : (T0 o).1 = 1) {cells slots : Nat} {T : z_T} {I : z_I} {Q : z_Q} {kc : Nat} {ks : Nat} {x1 : Int32} {x2 : Int32} {s0 : Int32} {H : Heap} {locs : List Loc} {ls : Array Slot} (hB : z_HB G z_PR A s.heap T0 I0 Q0 T I Q H locs) (hK1 : cells + kc ≤ mc) (hK2 : slots + ks ≤ ms) (hl : lv_has ls 3 [(0, .ref o), (1, .int x1), (2, .int x2)]) (h : wb_X1_reason_25 o Qk Xk T I Q kc ks x1 x2 s0) : W p l e R s m args below meth c H locs cells slots (z_MQ below G z_PR A T0 I0 Q0 (z_qi Qk) Xk args s mc ms) (F0 m 25 ls [.int s0]) := by
  obtain ⟨hx, hb, -⟩ := id X
  unfold wb_X1_reason_25 at h
  obtain ⟨kc12, ks13, g1, g2, h⟩ := h
  refine z_callXv (z_runS (rest := []) [.int s0] pk_X1_checkFound (met_X1_checkFound s0 kc12 ks13 _ _ h) X hB hB.2.2.2.2.2.2 q2594 rfl hl.1 (Nat.le_of_ble_eq_true rfl) dX1_reason_25 (z_k1 hK1 g1) (z_k1 hK2 g2) (by decide) (by decide)) hB (fun _ h => h) (z_on (by decide +kernel) X (z_k1 hK1 g1) (z_k1 hK2 g2)) (fun T14 I15 Q16 H locs h9 hF hB => ?_)
  replace h := h9
  clear h9
  replace h := h hF
  replace hK1 := z_k2 hK1 g1
  replace hK2 := z_k2 hK2 g2
  refine lv_iload_n hx hb dX1_reason_28 rfl (lv_at hl 2 rfl) ?_
  refine lv_if_eq (tgt := 47) hx hb dX1_reason_29 (by decide) (fun c17 => ?_) (fun c17 => ?_)
  · replace h := h.1 c17
    refine lv_aload_n (x := o) hx hb dX1_reason_47 rfl (lv_at hl 0 rfl) ?_
    refine z_getq X hB.1 kc_X1 in_X1 (j := 0) (Nat.le_of_ble_eq_true rfl) q1296 (fun _ h => h) rfl (by decide) (z_fo hB ho (by decide)) dX1_reason_48 ?_
    obtain ⟨a18, ea18, h⟩ := h
    refine z_stk (st' := [.ref a18]) (by rw [ea18] <;> rfl) ?_
    obtain ⟨hk_a18, h⟩ := h
    refine z_getqN X hB.1 kc_X2 in_X2 (j := 2) (Nat.le_of_ble_eq_true rfl) q1243 (fun _ h => h) rfl (by decide) hk_a18 dX1_reason_51 ?_
    refine lv_iload_n hx hb dX1_reason_54 rfl (lv_at hl 1 rfl) ?_
    obtain ⟨a19, ea19, h⟩ := h
    refine z_stk (st' := [.int x1, .ref a19]) (by rw [ea19] <;> rfl) ?_
    obtain ⟨hk_a19, h⟩ := h
    obtain ⟨h1, h⟩ := h
    refine z_aald (k := 4) X hB.1 (by decide) hk_a19 h1 dX1_reason_55 ?_
    obtain ⟨a20, ea20, h⟩ := h
    refine z_stk (st' := [.ref a20]) (by rw [ea20] <;> rfl) ?_
    obtain ⟨hk_a20, h⟩ := h
    refine z_getiN X hB.1 kc_X4 in_X4 (j := 8) (Nat.le_of_ble_eq_true rfl) q1196 (fun _ h => h) rfl (by decide) hk_a20 dX1_reason_56 ?_
    exact ww_X1_reason_59 X ho  hB hK1 hK2 (lv_sub hl [] rfl) h
  · replace h := h.2 c17
    refine lv_aload_n (x := o) hx hb dX1_reason_32 rfl (lv_at hl 0 rfl) ?_
    refine z_getq X hB.1 kc_X1 in_X1 (j := 0) (Nat.le_of_ble_eq_true rfl) q1296 (fun _ h => h) rfl (by decide) (z_fo hB ho (by decide)) dX1_reason_33 ?_
    obtain ⟨a21, ea21, h⟩ := h
    refine z_stk (st' := [.ref a21]) (by rw [ea21] <;> rfl) ?_
    obtain ⟨hk_a21, h⟩ := h
    refine z_getqN X hB.1 kc_X2 in_X2 (j := 2) (Nat.le_of_ble_eq_true rfl) q1243 (fun _ h => h) rfl (by decide) hk_a21 dX1_reason_36 ?_
    refine lv_iload_n hx hb dX1_reason_39 rfl (lv_at hl 1 rfl) ?_
    obtain ⟨a22, ea22, h⟩ := h
    refine z_stk (st' := [.int x1, .ref a22]) (by rw [ea22] <;> rfl) ?_
    obtain ⟨hk_a22, h⟩ := h
    obtain ⟨h1, h⟩ := h
    refine z_aald (k := 4) X hB.1 (by decide) hk_a22 h1 dX1_reason_40 ?_
    obtain ⟨a23, ea23, h⟩ := h
    refine z_stk (st' := [.ref a23]) (by rw [ea23] <;> rfl) ?_
    obtain ⟨hk_a23, h⟩ := h
    refine z_getiN X hB.1 kc_X4 in_X4 (j := 9) (Nat.le_of_ble_eq_true rfl) q1198 (fun _ h => h) rfl (by decide) hk_a23 dX1_reason_41 ?_
    refine lv_goto (tgt := 59) hx hb dX1_reason_44 (by decide) ?_
    exact ww_X1_reason_59 X ho  hB hK1 hK2 (lv_sub hl [] rfl) h
theorem ww_X1_reason_0 {o : Nat} {Qk : Int32 → z_T → z_I → z_Q → Prop} {Xk : String → Nat → z_T → z_I → z_Q → Prop} (X : z_X l G A p R s m args meth c cX1_reason 3 RX1 "reason" (some .int) mc ms 10 163) (ho : (T0 o).1 = 1) {cells slots : Nat} {T : z_T} {I : z_I} {Q : z_Q} {kc : Nat} {ks : Nat} {x1 : Int32} {x2 : Int32} {H : Heap} {locs : List Loc} {ls : Array Slot} (hB : z_HB G z_PR A s.heap T0 I0 Q0 T I Q H locs) (hK1 : cells + kc ≤ mc) (hK2 : slots + ks ≤ ms) (hl : lv_has ls 3 [(0, .ref o), (1, .int x1), (2, .int x2)]) (h : wb_X1_reason_0 o Qk Xk T I Q kc ks x1 x2) : W p l e R s m args below meth c H locs cells slots (z_MQ below G z_PR A T0 I0 Q0 (z_qi Qk) Xk args s mc ms) (F0 m 0 ls []) := by
  obtain ⟨hx, hb, -⟩ := id X
  unfold wb_X1_reason_0 at h
  refine lv_iload_n hx hb dX1_reason_0 rfl (lv_at hl 1 rfl) ?_
  refine lv_iconst (v := 3) hx hb dX1_reason_1 (by decide) ?_
  obtain ⟨kc2, ks3, g1, g2, h⟩ := h
  refine z_callXv (z_runS (rest := []) [.int x1, .int 3] pk_X1_checkIndex (met_X1_checkIndex x1 3 kc2 ks3 _ _ h) X hB hB.2.2.2.2.2.2 q2387 rfl hl.1 (Nat.le_of_ble_eq_true rfl) dX1_reason_2 (z_k1 hK1 g1) (z_k1 hK2 g2) (by decide) (by decide)) hB (fun _ h => h) (z_on (by decide +kernel) X (z_k1 hK1 g1) (z_k1 hK2 g2)) (fun T4 I5 Q6 H locs h9 hF hB => ?_)
  replace h := h9
  clear h9
  replace h := h hF
  replace hK1 := z_k2 hK1 g1
  replace hK2 := z_k2 hK2 g2
  refine lv_aload_n (x := o) hx hb dX1_reason_5 rfl (lv_at hl 0 rfl) ?_
  refine z_getq X hB.1 kc_X1 in_X1 (j := 0) (Nat.le_of_ble_eq_true rfl) q1296 (fun _ h => h) rfl (by decide) (z_fo hB ho (by decide)) dX1_reason_6 ?_
  obtain ⟨a7, ea7, h⟩ := h
  refine z_stk (st' := [.ref a7]) (by rw [ea7] <;> rfl) ?_
  obtain ⟨hk_a7, h⟩ := h
  refine z_getqN X hB.1 kc_X2 in_X2 (j := 2) (Nat.le_of_ble_eq_true rfl) q1243 (fun _ h => h) rfl (by decide) hk_a7 dX1_reason_9 ?_
  refine lv_iload_n hx hb dX1_reason_12 rfl (lv_at hl 1 rfl) ?_
  obtain ⟨a8, ea8, h⟩ := h
  refine z_stk (st' := [.int x1, .ref a8]) (by rw [ea8] <;> rfl) ?_
  obtain ⟨hk_a8, h⟩ := h
  obtain ⟨h1, h⟩ := h
  refine z_aald (k := 4) X hB.1 (by decide) hk_a8 h1 dX1_reason_13 ?_
  obtain ⟨a9, ea9, h⟩ := h
  refine z_stk (st' := [.ref a9]) (by rw [ea9] <;> rfl) ?_
  obtain ⟨hk_a9, h⟩ := h
  refine z_getiN X hB.1 kc_X4 in_X4 (j := 7) (Nat.le_of_ble_eq_true rfl) q1194 (fun _ h => h) rfl (by decide) hk_a9 dX1_reason_14 ?_
  refine lv_if_le (tgt := 24) hx hb dX1_reason_17 (by decide) (fun c10 => ?_) (fun c10 => ?_)
  · replace h := h.1 c10
    refine lv_iconst (v := 0) hx hb dX1_reason_24 (by decide) ?_
    exact ww_X1_reason_25 X ho  hB hK1 hK2 (lv_sub hl [0, 1, 2] rfl) h
  · replace h := h.2 c10
    refine lv_iconst (v := 1) hx hb dX1_reason_20 (by decide) ?_
    refine lv_goto (tgt := 25) hx hb dX1_reason_21 (by decide) ?_
    exact ww_X1_reason_25 X ho  hB hK1 hK2 (lv_sub hl [0, 1, 2] rfl) h
theorem pk_X1_reason : z_PV RX1 yX1_reason cX1_reason 3 (some .int) 2 := ⟨q2909, q2910, q94, q2911, by decide +kernel⟩
theorem met_X1_reason {l : Launch} {G : z_E} {T : z_T} {I : z_I} {Q : z_Q} (o : Nat) (x1 : Int32) (x2 : Int32) (kc : Nat) (ks : Nat) (Qk : Int32 → z_T → z_I → z_Q → Prop) (Xk : String → Nat → z_T → z_I → z_Q → Prop) (h : wp_X1_reason T I Q o x1 x2 kc ks Qk Xk) : z_GM l G yX1_reason (ws_ yX1_reason cX1_reason 3 (some .int)) 10 163 kc ks [.ref o, .int x1, .int x2] z_PR T I Q (z_qi Qk) Xk := by
  obtain ⟨ho, h⟩ := h
  refine z_body (own := RX1) (nm := "reason") (by decide +kernel) rfl rfl (Nat.le_of_ble_eq_true rfl) (fun p e R s m below meth c A ls X hB hl => ?_)
  exact ww_X1_reason_0 X ho hB z_k0 z_k0 hl h
/-! X1_change -/
theorem ww_X1_change_23 {o : Nat} {Qk : z_T → z_I → z_Q → Prop} (X : z_X l G A p R s m args meth c cX1_change 3 RX1 "change" none mc ms 12 214) (ho : (T0 o).1 = 1) (hoc : 3 ≤ (T0 o).2.2) {cells slots : Nat} {T : z_T} {I : z_I} {Q : z_Q} {kc : Nat} {ks : Nat} {x1 : Option Nat} {H : Heap} {locs : List Loc} {ls : Array Slot} (hB : z_HB G z_PR A s.heap T0 I0 Q0 T I Q H locs) (hK1 : cells + kc ≤ mc) (hK2 : slots + ks ≤ ms) (hl : lv_has ls 3 [(0, .ref o), (1, va_rf x1)]) (h : wb_X1_change_23 G.2.2 o Qk T I Q kc ks x1) : W p l e R s m args below meth c H locs cells slots (z_MQ below G z_PR A T0 I0 Q0 (z_qv Qk) z_no args s mc ms) (F0 m 23 ls []) := by
  obtain ⟨hx, hb, -⟩ := id X
  unfold wb_X1_change_23 at h
  refine lv_aload_n (x := o) hx hb dX1_change_23 rfl (lv_at hl 0 rfl) ?_
  refine z_getq X hB.1 kc_X1 in_X1 (j := 2) (Nat.le_of_ble_eq_true rfl) q1298 (fun _ h => h) rfl (by decide) (z_fo hB ho (by decide)) dX1_change_24 ?_
  refine lv_aload_n (x := o) hx hb dX1_change_27 rfl (lv_at hl 0 rfl) ?_
  refine z_getq X hB.1 kc_X1 in_X1 (j := 0) (Nat.le_of_ble_eq_true rfl) q1296 (fun _ h => h) rfl (by decide) (z_fo hB ho (by decide)) dX1_change_28 ?_
  obtain ⟨a9, ea9, h⟩ := h
  refine z_stk (st' := [va_rf (Q o 0), .ref a9]) (by rw [ea9] <;> rfl) ?_
  obtain ⟨hk_a9, h⟩ := h
  obtain ⟨co11, hco11, h⟩ := h
  obtain ⟨kc12, ks13, g1, g2, h⟩ := h
  refine z_callv (z_runV (rest := []) [va_rf (Q o 0)] pk_J31_addLast (met_J31_addLast co11 a9 (Q o 0) kc12 ks13 _ h) X hB (z_coR0 hco11) q2513 kc_J31 (by decide) hk_a9 rfl hl.1 (Nat.le_of_ble_eq_true rfl) dX1_change_31 (z_k1 hK1 g1) (z_k1 hK2 g2) (by decide) (by decide)) hB (z_coR hco11) (fun T14 I15 Q16 H locs h9 hF hB => ?_)
  replace h := h9
  clear h9
  replace h := h hF
  replace hK1 := z_k2 hK1 g1
  replace hK2 := z_k2 hK2 g2
  refine lv_aload_n (x := o) hx hb dX1_change_34 rfl (lv_at hl 0 rfl) ?_
  refine z_aload_n (x := x1) hx hb dX1_change_35 rfl (lv_at hl 1 rfl) ?_
  obtain ⟨Q17, eQ17⟩ : ∃ z, z = z_up Q16 o 0 x1 := ⟨_, rfl⟩
  replace h := h Q17 eQ17
  refine z_putq (x := x1) eQ17 tyX1 X hB kc_X1 in_X1 tyX1_ok nmX1 (j := 0) (Nat.le_of_ble_eq_true rfl) q1296 (fun _ h => h) rfl rfl (by decide) (z_fo hB ho (by decide)) (z_foc hB ho (by decide) hoc) rfl (Or.inl ⟨_, rfl⟩) dX1_change_36 (fun H locs hB => ?_)
  exact z_vret X hB ⟨rfl, h⟩ (z_k3 hK1) (z_k3 hK2) dX1_change_39
theorem ww_X1_change_0 {o : Nat} {Qk : z_T → z_I → z_Q → Prop} (X : z_X l G A p R s m args meth c cX1_change 3 RX1 "change" none mc ms 12 214) (ho : (T0 o).1 = 1) (hoc : 3 ≤ (T0 o).2.2) {cells slots : Nat} {T : z_T} {I : z_I} {Q : z_Q} {kc : Nat} {ks : Nat} {x1 : Option Nat} {H : Heap} {locs : List Loc} {ls : Array Slot} (hB : z_HB G z_PR A s.heap T0 I0 Q0 T I Q H locs) (hK1 : cells + kc ≤ mc) (hK2 : slots + ks ≤ ms) (hl : lv_has ls 3 [(0, .ref o), (1, va_rf x1)]) (h : wb_X1_change_0 G.2.2 o Qk T I Q kc ks x1) : W p l e R s m args below meth c H locs cells slots (z_MQ below G z_PR A T0 I0 Q0 (z_qv Qk) z_no args s mc ms) (F0 m 0 ls []) := by
  obtain ⟨hx, hb, -⟩ := id X
  unfold wb_X1_change_0 at h
  refine lv_aload_n (x := o) hx hb dX1_change_0 rfl (lv_at hl 0 rfl) ?_
  refine z_getq X hB.1 kc_X1 in_X1 (j := 2) (Nat.le_of_ble_eq_true rfl) q1298 (fun _ h => h) rfl (by decide) (z_fo hB ho (by decide)) dX1_change_1 ?_
  obtain ⟨a1, ea1, h⟩ := h
  refine z_stk (st' := [.ref a1]) (by rw [ea1] <;> rfl) ?_
  obtain ⟨hk_a1, h⟩ := h
  refine z_callip (z_runV (rest := []) [] pk_J31_size (met_J31_size a1 _ h) X hB (fun h => h) q2499 kc_J31 (by decide) hk_a1 rfl hl.1 (Nat.le_of_ble_eq_true rfl) dX1_change_4 (z_k4 hK1) (z_k4 hK2) (by decide) (by decide)) hB (fun r2 H locs h9 hB => ?_)
  replace h := h9
  clear h9
  refine lv_bipush (v := 6) hx hb dX1_change_7 (by decide) ?_
  refine lv_icmp_ne (tgt := 23) hx hb dX1_change_9 (by decide) (fun c3 => ?_) (fun c3 => ?_)
  · replace h := h.1 c3
    exact ww_X1_change_23 X ho hoc  hB hK1 hK2 (lv_sub hl [0, 1] rfl) h
  · replace h := h.2 c3
    refine lv_aload_n (x := o) hx hb dX1_change_12 rfl (lv_at hl 0 rfl) ?_
    refine z_getq X hB.1 kc_X1 in_X1 (j := 2) (Nat.le_of_ble_eq_true rfl) q1298 (fun _ h => h) rfl (by decide) (z_fo hB ho (by decide)) dX1_change_13 ?_
    refine z_stk (st' := [.ref a1]) (by rw [ea1] <;> rfl) ?_
    obtain ⟨co5, hco5, h⟩ := h
    refine z_callr (z_runV (rest := []) [] pk_J31_removeFirst (met_J31_removeFirst co5 a1 _ h) X hB (z_coR0 hco5) q2500 kc_J31 (by decide) hk_a1 rfl hl.1 (Nat.le_of_ble_eq_true rfl) dX1_change_16 (z_k4 hK1) (z_k4 hK2) (by decide) (by decide)) hB (z_coR hco5) (fun r4 T6 I7 Q8 H locs h9 hF hB => ?_)
    replace h := h9
    clear h9
    replace h := h hF
    obtain ⟨h2, h⟩ := h
    refine z_castR X hB.1 kc_X2 (by decide) h2 q172 (Or.inl rfl) dX1_change_19 ?_
    refine z_astore_n (i := 2) (x := r4) (lv' := [(2, va_rf r4), (0, .ref o), (1, va_rf x1)]) hx hb dX1_change_22 rfl hl (by decide) (by simp [z_cat, z_rfs, z_catq]) (fun ls hl9 => ?_)
    replace hl := hl9
    clear hl9
    exact ww_X1_change_23 X ho hoc  hB hK1 hK2 (lv_sub hl [1, 2] rfl) h
theorem pk_X1_change : z_PV RX1 yX1_change cX1_change 3 none 1 := ⟨q2497, qs23, q94, q2498, by decide +kernel⟩
theorem met_X1_change {l : Launch} {G : z_E} {T : z_T} {I : z_I} {Q : z_Q} (o : Nat) (x1 : Option Nat) (kc : Nat) (ks : Nat) (Qk : z_T → z_I → z_Q → Prop) (h : wp_X1_change G.2.2 T I Q o x1 kc ks Qk) : z_GM l G yX1_change (ws_ yX1_change cX1_change 3 none) 12 214 kc ks [.ref o, va_rf x1] z_PR T I Q (z_qv Qk) z_no := by
  obtain ⟨ho, hoc, h⟩ := h
  refine z_body (own := RX1) (nm := "change") (by decide +kernel) rfl rfl (by cases x1 <;> exact Nat.le_of_ble_eq_true rfl) (fun p e R s m below meth c A ls X hB hl => ?_)
  replace hl : lv_has ls 3 [(0, .ref o), (1, va_rf x1)] := by cases x1 <;> exact hl
  exact ww_X1_change_0 X ho hoc hB z_k0 z_k0 hl h
/-! X1_tick -/
theorem ww_X1_tick_0 {o : Nat} {Qk : Int32 → z_T → z_I → z_Q → Prop} {Xk : String → Nat → z_T → z_I → z_Q → Prop} (X : z_X l G A p R s m args meth c cX1_tick 4 RX1 "tick" (some .int) mc ms 27 536) (ho : (T0 o).1 = 1) {cells slots : Nat} {T : z_T} {I : z_I} {Q : z_Q} {kc : Nat} {ks : Nat} {x1 : Int32} {H : Heap} {locs : List Loc} {ls : Array Slot} (hB : z_HB G z_PR A s.heap T0 I0 Q0 T I Q H locs) (hK1 : cells + kc ≤ mc) (hK2 : slots + ks ≤ ms) (hl : lv_has ls 4 [(0, .ref o), (1, .int x1)]) (h : wb_X1_tick_0 G.2.2 o Qk Xk T I Q kc ks x1) : W p l e R s m args below meth c H locs cells slots (z_MQ below G z_PR A T0 I0 Q0 (z_qi Qk) Xk args s mc ms) (F0 m 0 ls []) := by
  obtain ⟨hx, hb, -⟩ := id X
  unfold wb_X1_tick_0 at h
  obtain ⟨co1, hco1, h⟩ := h
  obtain ⟨g1, g2, h⟩ := h
  refine z_new (col := co1) tyX2 X hB kc_X2 in_X2 tyX2_ok q172 q173 q95 (by decide) (z_dvX2) hco1 (z_k1 hK1 g1) (z_k1 hK2 g2) dX1_tick_0 (fun a2 H hq hB => ?_)
  obtain ⟨T3, eT3⟩ : ∃ z, z = z_t T a2 (3, 0, co1) := ⟨_, rfl⟩
  obtain ⟨I4, eI4⟩ : ∃ z, z = z_row I a2 (fun _ => 0) := ⟨_, rfl⟩
  obtain ⟨Q5, eQ5⟩ : ∃ z, z = z_row Q a2 (fun _ => none) := ⟨_, rfl⟩
  rw [← eT3, ← eI4, ← eQ5] at hB
  replace h := h a2 T3 I4 Q5 hq eT3 eI4 eQ5
  have hk_a2 := z_tq eT3
  have hc_a2 : 3 ≤ (T3 a2).2.2 := by rw [z_tqc eT3]; exact hco1
  replace hK1 := z_k2 hK1 g1
  replace hK2 := z_k2 hK2 g2
  refine lv_dup hx hb dX1_tick_3 rfl ?_
  refine lv_aload_n (x := o) hx hb dX1_tick_4 rfl (lv_at hl 0 rfl) ?_
  refine z_getq X hB.1 kc_X1 in_X1 (j := 0) (Nat.le_of_ble_eq_true rfl) q1296 (fun _ h => h) rfl (by decide) (z_fo hB ho (by decide)) dX1_tick_5 ?_
  obtain ⟨co7, hco7, h⟩ := h
  obtain ⟨kc8, ks9, g1, g2, h⟩ := h
  refine z_callv (z_runI (rest := [.ref a2]) [va_rf (Q5 o 0)] pk_X2_init_2 (met_X2_init_2 co7 a2 (Q5 o 0) kc8 ks9 _ h) X hB (z_coR0 hco7) q1627 rfl hl.1 (Nat.le_of_ble_eq_true rfl) dX1_tick_8 (z_k1 hK1 g1) (z_k1 hK2 g2) (by decide) (by decide)) hB (z_coR hco7) (fun T10 I11 Q12 H locs h9 hF hB => ?_)
  replace h := h9
  clear h9
  replace h := h hF
  have hc_a2 : 3 ≤ (T10 a2).2.2 := by rw [z_te hF hk_a2 (by decide)]; exact hc_a2
  have hk_a2 := z_tk hF hk_a2 (by decide)
  replace hK1 := z_k2 hK1 g1
  replace hK2 := z_k2 hK2 g2
  refine lv_astore_n (x := a2) (lv' := [(2, .ref a2), (0, .ref o), (1, .int x1)]) hx hb dX1_tick_11 rfl hl (by decide) rfl (fun ls hl9 => ?_)
  replace hl := hl9
  clear hl9
  refine lv_aload_n (x := a2) hx hb dX1_tick_12 rfl (lv_at hl 0 rfl) ?_
  refine lv_iload_n hx hb dX1_tick_13 rfl (lv_at hl 2 rfl) ?_
  obtain ⟨kc14, ks15, g1, g2, h⟩ := h
  refine z_callXi (z_runS (rest := []) [.ref a2, .int x1] pk_X1_tickIn (met_X1_tickIn (some a2) x1 kc14 ks15 _ _ h) X hB hB.2.2.2.2.2.2 q2780 rfl hl.1 (Nat.le_of_ble_eq_true rfl) dX1_tick_14 (z_k1 hK1 g1) (z_k1 hK2 g2) (by decide) (by decide)) hB (fun _ h => h) (z_on (by decide +kernel) X (z_k1 hK1 g1) (z_k1 hK2 g2)) (fun r13 T16 I17 Q18 H locs h9 hF hB => ?_)
  replace h := h9
  clear h9
  replace h := h hF
  have hc_a2 : 3 ≤ (T16 a2).2.2 := by rw [z_te hF hk_a2 (by decide)]; exact hc_a2
  have hk_a2 := z_tk hF hk_a2 (by decide)
  replace hK1 := z_k2 hK1 g1
  replace hK2 := z_k2 hK2 g2
  refine lv_istore_n (lv' := [(3, .int r13), (2, .ref a2), (0, .ref o), (1, .int x1)]) hx hb dX1_tick_17 rfl hl (by decide) rfl (fun ls hl9 => ?_)
  replace hl := hl9
  clear hl9
  refine lv_aload_n (x := o) hx hb dX1_tick_18 rfl (lv_at hl 2 rfl) ?_
  refine lv_aload_n (x := a2) hx hb dX1_tick_19 rfl (lv_at hl 1 rfl) ?_
  obtain ⟨kc20, ks21, g1, g2, h⟩ := h
  refine z_callv (z_runV (rest := []) [.ref a2] pk_X1_change (met_X1_change o (some a2) kc20 ks21 _ h) X hB hB.2.2.2.2.2.2 q2495 kc_X1 (by decide) (z_fo hB ho (by decide)) rfl hl.1 (Nat.le_of_ble_eq_true rfl) dX1_tick_20 (z_k1 hK1 g1) (z_k1 hK2 g2) (by decide) (by decide)) hB (fun _ h => h) (fun T22 I23 Q24 H locs h9 hF hB => ?_)
  replace h := h9
  clear h9
  replace h := h hF
  have hc_a2 : 3 ≤ (T22 a2).2.2 := by rw [z_te hF hk_a2 (by decide)]; exact hc_a2
  have hk_a2 := z_tk hF hk_a2 (by decide)
  replace hK1 := z_k2 hK1 g1
  replace hK2 := z_k2 hK2 g2
  refine lv_iload_n hx hb dX1_tick_23 rfl (lv_at hl 0 rfl) ?_
  exact z_iret X hB ⟨_, rfl, h⟩ (z_k3 hK1) (z_k3 hK2) dX1_tick_24
theorem pk_X1_tick : z_PV RX1 yX1_tick cX1_tick 4 (some .int) 1 := ⟨q2777, q2778, q94, q2779, by decide +kernel⟩
theorem met_X1_tick {l : Launch} {G : z_E} {T : z_T} {I : z_I} {Q : z_Q} (o : Nat) (x1 : Int32) (kc : Nat) (ks : Nat) (Qk : Int32 → z_T → z_I → z_Q → Prop) (Xk : String → Nat → z_T → z_I → z_Q → Prop) (h : wp_X1_tick G.2.2 T I Q o x1 kc ks Qk Xk) : z_GM l G yX1_tick (ws_ yX1_tick cX1_tick 4 (some .int)) 27 536 kc ks [.ref o, .int x1] z_PR T I Q (z_qi Qk) Xk := by
  obtain ⟨ho, h⟩ := h
  refine z_body (own := RX1) (nm := "tick") (by decide +kernel) rfl rfl (Nat.le_of_ble_eq_true rfl) (fun p e R s m below meth c A ls X hB hl => ?_)
  exact ww_X1_tick_0 X ho hB z_k0 z_k0 hl h
/-! X1_waiting -/
theorem ww_X1_waiting_0 {o : Nat} {Qk : Int32 → z_T → z_I → z_Q → Prop} {Xk : String → Nat → z_T → z_I → z_Q → Prop} (X : z_X l G A p R s m args meth c cX1_waiting 4 RX1 "waiting" (some .int) mc ms 13 228) (ho : (T0 o).1 = 1) {cells slots : Nat} {T : z_T} {I : z_I} {Q : z_Q} {kc : Nat} {ks : Nat} {x1 : Int32} {x2 : Int32} {H : Heap} {locs : List Loc} {ls : Array Slot} (hB : z_HB G z_PR A s.heap T0 I0 Q0 T I Q H locs) (hK1 : cells + kc ≤ mc) (hK2 : slots + ks ≤ ms) (hl : lv_has ls 4 [(0, .ref o), (1, .int x1), (2, .int x2)]) (h : wb_X1_waiting_0 o Qk Xk T I Q kc ks x1 x2) : W p l e R s m args below meth c H locs cells slots (z_MQ below G z_PR A T0 I0 Q0 (z_qi Qk) Xk args s mc ms) (F0 m 0 ls []) := by
  obtain ⟨hx, hb, -⟩ := id X
  unfold wb_X1_waiting_0 at h
  refine lv_iload_n hx hb dX1_waiting_0 rfl (lv_at hl 1 rfl) ?_
  refine lv_iconst (v := 3) hx hb dX1_waiting_1 (by decide) ?_
  obtain ⟨kc2, ks3, g1, g2, h⟩ := h
  refine z_callXv (z_runS (rest := []) [.int x1, .int 3] pk_X1_checkIndex (met_X1_checkIndex x1 3 kc2 ks3 _ _ h) X hB hB.2.2.2.2.2.2 q2387 rfl hl.1 (Nat.le_of_ble_eq_true rfl) dX1_waiting_2 (z_k1 hK1 g1) (z_k1 hK2 g2) (by decide) (by decide)) hB (fun _ h => h) (z_on (by decide +kernel) X (z_k1 hK1 g1) (z_k1 hK2 g2)) (fun T4 I5 Q6 H locs h9 hF hB => ?_)
  replace h := h9
  clear h9
  replace h := h hF
  replace hK1 := z_k2 hK1 g1
  replace hK2 := z_k2 hK2 g2
  refine lv_iload_n hx hb dX1_waiting_5 rfl (lv_at hl 2 rfl) ?_
  refine lv_aload_n (x := o) hx hb dX1_waiting_6 rfl (lv_at hl 0 rfl) ?_
  refine z_getq X hB.1 kc_X1 in_X1 (j := 0) (Nat.le_of_ble_eq_true rfl) q1296 (fun _ h => h) rfl (by decide) (z_fo hB ho (by decide)) dX1_waiting_7 ?_
  obtain ⟨a7, ea7, h⟩ := h
  refine z_stk (st' := [.ref a7, .int x2]) (by rw [ea7] <;> rfl) ?_
  obtain ⟨hk_a7, h⟩ := h
  refine z_getqN X hB.1 kc_X2 in_X2 (j := 2) (Nat.le_of_ble_eq_true rfl) q1243 (fun _ h => h) rfl (by decide) hk_a7 dX1_waiting_10 ?_
  refine lv_iload_n hx hb dX1_waiting_13 rfl (lv_at hl 1 rfl) ?_
  obtain ⟨a8, ea8, h⟩ := h
  refine z_stk (st' := [.int x1, .ref a8, .int x2]) (by rw [ea8] <;> rfl) ?_
  obtain ⟨hk_a8, h⟩ := h
  obtain ⟨h1, h⟩ := h
  refine z_aald (k := 4) X hB.1 (by decide) hk_a8 h1 dX1_waiting_14 ?_
  obtain ⟨a9, ea9, h⟩ := h
  refine z_stk (st' := [.ref a9, .int x2]) (by rw [ea9] <;> rfl) ?_
  obtain ⟨hk_a9, h⟩ := h
  refine z_getqN X hB.1 kc_X4 in_X4 (j := 2) (Nat.le_of_ble_eq_true rfl) q1184 (fun _ h => h) rfl (by decide) hk_a9 dX1_waiting_15 ?_
  obtain ⟨a10, ea10, h⟩ := h
  refine z_stk (st' := [.ref a10, .int x2]) (by rw [ea10] <;> rfl) ?_
  obtain ⟨hk_a10, h⟩ := h
  refine z_callip (z_runV (rest := [.int x2]) [] pk_J31_size (met_J31_size a10 _ h) X hB (fun h => h) q2499 kc_J31 (by decide) hk_a10 rfl hl.1 (Nat.le_of_ble_eq_true rfl) dX1_waiting_18 (z_k4 hK1) (z_k4 hK2) (by decide) (by decide)) hB (fun r11 H locs h9 hB => ?_)
  replace h := h9
  clear h9
  obtain ⟨kc13, ks14, g1, g2, h⟩ := h
  refine z_callXv (z_runS (rest := []) [.int x2, .int r11] pk_X1_checkIndex (met_X1_checkIndex x2 r11 kc13 ks14 _ _ h) X hB hB.2.2.2.2.2.2 q2387 rfl hl.1 (Nat.le_of_ble_eq_true rfl) dX1_waiting_21 (z_k1 hK1 g1) (z_k1 hK2 g2) (by decide) (by decide)) hB (fun _ h => h) (z_on (by decide +kernel) X (z_k1 hK1 g1) (z_k1 hK2 g2)) (fun T15 I16 Q17 H locs h9 hF hB => ?_)
  replace h := h9
  clear h9
  replace h := h hF
  replace hK1 := z_k2 hK1 g1
  replace hK2 := z_k2 hK2 g2
  refine lv_aload_n (x := o) hx hb dX1_waiting_24 rfl (lv_at hl 0 rfl) ?_
  refine z_getq X hB.1 kc_X1 in_X1 (j := 0) (Nat.le_of_ble_eq_true rfl) q1296 (fun _ h => h) rfl (by decide) (z_fo hB ho (by decide)) dX1_waiting_25 ?_
  obtain ⟨a18, ea18, h⟩ := h
  refine z_stk (st' := [.ref a18]) (by rw [ea18] <;> rfl) ?_
  obtain ⟨hk_a18, h⟩ := h
  refine z_getqN X hB.1 kc_X2 in_X2 (j := 2) (Nat.le_of_ble_eq_true rfl) q1243 (fun _ h => h) rfl (by decide) hk_a18 dX1_waiting_28 ?_
  refine lv_iload_n hx hb dX1_waiting_31 rfl (lv_at hl 1 rfl) ?_
  obtain ⟨a19, ea19, h⟩ := h
  refine z_stk (st' := [.int x1, .ref a19]) (by rw [ea19] <;> rfl) ?_
  obtain ⟨hk_a19, h⟩ := h
  obtain ⟨h1, h⟩ := h
  refine z_aald (k := 4) X hB.1 (by decide) hk_a19 h1 dX1_waiting_32 ?_
  obtain ⟨a20, ea20, h⟩ := h
  refine z_stk (st' := [.ref a20]) (by rw [ea20] <;> rfl) ?_
  obtain ⟨hk_a20, h⟩ := h
  refine z_getqN X hB.1 kc_X4 in_X4 (j := 2) (Nat.le_of_ble_eq_true rfl) q1184 (fun _ h => h) rfl (by decide) hk_a20 dX1_waiting_33 ?_
  refine lv_iload_n hx hb dX1_waiting_36 rfl (lv_at hl 2 rfl) ?_
  obtain ⟨kc22, ks23, g1, g2, h⟩ := h
  refine z_callr (z_runS (rest := []) [va_rf (Q17 a20 2), .int x2] pk_X1_elementAt (met_X1_elementAt (Q17 a20 2) x2 kc22 ks23 _ h) X hB hB.2.2.2.2.2.2 q2599 rfl hl.1 (Nat.le_of_ble_eq_true rfl) dX1_waiting_37 (z_k1 hK1 g1) (z_k1 hK2 g2) (by decide) (by decide)) hB (fun _ h => h) (fun r21 T24 I25 Q26 H locs h9 hF hB => ?_)
  replace h := h9
  clear h9
  replace h := h hF
  replace hK1 := z_k2 hK1 g1
  replace hK2 := z_k2 hK2 g2
  obtain ⟨h2, h⟩ := h
  refine z_castR X hB.1 kc_X6 (by decide) h2 q2708 (Or.inl rfl) dX1_waiting_40 ?_
  refine z_astore_n (x := r21) (lv' := [(3, va_rf r21), (0, .ref o), (1, .int x1), (2, .int x2)]) hx hb dX1_waiting_43 rfl hl (by decide) rfl (fun ls hl9 => ?_)
  replace hl := hl9
  clear hl9
  refine z_aload_n (x := r21) hx hb dX1_waiting_44 rfl (lv_at hl 0 rfl) ?_
  obtain ⟨a27, rfl, h⟩ := h
  obtain ⟨hk_a27, h⟩ := h
  refine z_getiN X hB.1 kc_X6 in_X6 (j := 0) (Nat.le_of_ble_eq_true rfl) q2288 (fun _ h => h) rfl (by decide) hk_a27 dX1_waiting_45 ?_
  exact z_iret X hB ⟨_, rfl, h⟩ (z_k3 hK1) (z_k3 hK2) dX1_waiting_48
theorem pk_X1_waiting : z_PV RX1 yX1_waiting cX1_waiting 4 (some .int) 2 := ⟨q2770, q2771, q94, q2772, by decide +kernel⟩
theorem met_X1_waiting {l : Launch} {G : z_E} {T : z_T} {I : z_I} {Q : z_Q} (o : Nat) (x1 : Int32) (x2 : Int32) (kc : Nat) (ks : Nat) (Qk : Int32 → z_T → z_I → z_Q → Prop) (Xk : String → Nat → z_T → z_I → z_Q → Prop) (h : wp_X1_waiting T I Q o x1 x2 kc ks Qk Xk) : z_GM l G yX1_waiting (ws_ yX1_waiting cX1_waiting 4 (some .int)) 13 228 kc ks [.ref o, .int x1, .int x2] z_PR T I Q (z_qi Qk) Xk := by
  obtain ⟨ho, h⟩ := h
  refine z_body (own := RX1) (nm := "waiting") (by decide +kernel) rfl rfl (Nat.le_of_ble_eq_true rfl) (fun p e R s m below meth c A ls X hB hl => ?_)
  exact ww_X1_waiting_0 X ho hB z_k0 z_k0 hl h
/-! X1_arm -/
theorem ww_X1_arm_0 {o : Nat} {Qk : Int32 → z_T → z_I → z_Q → Prop} {Xk : String → Nat → z_T → z_I → z_Q → Prop} (X : z_X l G A p R s m args meth c cX1_arm 3 RX1 "arm" (some .int) mc ms 11 183) (ho : (T0 o).1 = 1) {cells slots : Nat} {T : z_T} {I : z_I} {Q : z_Q} {kc : Nat} {ks : Nat} {x1 : Int32} {x2 : Int32} {H : Heap} {locs : List Loc} {ls : Array Slot} (hB : z_HB G z_PR A s.heap T0 I0 Q0 T I Q H locs) (hK1 : cells + kc ≤ mc) (hK2 : slots + ks ≤ ms) (hl : lv_has ls 3 [(0, .ref o), (1, .int x1), (2, .int x2)]) (h : wb_X1_arm_0 o Qk Xk T I Q kc ks x1 x2) : W p l e R s m args below meth c H locs cells slots (z_MQ below G z_PR A T0 I0 Q0 (z_qi Qk) Xk args s mc ms) (F0 m 0 ls []) := by
  obtain ⟨hx, hb, -⟩ := id X
  unfold wb_X1_arm_0 at h
  refine lv_iload_n hx hb dX1_arm_0 rfl (lv_at hl 1 rfl) ?_
  refine lv_iconst (v := 3) hx hb dX1_arm_1 (by decide) ?_
  obtain ⟨kc2, ks3, g1, g2, h⟩ := h
  refine z_callXv (z_runS (rest := []) [.int x1, .int 3] pk_X1_checkIndex (met_X1_checkIndex x1 3 kc2 ks3 _ _ h) X hB hB.2.2.2.2.2.2 q2387 rfl hl.1 (Nat.le_of_ble_eq_true rfl) dX1_arm_2 (z_k1 hK1 g1) (z_k1 hK2 g2) (by decide) (by decide)) hB (fun _ h => h) (z_on (by decide +kernel) X (z_k1 hK1 g1) (z_k1 hK2 g2)) (fun T4 I5 Q6 H locs h9 hF hB => ?_)
  replace h := h9
  clear h9
  replace h := h hF
  replace hK1 := z_k2 hK1 g1
  replace hK2 := z_k2 hK2 g2
  refine lv_iload_n hx hb dX1_arm_5 rfl (lv_at hl 2 rfl) ?_
  refine lv_iconst (v := 0) hx hb dX1_arm_6 (by decide) ?_
  refine lv_bipush (v := 9) hx hb dX1_arm_7 (by decide) ?_
  refine z_callzp (z_runS (rest := []) [.int x2, .int 0, .int 9] pk_X1_inRange (met_X1_inRange x2 0 9 _ h) X hB (fun h => h) q2390 rfl hl.1 (Nat.le_of_ble_eq_true rfl) dX1_arm_9 (z_k4 hK1) (z_k4 hK2) (by decide) (by decide)) hB (fun r7 H locs hz h9 hB => ?_)
  replace h := h9
  clear h9
  replace h := h hz
  obtain ⟨kc9, ks10, g1, g2, h⟩ := h
  refine z_callXv (z_runS (rest := []) [.int r7] pk_X1_checkArgument (met_X1_checkArgument r7 kc9 ks10 _ _ h) X hB hB.2.2.2.2.2.2 q2408 rfl hl.1 (Nat.le_of_ble_eq_true rfl) dX1_arm_12 (z_k1 hK1 g1) (z_k1 hK2 g2) (by decide) (by decide)) hB (fun _ h => h) (z_on (by decide +kernel) X (z_k1 hK1 g1) (z_k1 hK2 g2)) (fun T11 I12 Q13 H locs h9 hF hB => ?_)
  replace h := h9
  clear h9
  replace h := h hF
  replace hK1 := z_k2 hK1 g1
  replace hK2 := z_k2 hK2 g2
  refine lv_aload_n (x := o) hx hb dX1_arm_15 rfl (lv_at hl 0 rfl) ?_
  refine z_getq X hB.1 kc_X1 in_X1 (j := 0) (Nat.le_of_ble_eq_true rfl) q1296 (fun _ h => h) rfl (by decide) (z_fo hB ho (by decide)) dX1_arm_16 ?_
  obtain ⟨a14, ea14, h⟩ := h
  refine z_stk (st' := [.ref a14]) (by rw [ea14] <;> rfl) ?_
  obtain ⟨hk_a14, h⟩ := h
  refine z_getqN X hB.1 kc_X2 in_X2 (j := 2) (Nat.le_of_ble_eq_true rfl) q1243 (fun _ h => h) rfl (by decide) hk_a14 dX1_arm_19 ?_
  refine lv_iload_n hx hb dX1_arm_22 rfl (lv_at hl 1 rfl) ?_
  obtain ⟨a15, ea15, h⟩ := h
  refine z_stk (st' := [.int x1, .ref a15]) (by rw [ea15] <;> rfl) ?_
  obtain ⟨hk_a15, h⟩ := h
  obtain ⟨h1, h⟩ := h
  refine z_aald (k := 4) X hB.1 (by decide) hk_a15 h1 dX1_arm_23 ?_
  refine lv_iload_n hx hb dX1_arm_24 rfl (lv_at hl 2 rfl) ?_
  obtain ⟨a16, ea16, h⟩ := h
  refine z_stk (st' := [.int x2, .ref a16]) (by rw [ea16] <;> rfl) ?_
  obtain ⟨hk_a16, h⟩ := h
  refine z_callip (z_runV (rest := []) [.int x2] pk_X4_part (met_X4_part a16 x2 _ h) X hB (fun h => h) q2756 kc_X4 (by decide) hk_a16 rfl hl.1 (Nat.le_of_ble_eq_true rfl) dX1_arm_25 (z_k4 hK1) (z_k4 hK2) (by decide) (by decide)) hB (fun r17 H locs h9 hB => ?_)
  replace h := h9
  clear h9
  exact z_iret X hB ⟨_, rfl, h⟩ (z_k3 hK1) (z_k3 hK2) dX1_arm_28
theorem pk_X1_arm : z_PV RX1 yX1_arm cX1_arm 3 (some .int) 2 := ⟨q2753, q2754, q94, q2755, by decide +kernel⟩
theorem met_X1_arm {l : Launch} {G : z_E} {T : z_T} {I : z_I} {Q : z_Q} (o : Nat) (x1 : Int32) (x2 : Int32) (kc : Nat) (ks : Nat) (Qk : Int32 → z_T → z_I → z_Q → Prop) (Xk : String → Nat → z_T → z_I → z_Q → Prop) (h : wp_X1_arm T I Q o x1 x2 kc ks Qk Xk) : z_GM l G yX1_arm (ws_ yX1_arm cX1_arm 3 (some .int)) 11 183 kc ks [.ref o, .int x1, .int x2] z_PR T I Q (z_qi Qk) Xk := by
  obtain ⟨ho, h⟩ := h
  refine z_body (own := RX1) (nm := "arm") (by decide +kernel) rfl rfl (Nat.le_of_ble_eq_true rfl) (fun p e R s m below meth c A ls X hB hl => ?_)
  exact ww_X1_arm_0 X ho hB z_k0 z_k0 hl h
/-! X1_job -/
theorem ww_X1_job_0 {o : Nat} {Qk : Int32 → z_T → z_I → z_Q → Prop} {Xk : String → Nat → z_T → z_I → z_Q → Prop} (X : z_X l G A p R s m args meth c cX1_job 3 RX1 "job" (some .int) mc ms 11 184) (ho : (T0 o).1 = 1) {cells slots : Nat} {T : z_T} {I : z_I} {Q : z_Q} {kc : Nat} {ks : Nat} {x1 : Int32} {x2 : Int32} {H : Heap} {locs : List Loc} {ls : Array Slot} (hB : z_HB G z_PR A s.heap T0 I0 Q0 T I Q H locs) (hK1 : cells + kc ≤ mc) (hK2 : slots + ks ≤ ms) (hl : lv_has ls 3 [(0, .ref o), (1, .int x1), (2, .int x2)]) (h : wb_X1_job_0 o Qk Xk T I Q kc ks x1 x2) : W p l e R s m args below meth c H locs cells slots (z_MQ below G z_PR A T0 I0 Q0 (z_qi Qk) Xk args s mc ms) (F0 m 0 ls []) := by
  obtain ⟨hx, hb, -⟩ := id X
  unfold wb_X1_job_0 at h
  refine lv_iload_n hx hb dX1_job_0 rfl (lv_at hl 1 rfl) ?_
  refine lv_aload_n (x := o) hx hb dX1_job_1 rfl (lv_at hl 0 rfl) ?_
  refine z_getq X hB.1 kc_X1 in_X1 (j := 0) (Nat.le_of_ble_eq_true rfl) q1296 (fun _ h => h) rfl (by decide) (z_fo hB ho (by decide)) dX1_job_2 ?_
  obtain ⟨a1, ea1, h⟩ := h
  refine z_stk (st' := [.ref a1, .int x1]) (by rw [ea1] <;> rfl) ?_
  obtain ⟨hk_a1, h⟩ := h
  refine z_getqN X hB.1 kc_X2 in_X2 (j := 3) (Nat.le_of_ble_eq_true rfl) q1247 (fun _ h => h) rfl (by decide) hk_a1 dX1_job_5 ?_
  obtain ⟨a2, ea2, h⟩ := h
  refine z_stk (st' := [.ref a2, .int x1]) (by rw [ea2] <;> rfl) ?_
  obtain ⟨hk_a2, h⟩ := h
  refine z_callip (z_runV (rest := [.int x1]) [] pk_J30_size (met_J30_size a2 _ h) X hB (fun h => h) q2704 kc_J30 (by decide) hk_a2 rfl hl.1 (Nat.le_of_ble_eq_true rfl) dX1_job_8 (z_k4 hK1) (z_k4 hK2) (by decide) (by decide)) hB (fun r3 H locs h9 hB => ?_)
  replace h := h9
  clear h9
  obtain ⟨kc5, ks6, g1, g2, h⟩ := h
  refine z_callXv (z_runS (rest := []) [.int x1, .int r3] pk_X1_checkIndex (met_X1_checkIndex x1 r3 kc5 ks6 _ _ h) X hB hB.2.2.2.2.2.2 q2387 rfl hl.1 (Nat.le_of_ble_eq_true rfl) dX1_job_11 (z_k1 hK1 g1) (z_k1 hK2 g2) (by decide) (by decide)) hB (fun _ h => h) (z_on (by decide +kernel) X (z_k1 hK1 g1) (z_k1 hK2 g2)) (fun T7 I8 Q9 H locs h9 hF hB => ?_)
  replace h := h9
  clear h9
  replace h := h hF
  replace hK1 := z_k2 hK1 g1
  replace hK2 := z_k2 hK2 g2
  refine lv_iload_n hx hb dX1_job_14 rfl (lv_at hl 2 rfl) ?_
  refine lv_iconst (v := 0) hx hb dX1_job_15 (by decide) ?_
  refine lv_bipush (v := 8) hx hb dX1_job_16 (by decide) ?_
  refine z_callzp (z_runS (rest := []) [.int x2, .int 0, .int 8] pk_X1_inRange (met_X1_inRange x2 0 8 _ h) X hB (fun h => h) q2390 rfl hl.1 (Nat.le_of_ble_eq_true rfl) dX1_job_18 (z_k4 hK1) (z_k4 hK2) (by decide) (by decide)) hB (fun r10 H locs hz h9 hB => ?_)
  replace h := h9
  clear h9
  replace h := h hz
  obtain ⟨kc12, ks13, g1, g2, h⟩ := h
  refine z_callXv (z_runS (rest := []) [.int r10] pk_X1_checkArgument (met_X1_checkArgument r10 kc12 ks13 _ _ h) X hB hB.2.2.2.2.2.2 q2408 rfl hl.1 (Nat.le_of_ble_eq_true rfl) dX1_job_21 (z_k1 hK1 g1) (z_k1 hK2 g2) (by decide) (by decide)) hB (fun _ h => h) (z_on (by decide +kernel) X (z_k1 hK1 g1) (z_k1 hK2 g2)) (fun T14 I15 Q16 H locs h9 hF hB => ?_)
  replace h := h9
  clear h9
  replace h := h hF
  replace hK1 := z_k2 hK1 g1
  replace hK2 := z_k2 hK2 g2
  refine lv_aload_n (x := o) hx hb dX1_job_24 rfl (lv_at hl 0 rfl) ?_
  refine z_getq X hB.1 kc_X1 in_X1 (j := 0) (Nat.le_of_ble_eq_true rfl) q1296 (fun _ h => h) rfl (by decide) (z_fo hB ho (by decide)) dX1_job_25 ?_
  obtain ⟨a17, ea17, h⟩ := h
  refine z_stk (st' := [.ref a17]) (by rw [ea17] <;> rfl) ?_
  obtain ⟨hk_a17, h⟩ := h
  refine z_getqN X hB.1 kc_X2 in_X2 (j := 3) (Nat.le_of_ble_eq_true rfl) q1247 (fun _ h => h) rfl (by decide) hk_a17 dX1_job_28 ?_
  refine lv_iload_n hx hb dX1_job_31 rfl (lv_at hl 1 rfl) ?_
  obtain ⟨a18, ea18, h⟩ := h
  refine z_stk (st' := [.int x1, .ref a18]) (by rw [ea18] <;> rfl) ?_
  obtain ⟨hk_a18, h⟩ := h
  refine z_callrp (z_runV (rest := []) [.int x1] pk_J30_get (met_J30_get a18 x1 _ h) X hB (fun h => h) q2740 kc_J30 (by decide) hk_a18 rfl hl.1 (Nat.le_of_ble_eq_true rfl) dX1_job_32 (z_k4 hK1) (z_k4 hK2) (by decide) (by decide)) hB (fun r19 H locs h9 hB => ?_)
  replace h := h9
  clear h9
  obtain ⟨h2, h⟩ := h
  refine z_castR X hB.1 kc_X6 (by decide) h2 q2708 (Or.inl rfl) dX1_job_35 ?_
  refine lv_iload_n hx hb dX1_job_38 rfl (lv_at hl 2 rfl) ?_
  obtain ⟨a20, rfl, h⟩ := h
  obtain ⟨hk_a20, h⟩ := h
  refine z_callip (z_runV (rest := []) [.int x2] pk_X6_part (met_X6_part a20 x2 _ h) X hB (fun h => h) q2741 kc_X6 (by decide) hk_a20 rfl hl.1 (Nat.le_of_ble_eq_true rfl) dX1_job_39 (z_k4 hK1) (z_k4 hK2) (by decide) (by decide)) hB (fun r21 H locs h9 hB => ?_)
  replace h := h9
  clear h9
  exact z_iret X hB ⟨_, rfl, h⟩ (z_k3 hK1) (z_k3 hK2) dX1_job_42
theorem pk_X1_job : z_PV RX1 yX1_job cX1_job 3 (some .int) 2 := ⟨q2737, q2738, q94, q2739, by decide +kernel⟩
theorem met_X1_job {l : Launch} {G : z_E} {T : z_T} {I : z_I} {Q : z_Q} (o : Nat) (x1 : Int32) (x2 : Int32) (kc : Nat) (ks : Nat) (Qk : Int32 → z_T → z_I → z_Q → Prop) (Xk : String → Nat → z_T → z_I → z_Q → Prop) (h : wp_X1_job T I Q o x1 x2 kc ks Qk Xk) : z_GM l G yX1_job (ws_ yX1_job cX1_job 3 (some .int)) 11 184 kc ks [.ref o, .int x1, .int x2] z_PR T I Q (z_qi Qk) Xk := by
  obtain ⟨ho, h⟩ := h
  refine z_body (own := RX1) (nm := "job") (by decide +kernel) rfl rfl (Nat.le_of_ble_eq_true rfl) (fun p e R s m below meth c A ls X hB hl => ?_)
  exact ww_X1_job_0 X ho hB z_k0 z_k0 hl h
/-! X1_withdraw -/
theorem ww_X1_withdraw_28 {o : Nat} {Qk : Int32 → z_T → z_I → z_Q → Prop} {Xk : String → Nat → z_T → z_I → z_Q → Prop} (X : z_X l G A p R s m args meth c cX1_withdraw 4 RX1 "withdraw" (some .int) mc ms 15 292) (ho : (T0 o).1 = 1) {cells slots : Nat} {T : z_T} {I : z_I} {Q : z_Q} {kc : Nat} {ks : Nat} {x1 : Int32} {s0 : Int32} {H : Heap} {locs : List Loc} {ls : Array Slot} (hB : z_HB G z_PR A s.heap T0 I0 Q0 T I Q H locs) (hK1 : cells + kc ≤ mc) (hK2 : slots + ks ≤ ms) (hl : lv_has ls 4 [(0, .ref o), (1, .int x1)]) (h : wb_X1_withdraw_28 G.2.2 o Qk Xk T I Q kc ks x1 s0) : W p l e R s m args below meth c H locs cells slots (z_MQ below G z_PR A T0 I0 Q0 (z_qi Qk) Xk args s mc ms) (F0 m 28 ls [.int s0]) := by
  obtain ⟨hx, hb, -⟩ := id X
  unfold wb_X1_withdraw_28 at h
  obtain ⟨kc14, ks15, g1, g2, h⟩ := h
  refine z_callXv (z_runS (rest := []) [.int s0] pk_X1_checkFound (met_X1_checkFound s0 kc14 ks15 _ _ h) X hB hB.2.2.2.2.2.2 q2594 rfl hl.1 (Nat.le_of_ble_eq_true rfl) dX1_withdraw_28 (z_k1 hK1 g1) (z_k1 hK2 g2) (by decide) (by decide)) hB (fun _ h => h) (z_on (by decide +kernel) X (z_k1 hK1 g1) (z_k1 hK2 g2)) (fun T16 I17 Q18 H locs h9 hF hB => ?_)
  replace h := h9
  clear h9
  replace h := h hF
  replace hK1 := z_k2 hK1 g1
  replace hK2 := z_k2 hK2 g2
  obtain ⟨co19, hco19, h⟩ := h
  obtain ⟨g1, g2, h⟩ := h
  refine z_new (col := co19) tyX2 X hB kc_X2 in_X2 tyX2_ok q172 q173 q95 (by decide) (z_dvX2) hco19 (z_k1 hK1 g1) (z_k1 hK2 g2) dX1_withdraw_31 (fun a20 H hq hB => ?_)
  obtain ⟨T21, eT21⟩ : ∃ z, z = z_t T16 a20 (3, 0, co19) := ⟨_, rfl⟩
  obtain ⟨I22, eI22⟩ : ∃ z, z = z_row I17 a20 (fun _ => 0) := ⟨_, rfl⟩
  obtain ⟨Q23, eQ23⟩ : ∃ z, z = z_row Q18 a20 (fun _ => none) := ⟨_, rfl⟩
  rw [← eT21, ← eI22, ← eQ23] at hB
  replace h := h a20 T21 I22 Q23 hq eT21 eI22 eQ23
  have hk_a20 := z_tq eT21
  have hc_a20 : 3 ≤ (T21 a20).2.2 := by rw [z_tqc eT21]; exact hco19
  replace hK1 := z_k2 hK1 g1
  replace hK2 := z_k2 hK2 g2
  refine lv_dup hx hb dX1_withdraw_34 rfl ?_
  refine lv_aload_n (x := o) hx hb dX1_withdraw_35 rfl (lv_at hl 0 rfl) ?_
  refine z_getq X hB.1 kc_X1 in_X1 (j := 0) (Nat.le_of_ble_eq_true rfl) q1296 (fun _ h => h) rfl (by decide) (z_fo hB ho (by decide)) dX1_withdraw_36 ?_
  obtain ⟨co25, hco25, h⟩ := h
  obtain ⟨kc26, ks27, g1, g2, h⟩ := h
  refine z_callv (z_runI (rest := [.ref a20]) [va_rf (Q23 o 0)] pk_X2_init_2 (met_X2_init_2 co25 a20 (Q23 o 0) kc26 ks27 _ h) X hB (z_coR0 hco25) q1627 rfl hl.1 (Nat.le_of_ble_eq_true rfl) dX1_withdraw_39 (z_k1 hK1 g1) (z_k1 hK2 g2) (by decide) (by decide)) hB (z_coR hco25) (fun T28 I29 Q30 H locs h9 hF hB => ?_)
  replace h := h9
  clear h9
  replace h := h hF
  have hc_a20 : 3 ≤ (T28 a20).2.2 := by rw [z_te hF hk_a20 (by decide)]; exact hc_a20
  have hk_a20 := z_tk hF hk_a20 (by decide)
  replace hK1 := z_k2 hK1 g1
  replace hK2 := z_k2 hK2 g2
  refine lv_astore_n (x := a20) (lv' := [(2, .ref a20), (0, .ref o), (1, .int x1)]) hx hb dX1_withdraw_42 rfl hl (by decide) rfl (fun ls hl9 => ?_)
  replace hl := hl9
  clear hl9
  refine lv_aload_n (x := a20) hx hb dX1_withdraw_43 rfl (lv_at hl 0 rfl) ?_
  refine z_getqN X hB.1 kc_X2 in_X2 (j := 2) (Nat.le_of_ble_eq_true rfl) q1243 (fun _ h => h) rfl (by decide) hk_a20 dX1_withdraw_44 ?_
  refine lv_iload_n hx hb dX1_withdraw_47 rfl (lv_at hl 2 rfl) ?_
  obtain ⟨a31, ea31, h⟩ := h
  refine z_stk (st' := [.int x1, .ref a31]) (by rw [ea31] <;> rfl) ?_
  obtain ⟨hk_a31, h⟩ := h
  obtain ⟨h1, h⟩ := h
  refine z_aald (k := 4) X hB.1 (by decide) hk_a31 h1 dX1_withdraw_48 ?_
  obtain ⟨a32, ea32, h⟩ := h
  refine z_stk (st' := [.ref a32]) (by rw [ea32] <;> rfl) ?_
  obtain ⟨hk_a32, h⟩ := h
  refine z_getqN X hB.1 kc_X4 in_X4 (j := 2) (Nat.le_of_ble_eq_true rfl) q1184 (fun _ h => h) rfl (by decide) hk_a32 dX1_withdraw_49 ?_
  obtain ⟨a33, ea33, h⟩ := h
  refine z_stk (st' := [.ref a33]) (by rw [ea33] <;> rfl) ?_
  obtain ⟨hk_a33, h⟩ := h
  obtain ⟨co35, hco35, h⟩ := h
  refine z_callr (z_runV (rest := []) [] pk_J31_removeLast (met_J31_removeLast co35 a33 _ h) X hB (z_coR0 hco35) q2722 kc_J31 (by decide) hk_a33 rfl hl.1 (Nat.le_of_ble_eq_true rfl) dX1_withdraw_52 (z_k4 hK1) (z_k4 hK2) (by decide) (by decide)) hB (z_coR hco35) (fun r34 T36 I37 Q38 H locs h9 hF hB => ?_)
  replace h := h9
  clear h9
  replace h := h hF
  have hc_a20 : 3 ≤ (T36 a20).2.2 := by rw [z_te hF hk_a20 (by decide)]; exact hc_a20
  have hk_a20 := z_tk hF hk_a20 (by decide)
  obtain ⟨h2, h⟩ := h
  refine z_castR X hB.1 kc_X6 (by decide) h2 q2708 (Or.inl rfl) dX1_withdraw_55 ?_
  refine z_astore_n (x := r34) (lv' := [(3, va_rf r34), (2, .ref a20), (0, .ref o), (1, .int x1)]) hx hb dX1_withdraw_58 rfl hl (by decide) rfl (fun ls hl9 => ?_)
  replace hl := hl9
  clear hl9
  refine z_aload_n (x := r34) hx hb dX1_withdraw_59 rfl (lv_at hl 0 rfl) ?_
  refine lv_iconst (v := 3) hx hb dX1_withdraw_60 (by decide) ?_
  obtain ⟨a39, rfl, h⟩ := h
  obtain ⟨hk_a39, h⟩ := h
  obtain ⟨hc_a39, h⟩ := h
  obtain ⟨I40, eI40⟩ : ∃ z, z = z_up I37 a39 2 3 := ⟨_, rfl⟩
  replace h := h I40 eI40
  refine z_putiN (x := 3) eI40 tyX6 X hB kc_X6 in_X6 tyX6_ok nmX6 (j := 2) (Nat.le_of_ble_eq_true rfl) q2293 (fun _ h => h) rfl rfl (by decide) hk_a39 hc_a39 rfl (Or.inl rfl) dX1_withdraw_61 (fun H locs hB => ?_)
  refine lv_aload_n (x := a20) hx hb dX1_withdraw_64 rfl (lv_at hl 1 rfl) ?_
  refine lv_dup hx hb dX1_withdraw_65 rfl ?_
  refine z_getiN X hB.1 kc_X2 in_X2 (j := 10) (Nat.le_of_ble_eq_true rfl) q1265 (fun _ h => h) rfl (by decide) hk_a20 dX1_withdraw_66 ?_
  refine lv_iconst (v := 1) hx hb dX1_withdraw_69 (by decide) ?_
  refine lv_iadd hx hb dX1_withdraw_70 ?_
  obtain ⟨I41, eI41⟩ : ∃ z, z = z_up I40 a20 10 ((I40 a20 10) + 1) := ⟨_, rfl⟩
  replace h := h I41 eI41
  refine z_putiN (x := ((I40 a20 10) + 1)) eI41 tyX2 X hB kc_X2 in_X2 tyX2_ok nmX2 (j := 10) (Nat.le_of_ble_eq_true rfl) q1265 (fun _ h => h) rfl rfl (by decide) hk_a20 hc_a20 rfl (Or.inl rfl) dX1_withdraw_71 (fun H locs hB => ?_)
  refine lv_aload_n (x := o) hx hb dX1_withdraw_74 rfl (lv_at hl 2 rfl) ?_
  refine lv_aload_n (x := a20) hx hb dX1_withdraw_75 rfl (lv_at hl 1 rfl) ?_
  obtain ⟨kc43, ks44, g1, g2, h⟩ := h
  refine z_callv (z_runV (rest := []) [.ref a20] pk_X1_change (met_X1_change o (some a20) kc43 ks44 _ h) X hB hB.2.2.2.2.2.2 q2495 kc_X1 (by decide) (z_fo hB ho (by decide)) rfl hl.1 (Nat.le_of_ble_eq_true rfl) dX1_withdraw_76 (z_k1 hK1 g1) (z_k1 hK2 g2) (by decide) (by decide)) hB (fun _ h => h) (fun T45 I46 Q47 H locs h9 hF hB => ?_)
  replace h := h9
  clear h9
  replace h := h hF
  have hc_a20 : 3 ≤ (T45 a20).2.2 := by rw [z_te hF hk_a20 (by decide)]; exact hc_a20
  have hc_a39 : 3 ≤ (T45 a39).2.2 := by rw [z_te hF hk_a39 (by decide)]; exact hc_a39
  have hk_a20 := z_tk hF hk_a20 (by decide)
  have hk_a39 := z_tk hF hk_a39 (by decide)
  replace hK1 := z_k2 hK1 g1
  replace hK2 := z_k2 hK2 g2
  refine lv_aload_n (x := a39) hx hb dX1_withdraw_79 rfl (lv_at hl 0 rfl) ?_
  refine z_getiN X hB.1 kc_X6 in_X6 (j := 0) (Nat.le_of_ble_eq_true rfl) q2288 (fun _ h => h) rfl (by decide) hk_a39 dX1_withdraw_80 ?_
  exact z_iret X hB ⟨_, rfl, h⟩ (z_k3 hK1) (z_k3 hK2) dX1_withdraw_83
theorem ww_X1_withdraw_0 {o : Nat} {Qk : Int32 → z_T → z_I → z_Q → Prop} {Xk : String → Nat → z_T → z_I → z_Q → Prop} (X : z_X l G A p R s m args meth c cX1_withdraw 4 RX1 "withdraw" (some .int) mc ms 15 292) (ho : (T0 o).1 = 1) {cells slots : Nat} {T : z_T} {I : z_I} {Q : z_Q} {kc : Nat} {ks : Nat} {x1 : Int32} {H : Heap} {locs : List Loc} {ls : Array Slot} (hB : z_HB G z_PR A s.heap T0 I0 Q0 T I Q H locs) (hK1 : cells + kc ≤ mc) (hK2 : slots + ks ≤ ms) (hl : lv_has ls 4 [(0, .ref o), (1, .int x1)]) (h : wb_X1_withdraw_0 G.2.2 o Qk Xk T I Q kc ks x1) : W p l e R s m args below meth c H locs cells slots (z_MQ below G z_PR A T0 I0 Q0 (z_qi Qk) Xk args s mc ms) (F0 m 0 ls []) := by
  obtain ⟨hx, hb, -⟩ := id X
  unfold wb_X1_withdraw_0 at h
  refine lv_iload_n hx hb dX1_withdraw_0 rfl (lv_at hl 1 rfl) ?_
  refine lv_iconst (v := 3) hx hb dX1_withdraw_1 (by decide) ?_
  obtain ⟨kc2, ks3, g1, g2, h⟩ := h
  refine z_callXv (z_runS (rest := []) [.int x1, .int 3] pk_X1_checkIndex (met_X1_checkIndex x1 3 kc2 ks3 _ _ h) X hB hB.2.2.2.2.2.2 q2387 rfl hl.1 (Nat.le_of_ble_eq_true rfl) dX1_withdraw_2 (z_k1 hK1 g1) (z_k1 hK2 g2) (by decide) (by decide)) hB (fun _ h => h) (z_on (by decide +kernel) X (z_k1 hK1 g1) (z_k1 hK2 g2)) (fun T4 I5 Q6 H locs h9 hF hB => ?_)
  replace h := h9
  clear h9
  replace h := h hF
  replace hK1 := z_k2 hK1 g1
  replace hK2 := z_k2 hK2 g2
  refine lv_aload_n (x := o) hx hb dX1_withdraw_5 rfl (lv_at hl 0 rfl) ?_
  refine z_getq X hB.1 kc_X1 in_X1 (j := 0) (Nat.le_of_ble_eq_true rfl) q1296 (fun _ h => h) rfl (by decide) (z_fo hB ho (by decide)) dX1_withdraw_6 ?_
  obtain ⟨a7, ea7, h⟩ := h
  refine z_stk (st' := [.ref a7]) (by rw [ea7] <;> rfl) ?_
  obtain ⟨hk_a7, h⟩ := h
  refine z_getqN X hB.1 kc_X2 in_X2 (j := 2) (Nat.le_of_ble_eq_true rfl) q1243 (fun _ h => h) rfl (by decide) hk_a7 dX1_withdraw_9 ?_
  refine lv_iload_n hx hb dX1_withdraw_12 rfl (lv_at hl 1 rfl) ?_
  obtain ⟨a8, ea8, h⟩ := h
  refine z_stk (st' := [.int x1, .ref a8]) (by rw [ea8] <;> rfl) ?_
  obtain ⟨hk_a8, h⟩ := h
  obtain ⟨h1, h⟩ := h
  refine z_aald (k := 4) X hB.1 (by decide) hk_a8 h1 dX1_withdraw_13 ?_
  obtain ⟨a9, ea9, h⟩ := h
  refine z_stk (st' := [.ref a9]) (by rw [ea9] <;> rfl) ?_
  obtain ⟨hk_a9, h⟩ := h
  refine z_getqN X hB.1 kc_X4 in_X4 (j := 2) (Nat.le_of_ble_eq_true rfl) q1184 (fun _ h => h) rfl (by decide) hk_a9 dX1_withdraw_14 ?_
  obtain ⟨a10, ea10, h⟩ := h
  refine z_stk (st' := [.ref a10]) (by rw [ea10] <;> rfl) ?_
  obtain ⟨hk_a10, h⟩ := h
  refine z_callzp (z_runV (rest := []) [] pk_J31_isEmpty (met_J31_isEmpty a10 _ h) X hB (fun h => h) q2718 kc_J31 (by decide) hk_a10 rfl hl.1 (Nat.le_of_ble_eq_true rfl) dX1_withdraw_17 (z_k4 hK1) (z_k4 hK2) (by decide) (by decide)) hB (fun r11 H locs hz h9 hB => ?_)
  replace h := h9
  clear h9
  replace h := h hz
  refine lv_if_ne (tgt := 27) hx hb dX1_withdraw_20 (by decide) (fun c12 => ?_) (fun c12 => ?_)
  · replace h := h.1 c12
    refine lv_iconst (v := 0) hx hb dX1_withdraw_27 (by decide) ?_
    exact ww_X1_withdraw_28 X ho  hB hK1 hK2 (lv_sub hl [0, 1] rfl) h
  · replace h := h.2 c12
    refine lv_iconst (v := 1) hx hb dX1_withdraw_23 (by decide) ?_
    refine lv_goto (tgt := 28) hx hb dX1_withdraw_24 (by decide) ?_
    exact ww_X1_withdraw_28 X ho  hB hK1 hK2 (lv_sub hl [0, 1] rfl) h
theorem pk_X1_withdraw : z_PV RX1 yX1_withdraw cX1_withdraw 4 (some .int) 1 := ⟨q2715, q2716, q94, q2717, by decide +kernel⟩
theorem met_X1_withdraw {l : Launch} {G : z_E} {T : z_T} {I : z_I} {Q : z_Q} (o : Nat) (x1 : Int32) (kc : Nat) (ks : Nat) (Qk : Int32 → z_T → z_I → z_Q → Prop) (Xk : String → Nat → z_T → z_I → z_Q → Prop) (h : wp_X1_withdraw G.2.2 T I Q o x1 kc ks Qk Xk) : z_GM l G yX1_withdraw (ws_ yX1_withdraw cX1_withdraw 4 (some .int)) 15 292 kc ks [.ref o, .int x1] z_PR T I Q (z_qi Qk) Xk := by
  obtain ⟨ho, h⟩ := h
  refine z_body (own := RX1) (nm := "withdraw") (by decide +kernel) rfl rfl (Nat.le_of_ble_eq_true rfl) (fun p e R s m below meth c A ls X hB hl => ?_)
  exact ww_X1_withdraw_0 X ho hB z_k0 z_k0 hl h
/-! X1_give -/
theorem ww_X1_give_0 {o : Nat} {Qk : Int32 → z_T → z_I → z_Q → Prop} {Xk : String → Nat → z_T → z_I → z_Q → Prop} (X : z_X l G A p R s m args meth c cX1_give 9 RX1 "give" (some .int) mc ms 15 292) (ho : (T0 o).1 = 1) {cells slots : Nat} {T : z_T} {I : z_I} {Q : z_Q} {kc : Nat} {ks : Nat} {x1 : Int32} {x2 : Int32} {x3 : Int32} {x4 : Int32} {x5 : Int32} {x6 : Int32} {H : Heap} {locs : List Loc} {ls : Array Slot} (hB : z_HB G z_PR A s.heap T0 I0 Q0 T I Q H locs) (hK1 : cells + kc ≤ mc) (hK2 : slots + ks ≤ ms) (hl : lv_has ls 9 [(0, .ref o), (1, .int x1), (2, .int x2), (3, .int x3), (4, .int x4), (5, .int x5), (6, .int x6)]) (h : wb_X1_give_0 G.2.2 o Qk Xk T I Q kc ks x1 x2 x3 x4 x5 x6) : W p l e R s m args below meth c H locs cells slots (z_MQ below G z_PR A T0 I0 Q0 (z_qi Qk) Xk args s mc ms) (F0 m 0 ls []) := by
  obtain ⟨hx, hb, -⟩ := id X
  unfold wb_X1_give_0 at h
  obtain ⟨co1, hco1, h⟩ := h
  obtain ⟨g1, g2, h⟩ := h
  refine z_new (col := co1) tyX2 X hB kc_X2 in_X2 tyX2_ok q172 q173 q95 (by decide) (z_dvX2) hco1 (z_k1 hK1 g1) (z_k1 hK2 g2) dX1_give_0 (fun a2 H hq hB => ?_)
  obtain ⟨T3, eT3⟩ : ∃ z, z = z_t T a2 (3, 0, co1) := ⟨_, rfl⟩
  obtain ⟨I4, eI4⟩ : ∃ z, z = z_row I a2 (fun _ => 0) := ⟨_, rfl⟩
  obtain ⟨Q5, eQ5⟩ : ∃ z, z = z_row Q a2 (fun _ => none) := ⟨_, rfl⟩
  rw [← eT3, ← eI4, ← eQ5] at hB
  replace h := h a2 T3 I4 Q5 hq eT3 eI4 eQ5
  have hk_a2 := z_tq eT3
  have hc_a2 : 3 ≤ (T3 a2).2.2 := by rw [z_tqc eT3]; exact hco1
  replace hK1 := z_k2 hK1 g1
  replace hK2 := z_k2 hK2 g2
  refine lv_dup hx hb dX1_give_3 rfl ?_
  refine lv_aload_n (x := o) hx hb dX1_give_4 rfl (lv_at hl 0 rfl) ?_
  refine z_getq X hB.1 kc_X1 in_X1 (j := 0) (Nat.le_of_ble_eq_true rfl) q1296 (fun _ h => h) rfl (by decide) (z_fo hB ho (by decide)) dX1_give_5 ?_
  obtain ⟨co7, hco7, h⟩ := h
  obtain ⟨kc8, ks9, g1, g2, h⟩ := h
  refine z_callv (z_runI (rest := [.ref a2]) [va_rf (Q5 o 0)] pk_X2_init_2 (met_X2_init_2 co7 a2 (Q5 o 0) kc8 ks9 _ h) X hB (z_coR0 hco7) q1627 rfl hl.1 (Nat.le_of_ble_eq_true rfl) dX1_give_8 (z_k1 hK1 g1) (z_k1 hK2 g2) (by decide) (by decide)) hB (z_coR hco7) (fun T10 I11 Q12 H locs h9 hF hB => ?_)
  replace h := h9
  clear h9
  replace h := h hF
  have hc_a2 : 3 ≤ (T10 a2).2.2 := by rw [z_te hF hk_a2 (by decide)]; exact hc_a2
  have hk_a2 := z_tk hF hk_a2 (by decide)
  replace hK1 := z_k2 hK1 g1
  replace hK2 := z_k2 hK2 g2
  refine lv_astore (x := a2) (lv' := [(7, .ref a2), (0, .ref o), (1, .int x1), (2, .int x2), (3, .int x3), (4, .int x4), (5, .int x5), (6, .int x6)]) hx hb dX1_give_11 hl (by decide) rfl (fun ls hl9 => ?_)
  replace hl := hl9
  clear hl9
  refine lv_aload (x := a2) hx hb dX1_give_13 (lv_at hl 0 rfl) ?_
  obtain ⟨co13, hco13, h⟩ := h
  obtain ⟨g1, g2, h⟩ := h
  refine z_new (col := co13) tyX8 X hB kc_X8 in_X8 tyX8_ok q2634 q2635 q152 (by decide) (z_dvX8) hco13 (z_k1 hK1 g1) (z_k1 hK2 g2) dX1_give_15 (fun a14 H hq hB => ?_)
  obtain ⟨T15, eT15⟩ : ∃ z, z = z_t T10 a14 (7, 0, co13) := ⟨_, rfl⟩
  obtain ⟨I16, eI16⟩ : ∃ z, z = z_row I11 a14 (fun _ => 0) := ⟨_, rfl⟩
  obtain ⟨Q17, eQ17⟩ : ∃ z, z = z_row Q12 a14 (fun _ => none) := ⟨_, rfl⟩
  rw [← eT15, ← eI16, ← eQ17] at hB
  replace h := h a14 T15 I16 Q17 hq eT15 eI16 eQ17
  have hc_a2 : 3 ≤ (T15 a2).2.2 := by rw [z_tne eT15 hq hk_a2 (by decide)]; exact hc_a2
  have hk_a2 := z_tn eT15 hq hk_a2 (by decide)
  have hk_a14 := z_tq eT15
  have hc_a14 : 3 ≤ (T15 a14).2.2 := by rw [z_tqc eT15]; exact hco13
  replace hK1 := z_k2 hK1 g1
  replace hK2 := z_k2 hK2 g2
  refine lv_dup hx hb dX1_give_18 rfl ?_
  refine lv_iload_n hx hb dX1_give_19 rfl (lv_at hl 2 rfl) ?_
  refine lv_iload_n hx hb dX1_give_20 rfl (lv_at hl 3 rfl) ?_
  refine lv_iload_n hx hb dX1_give_21 rfl (lv_at hl 4 rfl) ?_
  refine lv_iload hx hb dX1_give_22 (lv_at hl 5 rfl) ?_
  refine lv_iload hx hb dX1_give_24 (lv_at hl 6 rfl) ?_
  refine lv_iload hx hb dX1_give_26 (lv_at hl 7 rfl) ?_
  obtain ⟨co19, hco19, h⟩ := h
  obtain ⟨kc20, ks21, g1, g2, h⟩ := h
  refine z_callv (z_runI (rest := [.ref a14, .ref a2]) [.int x1, .int x2, .int x3, .int x4, .int x5, .int x6] pk_X8_init (met_X8_init co19 a14 x1 x2 x3 x4 x5 x6 kc20 ks21 _ h) X hB (z_coR0 hco19) q2636 rfl hl.1 (Nat.le_of_ble_eq_true rfl) dX1_give_28 (z_k1 hK1 g1) (z_k1 hK2 g2) (by decide) (by decide)) hB (z_coR hco19) (fun T22 I23 Q24 H locs h9 hF hB => ?_)
  replace h := h9
  clear h9
  replace h := h hF
  have hc_a2 : 3 ≤ (T22 a2).2.2 := by rw [z_te hF hk_a2 (by decide)]; exact hc_a2
  have hc_a14 : 3 ≤ (T22 a14).2.2 := by rw [z_te hF hk_a14 (by decide)]; exact hc_a14
  have hk_a2 := z_tk hF hk_a2 (by decide)
  have hk_a14 := z_tk hF hk_a14 (by decide)
  replace hK1 := z_k2 hK1 g1
  replace hK2 := z_k2 hK2 g2
  obtain ⟨kc26, ks27, g1, g2, h⟩ := h
  refine z_callXi (z_runS (rest := []) [.ref a2, .ref a14] pk_X1_giveIn (met_X1_giveIn (some a2) (some a14) kc26 ks27 _ _ h) X hB hB.2.2.2.2.2.2 q2678 rfl hl.1 (Nat.le_of_ble_eq_true rfl) dX1_give_31 (z_k1 hK1 g1) (z_k1 hK2 g2) (by decide) (by decide)) hB (fun _ h => h) (z_on (by decide +kernel) X (z_k1 hK1 g1) (z_k1 hK2 g2)) (fun r25 T28 I29 Q30 H locs h9 hF hB => ?_)
  replace h := h9
  clear h9
  replace h := h hF
  have hc_a2 : 3 ≤ (T28 a2).2.2 := by rw [z_te hF hk_a2 (by decide)]; exact hc_a2
  have hk_a2 := z_tk hF hk_a2 (by decide)
  replace hK1 := z_k2 hK1 g1
  replace hK2 := z_k2 hK2 g2
  refine lv_istore (lv' := [(8, .int r25), (7, .ref a2), (0, .ref o), (1, .int x1), (2, .int x2), (3, .int x3), (4, .int x4), (5, .int x5), (6, .int x6)]) hx hb dX1_give_34 hl (by decide) rfl (fun ls hl9 => ?_)
  replace hl := hl9
  clear hl9
  refine lv_aload_n (x := o) hx hb dX1_give_36 rfl (lv_at hl 2 rfl) ?_
  refine lv_aload (x := a2) hx hb dX1_give_37 (lv_at hl 1 rfl) ?_
  obtain ⟨kc32, ks33, g1, g2, h⟩ := h
  refine z_callv (z_runV (rest := []) [.ref a2] pk_X1_change (met_X1_change o (some a2) kc32 ks33 _ h) X hB hB.2.2.2.2.2.2 q2495 kc_X1 (by decide) (z_fo hB ho (by decide)) rfl hl.1 (Nat.le_of_ble_eq_true rfl) dX1_give_39 (z_k1 hK1 g1) (z_k1 hK2 g2) (by decide) (by decide)) hB (fun _ h => h) (fun T34 I35 Q36 H locs h9 hF hB => ?_)
  replace h := h9
  clear h9
  replace h := h hF
  have hc_a2 : 3 ≤ (T34 a2).2.2 := by rw [z_te hF hk_a2 (by decide)]; exact hc_a2
  have hk_a2 := z_tk hF hk_a2 (by decide)
  replace hK1 := z_k2 hK1 g1
  replace hK2 := z_k2 hK2 g2
  refine lv_iload hx hb dX1_give_42 (lv_at hl 0 rfl) ?_
  exact z_iret X hB ⟨_, rfl, h⟩ (z_k3 hK1) (z_k3 hK2) dX1_give_44
theorem pk_X1_give : z_PV RX1 yX1_give cX1_give 9 (some .int) 6 := ⟨q2631, q2632, q94, q2633, by decide +kernel⟩
theorem met_X1_give {l : Launch} {G : z_E} {T : z_T} {I : z_I} {Q : z_Q} (o : Nat) (x1 : Int32) (x2 : Int32) (x3 : Int32) (x4 : Int32) (x5 : Int32) (x6 : Int32) (kc : Nat) (ks : Nat) (Qk : Int32 → z_T → z_I → z_Q → Prop) (Xk : String → Nat → z_T → z_I → z_Q → Prop) (h : wp_X1_give G.2.2 T I Q o x1 x2 x3 x4 x5 x6 kc ks Qk Xk) : z_GM l G yX1_give (ws_ yX1_give cX1_give 9 (some .int)) 15 292 kc ks [.ref o, .int x1, .int x2, .int x3, .int x4, .int x5, .int x6] z_PR T I Q (z_qi Qk) Xk := by
  obtain ⟨ho, h⟩ := h
  refine z_body (own := RX1) (nm := "give") (by decide +kernel) rfl rfl (Nat.le_of_ble_eq_true rfl) (fun p e R s m below meth c A ls X hB hl => ?_)
  exact ww_X1_give_0 X ho hB z_k0 z_k0 hl h
/-! X1_part -/
theorem ww_X1_part_0 {o : Nat} {Qk : Int32 → z_T → z_I → z_Q → Prop} {Xk : String → Nat → z_T → z_I → z_Q → Prop} (X : z_X l G A p R s m args meth c cX1_part 4 RX1 "part" (some .int) mc ms 13 228) (ho : (T0 o).1 = 1) {cells slots : Nat} {T : z_T} {I : z_I} {Q : z_Q} {kc : Nat} {ks : Nat} {x1 : Int32} {x2 : Int32} {H : Heap} {locs : List Loc} {ls : Array Slot} (hB : z_HB G z_PR A s.heap T0 I0 Q0 T I Q H locs) (hK1 : cells + kc ≤ mc) (hK2 : slots + ks ≤ ms) (hl : lv_has ls 4 [(0, .ref o), (1, .int x1), (2, .int x2)]) (h : wb_X1_part_0 o Qk Xk T I Q kc ks x1 x2) : W p l e R s m args below meth c H locs cells slots (z_MQ below G z_PR A T0 I0 Q0 (z_qi Qk) Xk args s mc ms) (F0 m 0 ls []) := by
  obtain ⟨hx, hb, -⟩ := id X
  unfold wb_X1_part_0 at h
  refine lv_iload_n hx hb dX1_part_0 rfl (lv_at hl 1 rfl) ?_
  refine lv_iconst (v := 3) hx hb dX1_part_1 (by decide) ?_
  obtain ⟨kc2, ks3, g1, g2, h⟩ := h
  refine z_callXv (z_runS (rest := []) [.int x1, .int 3] pk_X1_checkIndex (met_X1_checkIndex x1 3 kc2 ks3 _ _ h) X hB hB.2.2.2.2.2.2 q2387 rfl hl.1 (Nat.le_of_ble_eq_true rfl) dX1_part_2 (z_k1 hK1 g1) (z_k1 hK2 g2) (by decide) (by decide)) hB (fun _ h => h) (z_on (by decide +kernel) X (z_k1 hK1 g1) (z_k1 hK2 g2)) (fun T4 I5 Q6 H locs h9 hF hB => ?_)
  replace h := h9
  clear h9
  replace h := h hF
  replace hK1 := z_k2 hK1 g1
  replace hK2 := z_k2 hK2 g2
  refine lv_iload_n hx hb dX1_part_5 rfl (lv_at hl 2 rfl) ?_
  refine lv_iconst (v := 0) hx hb dX1_part_6 (by decide) ?_
  refine lv_aload_n (x := o) hx hb dX1_part_7 rfl (lv_at hl 0 rfl) ?_
  refine z_getq X hB.1 kc_X1 in_X1 (j := 0) (Nat.le_of_ble_eq_true rfl) q1296 (fun _ h => h) rfl (by decide) (z_fo hB ho (by decide)) dX1_part_8 ?_
  obtain ⟨a7, ea7, h⟩ := h
  refine z_stk (st' := [.ref a7, .int 0, .int x2]) (by rw [ea7] <;> rfl) ?_
  obtain ⟨hk_a7, h⟩ := h
  refine z_getqN X hB.1 kc_X2 in_X2 (j := 1) (Nat.le_of_ble_eq_true rfl) q1239 (fun _ h => h) rfl (by decide) hk_a7 dX1_part_11 ?_
  refine lv_iload_n hx hb dX1_part_14 rfl (lv_at hl 1 rfl) ?_
  obtain ⟨a8, ea8, h⟩ := h
  refine z_stk (st' := [.int x1, .ref a8, .int 0, .int x2]) (by rw [ea8] <;> rfl) ?_
  obtain ⟨hk_a8, h⟩ := h
  obtain ⟨h1, h⟩ := h
  refine z_aald (k := 3) X hB.1 (by decide) hk_a8 h1 dX1_part_15 ?_
  obtain ⟨a9, ea9, h⟩ := h
  refine z_stk (st' := [.ref a9, .int 0, .int x2]) (by rw [ea9] <;> rfl) ?_
  obtain ⟨hk_a9, h⟩ := h
  refine z_getqN X hB.1 kc_X3 in_X3 (j := 0) (Nat.le_of_ble_eq_true rfl) q1147 (fun _ h => h) rfl (by decide) hk_a9 dX1_part_16 ?_
  obtain ⟨a10, ea10, h⟩ := h
  refine z_stk (st' := [.ref a10, .int 0, .int x2]) (by rw [ea10] <;> rfl) ?_
  obtain ⟨hk_a10, h⟩ := h
  refine z_callip (z_runV (rest := [.int 0, .int x2]) [] pk_J31_size (met_J31_size a10 _ h) X hB (fun h => h) q2499 kc_J31 (by decide) hk_a10 rfl hl.1 (Nat.le_of_ble_eq_true rfl) dX1_part_19 (z_k4 hK1) (z_k4 hK2) (by decide) (by decide)) hB (fun r11 H locs h9 hB => ?_)
  replace h := h9
  clear h9
  refine lv_iconst (v := 1) hx hb dX1_part_22 (by decide) ?_
  refine lv_isub hx hb dX1_part_23 ?_
  refine z_callzp (z_runS (rest := []) [.int x2, .int 0, .int (r11 - 1)] pk_X1_inRange (met_X1_inRange x2 0 (r11 - 1) _ h) X hB (fun h => h) q2390 rfl hl.1 (Nat.le_of_ble_eq_true rfl) dX1_part_24 (z_k4 hK1) (z_k4 hK2) (by decide) (by decide)) hB (fun r12 H locs hz h9 hB => ?_)
  replace h := h9
  clear h9
  replace h := h hz
  obtain ⟨kc14, ks15, g1, g2, h⟩ := h
  refine z_callXv (z_runS (rest := []) [.int r12] pk_X1_checkFound (met_X1_checkFound r12 kc14 ks15 _ _ h) X hB hB.2.2.2.2.2.2 q2594 rfl hl.1 (Nat.le_of_ble_eq_true rfl) dX1_part_27 (z_k1 hK1 g1) (z_k1 hK2 g2) (by decide) (by decide)) hB (fun _ h => h) (z_on (by decide +kernel) X (z_k1 hK1 g1) (z_k1 hK2 g2)) (fun T16 I17 Q18 H locs h9 hF hB => ?_)
  replace h := h9
  clear h9
  replace h := h hF
  replace hK1 := z_k2 hK1 g1
  replace hK2 := z_k2 hK2 g2
  refine lv_aload_n (x := o) hx hb dX1_part_30 rfl (lv_at hl 0 rfl) ?_
  refine z_getq X hB.1 kc_X1 in_X1 (j := 0) (Nat.le_of_ble_eq_true rfl) q1296 (fun _ h => h) rfl (by decide) (z_fo hB ho (by decide)) dX1_part_31 ?_
  obtain ⟨a19, ea19, h⟩ := h
  refine z_stk (st' := [.ref a19]) (by rw [ea19] <;> rfl) ?_
  obtain ⟨hk_a19, h⟩ := h
  refine z_getqN X hB.1 kc_X2 in_X2 (j := 1) (Nat.le_of_ble_eq_true rfl) q1239 (fun _ h => h) rfl (by decide) hk_a19 dX1_part_34 ?_
  refine lv_iload_n hx hb dX1_part_37 rfl (lv_at hl 1 rfl) ?_
  obtain ⟨a20, ea20, h⟩ := h
  refine z_stk (st' := [.int x1, .ref a20]) (by rw [ea20] <;> rfl) ?_
  obtain ⟨hk_a20, h⟩ := h
  obtain ⟨h1, h⟩ := h
  refine z_aald (k := 3) X hB.1 (by decide) hk_a20 h1 dX1_part_38 ?_
  obtain ⟨a21, ea21, h⟩ := h
  refine z_stk (st' := [.ref a21]) (by rw [ea21] <;> rfl) ?_
  obtain ⟨hk_a21, h⟩ := h
  refine z_getqN X hB.1 kc_X3 in_X3 (j := 0) (Nat.le_of_ble_eq_true rfl) q1147 (fun _ h => h) rfl (by decide) hk_a21 dX1_part_39 ?_
  refine lv_iload_n hx hb dX1_part_42 rfl (lv_at hl 2 rfl) ?_
  obtain ⟨kc23, ks24, g1, g2, h⟩ := h
  refine z_callr (z_runS (rest := []) [va_rf (Q18 a21 0), .int x2] pk_X1_elementAt (met_X1_elementAt (Q18 a21 0) x2 kc23 ks24 _ h) X hB hB.2.2.2.2.2.2 q2599 rfl hl.1 (Nat.le_of_ble_eq_true rfl) dX1_part_43 (z_k1 hK1 g1) (z_k1 hK2 g2) (by decide) (by decide)) hB (fun _ h => h) (fun r22 T25 I26 Q27 H locs h9 hF hB => ?_)
  replace h := h9
  clear h9
  replace h := h hF
  replace hK1 := z_k2 hK1 g1
  replace hK2 := z_k2 hK2 g2
  obtain ⟨h2, h⟩ := h
  refine z_castIR X hB.1 h2 q2624 dX1_part_46 ?_
  refine z_astore_n (x := r22) (lv' := [(3, va_rf r22), (0, .ref o), (1, .int x1), (2, .int x2)]) hx hb dX1_part_49 rfl hl (by decide) rfl (fun ls hl9 => ?_)
  replace hl := hl9
  clear hl9
  refine z_aload_n (x := r22) hx hb dX1_part_50 rfl (lv_at hl 0 rfl) ?_
  obtain ⟨a28, rfl, h⟩ := h
  obtain ⟨hk_a28, h⟩ := h
  refine z_callip (z_runVI (rest := []) [] pk_J21_intValue (met_J21_intValue a28 _ h) X hB (fun h => h) q2625 hk_a28 rfl hl.1 (Nat.le_of_ble_eq_true rfl) dX1_part_51 (z_k4 hK1) (z_k4 hK2) (by decide) (by decide)) hB (fun r29 H locs h9 hB => ?_)
  replace h := h9
  clear h9
  exact z_iret X hB ⟨_, rfl, h⟩ (z_k3 hK1) (z_k3 hK2) dX1_part_54
theorem pk_X1_part : z_PV RX1 yX1_part cX1_part 4 (some .int) 2 := ⟨q2591, q2592, q94, q2593, by decide +kernel⟩
theorem met_X1_part {l : Launch} {G : z_E} {T : z_T} {I : z_I} {Q : z_Q} (o : Nat) (x1 : Int32) (x2 : Int32) (kc : Nat) (ks : Nat) (Qk : Int32 → z_T → z_I → z_Q → Prop) (Xk : String → Nat → z_T → z_I → z_Q → Prop) (h : wp_X1_part T I Q o x1 x2 kc ks Qk Xk) : z_GM l G yX1_part (ws_ yX1_part cX1_part 4 (some .int)) 13 228 kc ks [.ref o, .int x1, .int x2] z_PR T I Q (z_qi Qk) Xk := by
  obtain ⟨ho, h⟩ := h
  refine z_body (own := RX1) (nm := "part") (by decide +kernel) rfl rfl (Nat.le_of_ble_eq_true rfl) (fun p e R s m below meth c A ls X hB hl => ?_)
  exact ww_X1_part_0 X ho hB z_k0 z_k0 hl h
/-! X1_buffer -/
theorem ww_X1_buffer_0 {o : Nat} {Qk : Int32 → z_T → z_I → z_Q → Prop} {Xk : String → Nat → z_T → z_I → z_Q → Prop} (X : z_X l G A p R s m args meth c cX1_buffer 3 RX1 "buffer" (some .int) mc ms 11 183) (ho : (T0 o).1 = 1) {cells slots : Nat} {T : z_T} {I : z_I} {Q : z_Q} {kc : Nat} {ks : Nat} {x1 : Int32} {x2 : Int32} {H : Heap} {locs : List Loc} {ls : Array Slot} (hB : z_HB G z_PR A s.heap T0 I0 Q0 T I Q H locs) (hK1 : cells + kc ≤ mc) (hK2 : slots + ks ≤ ms) (hl : lv_has ls 3 [(0, .ref o), (1, .int x1), (2, .int x2)]) (h : wb_X1_buffer_0 o Qk Xk T I Q kc ks x1 x2) : W p l e R s m args below meth c H locs cells slots (z_MQ below G z_PR A T0 I0 Q0 (z_qi Qk) Xk args s mc ms) (F0 m 0 ls []) := by
  obtain ⟨hx, hb, -⟩ := id X
  unfold wb_X1_buffer_0 at h
  refine lv_iload_n hx hb dX1_buffer_0 rfl (lv_at hl 1 rfl) ?_
  refine lv_iconst (v := 3) hx hb dX1_buffer_1 (by decide) ?_
  obtain ⟨kc2, ks3, g1, g2, h⟩ := h
  refine z_callXv (z_runS (rest := []) [.int x1, .int 3] pk_X1_checkIndex (met_X1_checkIndex x1 3 kc2 ks3 _ _ h) X hB hB.2.2.2.2.2.2 q2387 rfl hl.1 (Nat.le_of_ble_eq_true rfl) dX1_buffer_2 (z_k1 hK1 g1) (z_k1 hK2 g2) (by decide) (by decide)) hB (fun _ h => h) (z_on (by decide +kernel) X (z_k1 hK1 g1) (z_k1 hK2 g2)) (fun T4 I5 Q6 H locs h9 hF hB => ?_)
  replace h := h9
  clear h9
  replace h := h hF
  replace hK1 := z_k2 hK1 g1
  replace hK2 := z_k2 hK2 g2
  refine lv_iload_n hx hb dX1_buffer_5 rfl (lv_at hl 2 rfl) ?_
  refine lv_iconst (v := 0) hx hb dX1_buffer_6 (by decide) ?_
  refine lv_iconst (v := 5) hx hb dX1_buffer_7 (by decide) ?_
  refine z_callzp (z_runS (rest := []) [.int x2, .int 0, .int 5] pk_X1_inRange (met_X1_inRange x2 0 5 _ h) X hB (fun h => h) q2390 rfl hl.1 (Nat.le_of_ble_eq_true rfl) dX1_buffer_8 (z_k4 hK1) (z_k4 hK2) (by decide) (by decide)) hB (fun r7 H locs hz h9 hB => ?_)
  replace h := h9
  clear h9
  replace h := h hz
  obtain ⟨kc9, ks10, g1, g2, h⟩ := h
  refine z_callXv (z_runS (rest := []) [.int r7] pk_X1_checkArgument (met_X1_checkArgument r7 kc9 ks10 _ _ h) X hB hB.2.2.2.2.2.2 q2408 rfl hl.1 (Nat.le_of_ble_eq_true rfl) dX1_buffer_11 (z_k1 hK1 g1) (z_k1 hK2 g2) (by decide) (by decide)) hB (fun _ h => h) (z_on (by decide +kernel) X (z_k1 hK1 g1) (z_k1 hK2 g2)) (fun T11 I12 Q13 H locs h9 hF hB => ?_)
  replace h := h9
  clear h9
  replace h := h hF
  replace hK1 := z_k2 hK1 g1
  replace hK2 := z_k2 hK2 g2
  refine lv_aload_n (x := o) hx hb dX1_buffer_14 rfl (lv_at hl 0 rfl) ?_
  refine z_getq X hB.1 kc_X1 in_X1 (j := 0) (Nat.le_of_ble_eq_true rfl) q1296 (fun _ h => h) rfl (by decide) (z_fo hB ho (by decide)) dX1_buffer_15 ?_
  obtain ⟨a14, ea14, h⟩ := h
  refine z_stk (st' := [.ref a14]) (by rw [ea14] <;> rfl) ?_
  obtain ⟨hk_a14, h⟩ := h
  refine z_getqN X hB.1 kc_X2 in_X2 (j := 1) (Nat.le_of_ble_eq_true rfl) q1239 (fun _ h => h) rfl (by decide) hk_a14 dX1_buffer_18 ?_
  refine lv_iload_n hx hb dX1_buffer_21 rfl (lv_at hl 1 rfl) ?_
  obtain ⟨a15, ea15, h⟩ := h
  refine z_stk (st' := [.int x1, .ref a15]) (by rw [ea15] <;> rfl) ?_
  obtain ⟨hk_a15, h⟩ := h
  obtain ⟨h1, h⟩ := h
  refine z_aald (k := 3) X hB.1 (by decide) hk_a15 h1 dX1_buffer_22 ?_
  refine lv_iload_n hx hb dX1_buffer_23 rfl (lv_at hl 2 rfl) ?_
  obtain ⟨a16, ea16, h⟩ := h
  refine z_stk (st' := [.int x2, .ref a16]) (by rw [ea16] <;> rfl) ?_
  obtain ⟨hk_a16, h⟩ := h
  refine z_callip (z_runV (rest := []) [.int x2] pk_X3_number (met_X3_number a16 x2 _ h) X hB (fun h => h) q2582 kc_X3 (by decide) hk_a16 rfl hl.1 (Nat.le_of_ble_eq_true rfl) dX1_buffer_24 (z_k4 hK1) (z_k4 hK2) (by decide) (by decide)) hB (fun r17 H locs h9 hB => ?_)
  replace h := h9
  clear h9
  exact z_iret X hB ⟨_, rfl, h⟩ (z_k3 hK1) (z_k3 hK2) dX1_buffer_27
theorem pk_X1_buffer : z_PV RX1 yX1_buffer cX1_buffer 3 (some .int) 2 := ⟨q2579, q2580, q94, q2581, by decide +kernel⟩
theorem met_X1_buffer {l : Launch} {G : z_E} {T : z_T} {I : z_I} {Q : z_Q} (o : Nat) (x1 : Int32) (x2 : Int32) (kc : Nat) (ks : Nat) (Qk : Int32 → z_T → z_I → z_Q → Prop) (Xk : String → Nat → z_T → z_I → z_Q → Prop) (h : wp_X1_buffer T I Q o x1 x2 kc ks Qk Xk) : z_GM l G yX1_buffer (ws_ yX1_buffer cX1_buffer 3 (some .int)) 11 183 kc ks [.ref o, .int x1, .int x2] z_PR T I Q (z_qi Qk) Xk := by
  obtain ⟨ho, h⟩ := h
  refine z_body (own := RX1) (nm := "buffer") (by decide +kernel) rfl rfl (Nat.le_of_ble_eq_true rfl) (fun p e R s m below meth c A ls X hB hl => ?_)
  exact ww_X1_buffer_0 X ho hB z_k0 z_k0 hl h
/-! X1_zone -/
theorem ww_X1_zone_106 {o : Nat} {k34 : z_T → z_I → z_Q → Nat → Nat → Int32 → Int32 → Int32 → Option Nat → Int32 → Int32 → Prop} {Qk : Int32 → z_T → z_I → z_Q → Prop} {Xk : String → Nat → z_T → z_I → z_Q → Prop} (X : z_X l G A p R s m args meth c cX1_zone 9 RX1 "zone" (some .int) mc ms 15 269) (ho : (T0 o).1 = 1) (hk34 : ∀ {cells slots : Nat} {T : z_T} {I : z_I} {Q : z_Q} {kc : Nat} {ks : Nat} {x1 : Int32} {x2 : Int32} {x3 : Int32} {x4 : Option Nat} {x5 : Int32} {x6 : Int32} {H : Heap} {locs : List Loc} {ls : Array Slot}, z_HB G z_PR A s.heap T0 I0 Q0 T I Q H locs → cells + kc ≤ mc → slots + ks ≤ ms → lv_has ls 9 [(0, .ref o), (1, .int x1), (2, .int x2), (3, .int x3), (4, va_rf x4), (5, .int x5), (6, .int x6)] → k34 T I Q kc ks x1 x2 x3 x4 x5 x6 → W p l e R s m args below meth c H locs cells slots (z_MQ below G z_PR A T0 I0 Q0 (z_qi Qk) Xk args s mc ms) (F0 m 34 ls [])) {cells slots : Nat} {T : z_T} {I : z_I} {Q : z_Q} {kc : Nat} {ks : Nat} {x1 : Int32} {x2 : Int32} {x4 : Option Nat} {x5 : Int32} {x6 : Int32} {s0 : Int32} {s1 : Int32} {H : Heap} {locs : List Loc} {ls : Array Slot} (hB : z_HB G z_PR A s.heap T0 I0 Q0 T I Q H locs) (hK1 : cells + kc ≤ mc) (hK2 : slots + ks ≤ ms) (hl : lv_has ls 9 [(0, .ref o), (1, .int x1), (2, .int x2), (4, va_rf x4), (5, .int x5), (6, .int x6)]) (h : wb_X1_zone_106 o k34 Qk Xk T I Q kc ks x1 x2 x4 x5 x6 s0 s1) : W p l e R s m args below meth c H locs cells slots (z_MQ below G z_PR A T0 I0 Q0 (z_qi Qk) Xk args s mc ms) (F0 m 106 ls [.int s1, .int s0]) := by
  obtain ⟨hx, hb, -⟩ := id X
  unfold wb_X1_zone_106 at h
  refine lv_ior hx hb dX1_zone_106 ?_
  refine lv_topi (fun y49 ey49 => ?_)
  replace h := h y49 ey49
  refine lv_istore_n (lv' := [(3, .int y49), (0, .ref o), (1, .int x1), (2, .int x2), (4, va_rf x4), (5, .int x5), (6, .int x6)]) hx hb dX1_zone_107 rfl hl (by decide) rfl (fun ls hl9 => ?_)
  replace hl := hl9
  clear hl9
  obtain ⟨y50, ey50⟩ : ∃ z : Int32, z = x6 + 1 := ⟨_, rfl⟩
  replace h := h y50 ey50
  refine lv_iinc (v := y50) (lv' := [(6, .int y50), (3, .int y49), (0, .ref o), (1, .int x1), (2, .int x2), (4, va_rf x4), (5, .int x5)]) hx hb dX1_zone_108 hl (k := 6) rfl (by rw [ey50]; rfl) (by decide) rfl (fun ls hl9 => ?_)
  replace hl := hl9
  clear hl9
  refine lv_goto (tgt := 34) hx hb dX1_zone_111 (by decide) ?_
  exact hk34 hB hK1 hK2 (lv_sub hl [2, 3, 4, 1, 5, 6, 0] rfl) h
theorem ww_X1_zone_87 {o : Nat} {k34 : z_T → z_I → z_Q → Nat → Nat → Int32 → Int32 → Int32 → Option Nat → Int32 → Int32 → Prop} {Qk : Int32 → z_T → z_I → z_Q → Prop} {Xk : String → Nat → z_T → z_I → z_Q → Prop} (X : z_X l G A p R s m args meth c cX1_zone 9 RX1 "zone" (some .int) mc ms 15 269) (ho : (T0 o).1 = 1) (hk34 : ∀ {cells slots : Nat} {T : z_T} {I : z_I} {Q : z_Q} {kc : Nat} {ks : Nat} {x1 : Int32} {x2 : Int32} {x3 : Int32} {x4 : Option Nat} {x5 : Int32} {x6 : Int32} {H : Heap} {locs : List Loc} {ls : Array Slot}, z_HB G z_PR A s.heap T0 I0 Q0 T I Q H locs → cells + kc ≤ mc → slots + ks ≤ ms → lv_has ls 9 [(0, .ref o), (1, .int x1), (2, .int x2), (3, .int x3), (4, va_rf x4), (5, .int x5), (6, .int x6)] → k34 T I Q kc ks x1 x2 x3 x4 x5 x6 → W p l e R s m args below meth c H locs cells slots (z_MQ below G z_PR A T0 I0 Q0 (z_qi Qk) Xk args s mc ms) (F0 m 34 ls [])) {cells slots : Nat} {T : z_T} {I : z_I} {Q : z_Q} {kc : Nat} {ks : Nat} {x1 : Int32} {x2 : Int32} {x3 : Int32} {x4 : Option Nat} {x5 : Int32} {x6 : Int32} {x7 : Option Nat} {s0 : Int32} {H : Heap} {locs : List Loc} {ls : Array Slot} (hB : z_HB G z_PR A s.heap T0 I0 Q0 T I Q H locs) (hK1 : cells + kc ≤ mc) (hK2 : slots + ks ≤ ms) (hl : lv_has ls 9 [(0, .ref o), (1, .int x1), (2, .int x2), (3, .int x3), (4, va_rf x4), (5, .int x5), (6, .int x6), (7, va_rf x7)]) (h : wb_X1_zone_87 o k34 Qk Xk T I Q kc ks x1 x2 x3 x4 x5 x6 x7 s0) : W p l e R s m args below meth c H locs cells slots (z_MQ below G z_PR A T0 I0 Q0 (z_qi Qk) Xk args s mc ms) (F0 m 87 ls [.int s0]) := by
  obtain ⟨hx, hb, -⟩ := id X
  unfold wb_X1_zone_87 at h
  refine lv_istore (lv' := [(8, .int s0), (0, .ref o), (1, .int x1), (2, .int x2), (3, .int x3), (4, va_rf x4), (5, .int x5), (6, .int x6), (7, va_rf x7)]) hx hb dX1_zone_87 hl (by decide) (by simp [z_cat, z_rfs, z_catq]) (fun ls hl9 => ?_)
  replace hl := hl9
  clear hl9
  refine lv_iload_n hx hb dX1_zone_89 rfl (lv_at hl 4 rfl) ?_
  refine lv_iload hx hb dX1_zone_90 (lv_at hl 0 rfl) ?_
  refine lv_if_eq (tgt := 105) hx hb dX1_zone_92 (by decide) (fun c47 => ?_) (fun c47 => ?_)
  · replace h := h.1 c47
    refine lv_iconst (v := 0) hx hb dX1_zone_105 (by decide) ?_
    exact ww_X1_zone_106 X ho hk34 hB hK1 hK2 (lv_sub hl [1, 2, 3, 5, 6, 7] rfl) h
  · replace h := h.2 c47
    refine lv_iconst (v := 1) hx hb dX1_zone_95 (by decide) ?_
    refine z_aload (x := x7) hx hb dX1_zone_96 (lv_at hl 8 rfl) ?_
    obtain ⟨a48, rfl, h⟩ := h
    obtain ⟨hk_a48, h⟩ := h
    refine z_getiN X hB.1 kc_X4 in_X4 (j := 0) (Nat.le_of_ble_eq_true rfl) q1179 (fun _ h => h) rfl (by decide) hk_a48 dX1_zone_98 ?_
    refine lv_ishl hx hb dX1_zone_101 ?_
    refine lv_goto (tgt := 106) hx hb dX1_zone_102 (by decide) ?_
    exact ww_X1_zone_106 X ho hk34 hB hK1 hK2 (lv_sub hl [1, 2, 3, 5, 6, 7] rfl) h
theorem wv_X1_zone_34 {o : Nat} {Qk : Int32 → z_T → z_I → z_Q → Prop} {Xk : String → Nat → z_T → z_I → z_Q → Prop} (X : z_X l G A p R s m args meth c cX1_zone 9 RX1 "zone" (some .int) mc ms 15 269) (ho : (T0 o).1 = 1) : ∀ (n : Nat) {cells slots : Nat} {T : z_T} {I : z_I} {Q : z_Q} {kc : Nat} {ks : Nat} {x1 : Int32} {x2 : Int32} {x3 : Int32} {x4 : Option Nat} {x5 : Int32} {x6 : Int32} {H : Heap} {locs : List Loc} {ls : Array Slot}, z_HB G z_PR A s.heap T0 I0 Q0 T I Q H locs → cells + kc ≤ mc → slots + ks ≤ ms → lv_has ls 9 [(0, .ref o), (1, .int x1), (2, .int x2), (3, .int x3), (4, va_rf x4), (5, .int x5), (6, .int x6)] → wl_X1_zone_34 o Qk Xk n T I Q kc ks x1 x2 x3 x4 x5 x6 → W p l e R s m args below meth c H locs cells slots (z_MQ below G z_PR A T0 I0 Q0 (z_qi Qk) Xk args s mc ms) (F0 m 34 ls []) := by
  intro n
  induction n with
  | zero =>
    intro cells slots T I Q kc ks x1 x2 x3 x4 x5 x6 H locs ls hB hK1 hK2 hl h
    exact h.elim
  | succ n ih =>
    intro cells slots T I Q kc ks x1 x2 x3 x4 x5 x6 H locs ls hB hK1 hK2 hl h
    obtain ⟨hx, hb, -⟩ := id X
    unfold wl_X1_zone_34 at h
    refine lv_iload hx hb dX1_zone_34 (lv_at hl 6 rfl) ?_
    refine lv_iload hx hb dX1_zone_36 (lv_at hl 5 rfl) ?_
    refine lv_icmp_ge (tgt := 114) hx hb dX1_zone_38 (by decide) (fun c18 => ?_) (fun c18 => ?_)
    · replace h := h.1 c18
      refine lv_iload_n hx hb dX1_zone_114 rfl (lv_at hl 2 rfl) ?_
      by_cases c19_0 : x2 = 0
      · replace h := h.1 c19_0
        refine lv_tableIn (off := 33) (tgt := 148) hx hb dX1_zone_115 (by rw [c19_0]; decide) (by rw [c19_0]; decide) (by rw [c19_0]; rfl) (by decide) ?_
        refine lv_aload_n (x := o) hx hb dX1_zone_148 rfl (lv_at hl 0 rfl) ?_
        refine z_getq X hB.1 kc_X1 in_X1 (j := 0) (Nat.le_of_ble_eq_true rfl) q1296 (fun _ h => h) rfl (by decide) (z_fo hB ho (by decide)) dX1_zone_149 ?_
        refine lv_iload_n hx hb dX1_zone_152 rfl (lv_at hl 1 rfl) ?_
        refine z_callip (z_runS (rest := []) [va_rf (Q o 0), .int x1] pk_X1_holder (met_X1_holder (Q o 0) x1 _ h) X hB (fun h => h) q2451 rfl hl.1 (Nat.le_of_ble_eq_true rfl) dX1_zone_153 (z_k4 hK1) (z_k4 hK2) (by decide) (by decide)) hB (fun r20 H locs h9 hB => ?_)
        replace h := h9
        clear h9
        exact z_iret X hB ⟨_, rfl, h⟩ (z_k3 hK1) (z_k3 hK2) dX1_zone_156
      · by_cases c19_1 : x2 = 1
        · replace h := h.2.1 c19_1
          refine lv_tableIn (off := 42) (tgt := 157) hx hb dX1_zone_115 (by rw [c19_1]; decide) (by rw [c19_1]; decide) (by rw [c19_1]; rfl) (by decide) ?_
          refine lv_aload_n (x := o) hx hb dX1_zone_157 rfl (lv_at hl 0 rfl) ?_
          refine z_getq X hB.1 kc_X1 in_X1 (j := 0) (Nat.le_of_ble_eq_true rfl) q1296 (fun _ h => h) rfl (by decide) (z_fo hB ho (by decide)) dX1_zone_158 ?_
          refine lv_iload_n hx hb dX1_zone_161 rfl (lv_at hl 1 rfl) ?_
          obtain ⟨a21, ea21, h⟩ := h
          refine z_stk (st' := [.int x1, .ref a21]) (by rw [ea21] <;> rfl) ?_
          obtain ⟨hk_a21, h⟩ := h
          obtain ⟨co23, hco23, h⟩ := h
          obtain ⟨kc24, ks25, g1, g2, h⟩ := h
          refine z_calli (z_runV (rest := []) [.int x1] pk_X2_conflicts (met_X2_conflicts co23 a21 x1 kc24 ks25 _ h) X hB (z_coR0 hco23) q2574 kc_X2 (by decide) hk_a21 rfl hl.1 (Nat.le_of_ble_eq_true rfl) dX1_zone_162 (z_k1 hK1 g1) (z_k1 hK2 g2) (by decide) (by decide)) hB (z_coR hco23) (fun r22 T26 I27 Q28 H locs h9 hF hB => ?_)
          replace h := h9
          clear h9
          replace h := h hF
          replace hK1 := z_k2 hK1 g1
          replace hK2 := z_k2 hK2 g2
          exact z_iret X hB ⟨_, rfl, h⟩ (z_k3 hK1) (z_k3 hK2) dX1_zone_165
        · by_cases c19_2 : x2 = 2
          · replace h := h.2.2.1 c19_2
            refine lv_tableIn (off := 61) (tgt := 176) hx hb dX1_zone_115 (by rw [c19_2]; decide) (by rw [c19_2]; decide) (by rw [c19_2]; rfl) (by decide) ?_
            refine lv_iload_n hx hb dX1_zone_176 rfl (lv_at hl 3 rfl) ?_
            exact z_iret X hB ⟨_, rfl, h⟩ (z_k3 hK1) (z_k3 hK2) dX1_zone_177
          · by_cases c19_3 : x2 = 3
            · replace h := h.2.2.2.1 c19_3
              refine lv_tableIn (off := 61) (tgt := 176) hx hb dX1_zone_115 (by rw [c19_3]; decide) (by rw [c19_3]; decide) (by rw [c19_3]; rfl) (by decide) ?_
              refine lv_iload_n hx hb dX1_zone_176 rfl (lv_at hl 3 rfl) ?_
              exact z_iret X hB ⟨_, rfl, h⟩ (z_k3 hK1) (z_k3 hK2) dX1_zone_177
            · by_cases c19_4 : x2 = 4
              · replace h := h.2.2.2.2.1 c19_4
                refine lv_tableIn (off := 51) (tgt := 166) hx hb dX1_zone_115 (by rw [c19_4]; decide) (by rw [c19_4]; decide) (by rw [c19_4]; rfl) (by decide) ?_
                refine lv_aload_n (x := o) hx hb dX1_zone_166 rfl (lv_at hl 0 rfl) ?_
                refine z_getq X hB.1 kc_X1 in_X1 (j := 0) (Nat.le_of_ble_eq_true rfl) q1296 (fun _ h => h) rfl (by decide) (z_fo hB ho (by decide)) dX1_zone_167 ?_
                obtain ⟨a29, ea29, h⟩ := h
                refine z_stk (st' := [.ref a29]) (by rw [ea29] <;> rfl) ?_
                obtain ⟨hk_a29, h⟩ := h
                refine z_getqN X hB.1 kc_X2 in_X2 (j := 5) (Nat.le_of_ble_eq_true rfl) q1251 (fun _ h => h) rfl (by decide) hk_a29 dX1_zone_170 ?_
                refine lv_iload_n hx hb dX1_zone_173 rfl (lv_at hl 1 rfl) ?_
                obtain ⟨a30, ea30, h⟩ := h
                refine z_stk (st' := [.int x1, .ref a30]) (by rw [ea30] <;> rfl) ?_
                obtain ⟨hk_a30, h⟩ := h
                obtain ⟨h1, h⟩ := h
                refine z_iald X hB.1 hk_a30 h1 dX1_zone_174 ?_
                exact z_iret X hB ⟨_, rfl, h⟩ (z_k3 hK1) (z_k3 hK2) dX1_zone_175
              · replace h := h.2.2.2.2.2 c19_0 c19_1 c19_2 c19_3 c19_4
                refine lv_tableOut (tgt := 176) hx hb dX1_zone_115 ?_ (by decide) ?_
                · have q0 := lv_neT c19_0 (a := 0) (by decide)
                  have q1 := lv_neT c19_1 (a := 1) (by decide)
                  have q2 := lv_neT c19_2 (a := 2) (by decide)
                  have q3 := lv_neT c19_3 (a := 3) (by decide)
                  have q4 := lv_neT c19_4 (a := 4) (by decide)
                  omega
                · refine lv_iload_n hx hb dX1_zone_176 rfl (lv_at hl 3 rfl) ?_
                  exact z_iret X hB ⟨_, rfl, h⟩ (z_k3 hK1) (z_k3 hK2) dX1_zone_177
    · replace h := h.2 c18
      refine z_aload (x := x4) hx hb dX1_zone_41 (lv_at hl 4 rfl) ?_
      refine lv_iload hx hb dX1_zone_43 (lv_at hl 6 rfl) ?_
      obtain ⟨a31, rfl, h⟩ := h
      obtain ⟨hk_a31, h⟩ := h
      obtain ⟨h1, h⟩ := h
      refine z_aald (k := 4) X hB.1 (by decide) hk_a31 h1 dX1_zone_45 ?_
      obtain ⟨y32, ey32⟩ : ∃ z : Option Nat, z = (Q a31 x6.toNatClampNeg) := ⟨_, rfl⟩
      replace h := h y32 ey32
      refine z_stk (st' := [va_rf y32]) (by rw [ey32]) ?_
      refine z_astore (x := y32) (lv' := [(7, va_rf y32), (0, .ref o), (1, .int x1), (2, .int x2), (3, .int x3), (4, .ref a31), (5, .int x5), (6, .int x6)]) hx hb dX1_zone_46 hl (by decide) rfl (fun ls hl9 => ?_)
      replace hl := hl9
      clear hl9
      refine lv_iload_n hx hb dX1_zone_48 rfl (lv_at hl 3 rfl) ?_
      refine lv_iconst (v := 2) hx hb dX1_zone_49 (by decide) ?_
      refine lv_icmp_ne (tgt := 65) hx hb dX1_zone_50 (by decide) (fun c33 => ?_) (fun c33 => ?_)
      · replace h := h.1 c33
        refine z_aload (x := y32) hx hb dX1_zone_65 (lv_at hl 0 rfl) ?_
        obtain ⟨a34, rfl, h⟩ := h
        obtain ⟨hk_a34, h⟩ := h
        refine z_callip (z_runV (rest := []) [] pk_X4_held (met_X4_held a34 _ h) X hB (fun h => h) q2454 kc_X4 (by decide) hk_a34 rfl hl.1 (Nat.le_of_ble_eq_true rfl) dX1_zone_67 (z_k4 hK1) (z_k4 hK2) (by decide) (by decide)) hB (fun r35 H locs h9 hB => ?_)
        replace h := h9
        clear h9
        refine lv_aload_n (x := o) hx hb dX1_zone_70 rfl (lv_at hl 1 rfl) ?_
        refine z_getq X hB.1 kc_X1 in_X1 (j := 0) (Nat.le_of_ble_eq_true rfl) q1296 (fun _ h => h) rfl (by decide) (z_fo hB ho (by decide)) dX1_zone_71 ?_
        refine lv_iload_n hx hb dX1_zone_74 rfl (lv_at hl 2 rfl) ?_
        obtain ⟨a36, ea36, h⟩ := h
        refine z_stk (st' := [.int x1, .ref a36, .int r35]) (by rw [ea36] <;> rfl) ?_
        obtain ⟨hk_a36, h⟩ := h
        obtain ⟨co38, hco38, h⟩ := h
        obtain ⟨kc39, ks40, g1, g2, h⟩ := h
        refine z_calli (z_runV (rest := [.int r35]) [.int x1] pk_X2_conflicts (met_X2_conflicts co38 a36 x1 kc39 ks40 _ h) X hB (z_coR0 hco38) q2574 kc_X2 (by decide) hk_a36 rfl hl.1 (Nat.le_of_ble_eq_true rfl) dX1_zone_75 (z_k1 hK1 g1) (z_k1 hK2 g2) (by decide) (by decide)) hB (z_coR hco38) (fun r37 T41 I42 Q43 H locs h9 hF hB => ?_)
        replace h := h9
        clear h9
        replace h := h hF
        have hk_a31 := z_tk hF hk_a31 (by decide)
        have hk_a34 := z_tk hF hk_a34 (by decide)
        replace hK1 := z_k2 hK1 g1
        replace hK2 := z_k2 hK2 g2
        refine lv_iand hx hb dX1_zone_78 ?_
        refine lv_if_eq (tgt := 86) hx hb dX1_zone_79 (by decide) (fun c44 => ?_) (fun c44 => ?_)
        · replace h := h.1 c44
          refine lv_iconst (v := 0) hx hb dX1_zone_86 (by decide) ?_
          exact ww_X1_zone_87 X ho (fun hB hK1 hK2 hl h => ih hB hK1 hK2 hl h) hB hK1 hK2 (lv_sub hl [1, 2, 3, 4, 5, 6, 7, 0] rfl) h
        · replace h := h.2 c44
          refine lv_iconst (v := 1) hx hb dX1_zone_82 (by decide) ?_
          refine lv_goto (tgt := 87) hx hb dX1_zone_83 (by decide) ?_
          exact ww_X1_zone_87 X ho (fun hB hK1 hK2 hl h => ih hB hK1 hK2 hl h) hB hK1 hK2 (lv_sub hl [1, 2, 3, 4, 5, 6, 7, 0] rfl) h
      · replace h := h.2 c33
        refine z_aload (x := y32) hx hb dX1_zone_53 (lv_at hl 0 rfl) ?_
        obtain ⟨a45, rfl, h⟩ := h
        obtain ⟨hk_a45, h⟩ := h
        refine z_getiN X hB.1 kc_X4 in_X4 (j := 1) (Nat.le_of_ble_eq_true rfl) q1181 (fun _ h => h) rfl (by decide) hk_a45 dX1_zone_55 ?_
        refine lv_iload_n hx hb dX1_zone_58 rfl (lv_at hl 2 rfl) ?_
        refine z_callzp (z_runS (rest := []) [.int (I a45 1), .int x1] pk_X1_contains (met_X1_contains (I a45 1) x1 _ h) X hB (fun h => h) q2455 rfl hl.1 (Nat.le_of_ble_eq_true rfl) dX1_zone_59 (z_k4 hK1) (z_k4 hK2) (by decide) (by decide)) hB (fun r46 H locs hz h9 hB => ?_)
        replace h := h9
        clear h9
        replace h := h hz
        refine lv_goto (tgt := 87) hx hb dX1_zone_62 (by decide) ?_
        exact ww_X1_zone_87 X ho (fun hB hK1 hK2 hl h => ih hB hK1 hK2 hl h) hB hK1 hK2 (lv_sub hl [1, 2, 3, 4, 5, 6, 7, 0] rfl) h
theorem ww_X1_zone_0 {o : Nat} {Qk : Int32 → z_T → z_I → z_Q → Prop} {Xk : String → Nat → z_T → z_I → z_Q → Prop} (X : z_X l G A p R s m args meth c cX1_zone 9 RX1 "zone" (some .int) mc ms 15 269) (ho : (T0 o).1 = 1) {cells slots : Nat} {T : z_T} {I : z_I} {Q : z_Q} {kc : Nat} {ks : Nat} {x1 : Int32} {x2 : Int32} {H : Heap} {locs : List Loc} {ls : Array Slot} (hB : z_HB G z_PR A s.heap T0 I0 Q0 T I Q H locs) (hK1 : cells + kc ≤ mc) (hK2 : slots + ks ≤ ms) (hl : lv_has ls 9 [(0, .ref o), (1, .int x1), (2, .int x2)]) (h : wb_X1_zone_0 o Qk Xk T I Q kc ks x1 x2) : W p l e R s m args below meth c H locs cells slots (z_MQ below G z_PR A T0 I0 Q0 (z_qi Qk) Xk args s mc ms) (F0 m 0 ls []) := by
  obtain ⟨hx, hb, -⟩ := id X
  unfold wb_X1_zone_0 at h
  refine lv_iload_n hx hb dX1_zone_0 rfl (lv_at hl 1 rfl) ?_
  refine lv_bipush (v := 8) hx hb dX1_zone_1 (by decide) ?_
  obtain ⟨kc2, ks3, g1, g2, h⟩ := h
  refine z_callXv (z_runS (rest := []) [.int x1, .int 8] pk_X1_checkIndex (met_X1_checkIndex x1 8 kc2 ks3 _ _ h) X hB hB.2.2.2.2.2.2 q2387 rfl hl.1 (Nat.le_of_ble_eq_true rfl) dX1_zone_3 (z_k1 hK1 g1) (z_k1 hK2 g2) (by decide) (by decide)) hB (fun _ h => h) (z_on (by decide +kernel) X (z_k1 hK1 g1) (z_k1 hK2 g2)) (fun T4 I5 Q6 H locs h9 hF hB => ?_)
  replace h := h9
  clear h9
  replace h := h hF
  replace hK1 := z_k2 hK1 g1
  replace hK2 := z_k2 hK2 g2
  refine lv_iload_n hx hb dX1_zone_6 rfl (lv_at hl 2 rfl) ?_
  refine lv_iconst (v := 0) hx hb dX1_zone_7 (by decide) ?_
  refine lv_iconst (v := 4) hx hb dX1_zone_8 (by decide) ?_
  refine z_callzp (z_runS (rest := []) [.int x2, .int 0, .int 4] pk_X1_inRange (met_X1_inRange x2 0 4 _ h) X hB (fun h => h) q2390 rfl hl.1 (Nat.le_of_ble_eq_true rfl) dX1_zone_9 (z_k4 hK1) (z_k4 hK2) (by decide) (by decide)) hB (fun r7 H locs hz h9 hB => ?_)
  replace h := h9
  clear h9
  replace h := h hz
  obtain ⟨kc9, ks10, g1, g2, h⟩ := h
  refine z_callXv (z_runS (rest := []) [.int r7] pk_X1_checkArgument (met_X1_checkArgument r7 kc9 ks10 _ _ h) X hB hB.2.2.2.2.2.2 q2408 rfl hl.1 (Nat.le_of_ble_eq_true rfl) dX1_zone_12 (z_k1 hK1 g1) (z_k1 hK2 g2) (by decide) (by decide)) hB (fun _ h => h) (z_on (by decide +kernel) X (z_k1 hK1 g1) (z_k1 hK2 g2)) (fun T11 I12 Q13 H locs h9 hF hB => ?_)
  replace h := h9
  clear h9
  replace h := h hF
  replace hK1 := z_k2 hK1 g1
  replace hK2 := z_k2 hK2 g2
  refine lv_iconst (v := 0) hx hb dX1_zone_15 (by decide) ?_
  refine lv_istore_n (lv' := [(3, .int 0), (0, .ref o), (1, .int x1), (2, .int x2)]) hx hb dX1_zone_16 rfl hl (by decide) rfl (fun ls hl9 => ?_)
  replace hl := hl9
  clear hl9
  refine lv_aload_n (x := o) hx hb dX1_zone_17 rfl (lv_at hl 1 rfl) ?_
  refine z_getq X hB.1 kc_X1 in_X1 (j := 0) (Nat.le_of_ble_eq_true rfl) q1296 (fun _ h => h) rfl (by decide) (z_fo hB ho (by decide)) dX1_zone_18 ?_
  obtain ⟨a14, ea14, h⟩ := h
  refine z_stk (st' := [.ref a14]) (by rw [ea14] <;> rfl) ?_
  obtain ⟨hk_a14, h⟩ := h
  refine z_getqN X hB.1 kc_X2 in_X2 (j := 2) (Nat.le_of_ble_eq_true rfl) q1243 (fun _ h => h) rfl (by decide) hk_a14 dX1_zone_21 ?_
  obtain ⟨y15, ey15⟩ : ∃ z : Option Nat, z = (Q13 a14 2) := ⟨_, rfl⟩
  replace h := h y15 ey15
  refine z_stk (st' := [va_rf y15]) (by rw [ey15]) ?_
  refine z_astore (x := y15) (lv' := [(4, va_rf y15), (3, .int 0), (0, .ref o), (1, .int x1), (2, .int x2)]) hx hb dX1_zone_24 hl (by decide) rfl (fun ls hl9 => ?_)
  replace hl := hl9
  clear hl9
  refine z_aload (x := y15) hx hb dX1_zone_26 (lv_at hl 0 rfl) ?_
  obtain ⟨a16, rfl, h⟩ := h
  obtain ⟨hk_a16, h⟩ := h
  refine z_alen (k := 4) X hB.1 (by decide) hk_a16 dX1_zone_28 ?_
  refine lv_topi (fun y17 ey17 => ?_)
  replace h := h y17 ey17
  refine lv_istore (lv' := [(5, .int y17), (4, .ref a16), (3, .int 0), (0, .ref o), (1, .int x1), (2, .int x2)]) hx hb dX1_zone_29 hl (by decide) rfl (fun ls hl9 => ?_)
  replace hl := hl9
  clear hl9
  refine lv_iconst (v := 0) hx hb dX1_zone_31 (by decide) ?_
  refine lv_istore (lv' := [(6, .int 0), (5, .int y17), (4, .ref a16), (3, .int 0), (0, .ref o), (1, .int x1), (2, .int x2)]) hx hb dX1_zone_32 hl (by decide) rfl (fun ls hl9 => ?_)
  replace hl := hl9
  clear hl9
  obtain ⟨w, h⟩ := h
  exact wv_X1_zone_34 X ho  w hB hK1 hK2 (lv_sub hl [4, 5, 6, 3, 2, 1, 0] rfl) h
theorem pk_X1_zone : z_PV RX1 yX1_zone cX1_zone 9 (some .int) 2 := ⟨q2571, q2572, q94, q2573, by decide +kernel⟩
theorem met_X1_zone {l : Launch} {G : z_E} {T : z_T} {I : z_I} {Q : z_Q} (o : Nat) (x1 : Int32) (x2 : Int32) (kc : Nat) (ks : Nat) (Qk : Int32 → z_T → z_I → z_Q → Prop) (Xk : String → Nat → z_T → z_I → z_Q → Prop) (h : wp_X1_zone T I Q o x1 x2 kc ks Qk Xk) : z_GM l G yX1_zone (ws_ yX1_zone cX1_zone 9 (some .int)) 15 269 kc ks [.ref o, .int x1, .int x2] z_PR T I Q (z_qi Qk) Xk := by
  obtain ⟨ho, h⟩ := h
  refine z_body (own := RX1) (nm := "zone") (by decide +kernel) rfl rfl (Nat.le_of_ble_eq_true rfl) (fun p e R s m below meth c A ls X hB hl => ?_)
  exact ww_X1_zone_0 X ho hB z_k0 z_k0 hl h
/-! X1_supply -/
theorem ww_X1_supply_0 {o : Nat} {Qk : Int32 → z_T → z_I → z_Q → Prop} {Xk : String → Nat → z_T → z_I → z_Q → Prop} (X : z_X l G A p R s m args meth c cX1_supply 4 RX1 "supply" (some .int) mc ms 15 292) (ho : (T0 o).1 = 1) {cells slots : Nat} {T : z_T} {I : z_I} {Q : z_Q} {kc : Nat} {ks : Nat} {x1 : Int32} {H : Heap} {locs : List Loc} {ls : Array Slot} (hB : z_HB G z_PR A s.heap T0 I0 Q0 T I Q H locs) (hK1 : cells + kc ≤ mc) (hK2 : slots + ks ≤ ms) (hl : lv_has ls 4 [(0, .ref o), (1, .int x1)]) (h : wb_X1_supply_0 G.2.2 o Qk Xk T I Q kc ks x1) : W p l e R s m args below meth c H locs cells slots (z_MQ below G z_PR A T0 I0 Q0 (z_qi Qk) Xk args s mc ms) (F0 m 0 ls []) := by
  obtain ⟨hx, hb, -⟩ := id X
  unfold wb_X1_supply_0 at h
  refine lv_iload_n hx hb dX1_supply_0 rfl (lv_at hl 1 rfl) ?_
  refine lv_iconst (v := 3) hx hb dX1_supply_1 (by decide) ?_
  obtain ⟨kc2, ks3, g1, g2, h⟩ := h
  refine z_callXv (z_runS (rest := []) [.int x1, .int 3] pk_X1_checkIndex (met_X1_checkIndex x1 3 kc2 ks3 _ _ h) X hB hB.2.2.2.2.2.2 q2387 rfl hl.1 (Nat.le_of_ble_eq_true rfl) dX1_supply_2 (z_k1 hK1 g1) (z_k1 hK2 g2) (by decide) (by decide)) hB (fun _ h => h) (z_on (by decide +kernel) X (z_k1 hK1 g1) (z_k1 hK2 g2)) (fun T4 I5 Q6 H locs h9 hF hB => ?_)
  replace h := h9
  clear h9
  replace h := h hF
  replace hK1 := z_k2 hK1 g1
  replace hK2 := z_k2 hK2 g2
  refine lv_aload_n (x := o) hx hb dX1_supply_5 rfl (lv_at hl 0 rfl) ?_
  refine z_getq X hB.1 kc_X1 in_X1 (j := 0) (Nat.le_of_ble_eq_true rfl) q1296 (fun _ h => h) rfl (by decide) (z_fo hB ho (by decide)) dX1_supply_6 ?_
  obtain ⟨a7, ea7, h⟩ := h
  refine z_stk (st' := [.ref a7]) (by rw [ea7] <;> rfl) ?_
  obtain ⟨hk_a7, h⟩ := h
  refine z_getqN X hB.1 kc_X2 in_X2 (j := 1) (Nat.le_of_ble_eq_true rfl) q1239 (fun _ h => h) rfl (by decide) hk_a7 dX1_supply_9 ?_
  refine lv_iload_n hx hb dX1_supply_12 rfl (lv_at hl 1 rfl) ?_
  obtain ⟨a8, ea8, h⟩ := h
  refine z_stk (st' := [.int x1, .ref a8]) (by rw [ea8] <;> rfl) ?_
  obtain ⟨hk_a8, h⟩ := h
  obtain ⟨h1, h⟩ := h
  refine z_aald (k := 3) X hB.1 (by decide) hk_a8 h1 dX1_supply_13 ?_
  obtain ⟨a9, ea9, h⟩ := h
  refine z_stk (st' := [.ref a9]) (by rw [ea9] <;> rfl) ?_
  obtain ⟨hk_a9, h⟩ := h
  refine z_callzp (z_runV (rest := []) [] pk_X3_hasRoom (met_X3_hasRoom a9 _ h) X hB (fun h => h) q2535 kc_X3 (by decide) hk_a9 rfl hl.1 (Nat.le_of_ble_eq_true rfl) dX1_supply_14 (z_k4 hK1) (z_k4 hK2) (by decide) (by decide)) hB (fun r10 H locs hz h9 hB => ?_)
  replace h := h9
  clear h9
  replace h := h hz
  obtain ⟨kc12, ks13, g1, g2, h⟩ := h
  refine z_callXv (z_runS (rest := []) [.int r10] pk_X1_checkState (met_X1_checkState r10 kc12 ks13 _ _ h) X hB hB.2.2.2.2.2.2 q2456 rfl hl.1 (Nat.le_of_ble_eq_true rfl) dX1_supply_17 (z_k1 hK1 g1) (z_k1 hK2 g2) (by decide) (by decide)) hB (fun _ h => h) (z_on (by decide +kernel) X (z_k1 hK1 g1) (z_k1 hK2 g2)) (fun T14 I15 Q16 H locs h9 hF hB => ?_)
  replace h := h9
  clear h9
  replace h := h hF
  replace hK1 := z_k2 hK1 g1
  replace hK2 := z_k2 hK2 g2
  obtain ⟨co17, hco17, h⟩ := h
  obtain ⟨g1, g2, h⟩ := h
  refine z_new (col := co17) tyX2 X hB kc_X2 in_X2 tyX2_ok q172 q173 q95 (by decide) (z_dvX2) hco17 (z_k1 hK1 g1) (z_k1 hK2 g2) dX1_supply_20 (fun a18 H hq hB => ?_)
  obtain ⟨T19, eT19⟩ : ∃ z, z = z_t T14 a18 (3, 0, co17) := ⟨_, rfl⟩
  obtain ⟨I20, eI20⟩ : ∃ z, z = z_row I15 a18 (fun _ => 0) := ⟨_, rfl⟩
  obtain ⟨Q21, eQ21⟩ : ∃ z, z = z_row Q16 a18 (fun _ => none) := ⟨_, rfl⟩
  rw [← eT19, ← eI20, ← eQ21] at hB
  replace h := h a18 T19 I20 Q21 hq eT19 eI20 eQ21
  have hk_a18 := z_tq eT19
  have hc_a18 : 3 ≤ (T19 a18).2.2 := by rw [z_tqc eT19]; exact hco17
  replace hK1 := z_k2 hK1 g1
  replace hK2 := z_k2 hK2 g2
  refine lv_dup hx hb dX1_supply_23 rfl ?_
  refine lv_aload_n (x := o) hx hb dX1_supply_24 rfl (lv_at hl 0 rfl) ?_
  refine z_getq X hB.1 kc_X1 in_X1 (j := 0) (Nat.le_of_ble_eq_true rfl) q1296 (fun _ h => h) rfl (by decide) (z_fo hB ho (by decide)) dX1_supply_25 ?_
  obtain ⟨co23, hco23, h⟩ := h
  obtain ⟨kc24, ks25, g1, g2, h⟩ := h
  refine z_callv (z_runI (rest := [.ref a18]) [va_rf (Q21 o 0)] pk_X2_init_2 (met_X2_init_2 co23 a18 (Q21 o 0) kc24 ks25 _ h) X hB (z_coR0 hco23) q1627 rfl hl.1 (Nat.le_of_ble_eq_true rfl) dX1_supply_28 (z_k1 hK1 g1) (z_k1 hK2 g2) (by decide) (by decide)) hB (z_coR hco23) (fun T26 I27 Q28 H locs h9 hF hB => ?_)
  replace h := h9
  clear h9
  replace h := h hF
  have hc_a18 : 3 ≤ (T26 a18).2.2 := by rw [z_te hF hk_a18 (by decide)]; exact hc_a18
  have hk_a18 := z_tk hF hk_a18 (by decide)
  replace hK1 := z_k2 hK1 g1
  replace hK2 := z_k2 hK2 g2
  refine lv_astore_n (x := a18) (lv' := [(2, .ref a18), (0, .ref o), (1, .int x1)]) hx hb dX1_supply_31 rfl hl (by decide) rfl (fun ls hl9 => ?_)
  replace hl := hl9
  clear hl9
  refine lv_aload_n (x := a18) hx hb dX1_supply_32 rfl (lv_at hl 0 rfl) ?_
  obtain ⟨co30, hco30, h⟩ := h
  refine z_calli (z_runV (rest := []) [] pk_X2_newPart (met_X2_newPart co30 a18 _ h) X hB (z_coR0 hco30) q2540 kc_X2 (by decide) hk_a18 rfl hl.1 (Nat.le_of_ble_eq_true rfl) dX1_supply_33 (z_k4 hK1) (z_k4 hK2) (by decide) (by decide)) hB (z_coR hco30) (fun r29 T31 I32 Q33 H locs h9 hF hB => ?_)
  replace h := h9
  clear h9
  replace h := h hF
  have hc_a18 : 3 ≤ (T31 a18).2.2 := by rw [z_te hF hk_a18 (by decide)]; exact hc_a18
  have hk_a18 := z_tk hF hk_a18 (by decide)
  refine lv_istore_n (lv' := [(3, .int r29), (2, .ref a18), (0, .ref o), (1, .int x1)]) hx hb dX1_supply_36 rfl hl (by decide) rfl (fun ls hl9 => ?_)
  replace hl := hl9
  clear hl9
  refine lv_aload_n (x := a18) hx hb dX1_supply_37 rfl (lv_at hl 1 rfl) ?_
  refine z_getqN X hB.1 kc_X2 in_X2 (j := 1) (Nat.le_of_ble_eq_true rfl) q1239 (fun _ h => h) rfl (by decide) hk_a18 dX1_supply_38 ?_
  refine lv_iload_n hx hb dX1_supply_41 rfl (lv_at hl 3 rfl) ?_
  obtain ⟨a34, ea34, h⟩ := h
  refine z_stk (st' := [.int x1, .ref a34]) (by rw [ea34] <;> rfl) ?_
  obtain ⟨hk_a34, h⟩ := h
  obtain ⟨h1, h⟩ := h
  refine z_aald (k := 3) X hB.1 (by decide) hk_a34 h1 dX1_supply_42 ?_
  refine lv_iload_n hx hb dX1_supply_43 rfl (lv_at hl 0 rfl) ?_
  obtain ⟨a35, ea35, h⟩ := h
  refine z_stk (st' := [.int r29, .ref a35]) (by rw [ea35] <;> rfl) ?_
  obtain ⟨hk_a35, h⟩ := h
  obtain ⟨co37, hco37, h⟩ := h
  obtain ⟨kc38, ks39, g1, g2, h⟩ := h
  refine z_callv (z_runV (rest := []) [.int r29] pk_X3_put (met_X3_put co37 a35 r29 kc38 ks39 _ h) X hB (z_coR0 hco37) q2544 kc_X3 (by decide) hk_a35 rfl hl.1 (Nat.le_of_ble_eq_true rfl) dX1_supply_44 (z_k1 hK1 g1) (z_k1 hK2 g2) (by decide) (by decide)) hB (z_coR hco37) (fun T40 I41 Q42 H locs h9 hF hB => ?_)
  replace h := h9
  clear h9
  replace h := h hF
  have hc_a18 : 3 ≤ (T40 a18).2.2 := by rw [z_te hF hk_a18 (by decide)]; exact hc_a18
  have hk_a18 := z_tk hF hk_a18 (by decide)
  replace hK1 := z_k2 hK1 g1
  replace hK2 := z_k2 hK2 g2
  refine lv_aload_n (x := o) hx hb dX1_supply_47 rfl (lv_at hl 2 rfl) ?_
  refine lv_aload_n (x := a18) hx hb dX1_supply_48 rfl (lv_at hl 1 rfl) ?_
  obtain ⟨kc44, ks45, g1, g2, h⟩ := h
  refine z_callv (z_runV (rest := []) [.ref a18] pk_X1_change (met_X1_change o (some a18) kc44 ks45 _ h) X hB hB.2.2.2.2.2.2 q2495 kc_X1 (by decide) (z_fo hB ho (by decide)) rfl hl.1 (Nat.le_of_ble_eq_true rfl) dX1_supply_49 (z_k1 hK1 g1) (z_k1 hK2 g2) (by decide) (by decide)) hB (fun _ h => h) (fun T46 I47 Q48 H locs h9 hF hB => ?_)
  replace h := h9
  clear h9
  replace h := h hF
  have hc_a18 : 3 ≤ (T46 a18).2.2 := by rw [z_te hF hk_a18 (by decide)]; exact hc_a18
  have hk_a18 := z_tk hF hk_a18 (by decide)
  replace hK1 := z_k2 hK1 g1
  replace hK2 := z_k2 hK2 g2
  refine lv_iload_n hx hb dX1_supply_52 rfl (lv_at hl 0 rfl) ?_
  exact z_iret X hB ⟨_, rfl, h⟩ (z_k3 hK1) (z_k3 hK2) dX1_supply_53
theorem pk_X1_supply : z_PV RX1 yX1_supply cX1_supply 4 (some .int) 1 := ⟨q2532, q2533, q94, q2534, by decide +kernel⟩
theorem met_X1_supply {l : Launch} {G : z_E} {T : z_T} {I : z_I} {Q : z_Q} (o : Nat) (x1 : Int32) (kc : Nat) (ks : Nat) (Qk : Int32 → z_T → z_I → z_Q → Prop) (Xk : String → Nat → z_T → z_I → z_Q → Prop) (h : wp_X1_supply G.2.2 T I Q o x1 kc ks Qk Xk) : z_GM l G yX1_supply (ws_ yX1_supply cX1_supply 4 (some .int)) 15 292 kc ks [.ref o, .int x1] z_PR T I Q (z_qi Qk) Xk := by
  obtain ⟨ho, h⟩ := h
  refine z_body (own := RX1) (nm := "supply") (by decide +kernel) rfl rfl (Nat.le_of_ble_eq_true rfl) (fun p e R s m below meth c A ls X hB hl => ?_)
  exact ww_X1_supply_0 X ho hB z_k0 z_k0 hl h
/-! X1_setCapacity -/
theorem ww_X1_setCapacity_57 {o : Nat} {Qk : Int32 → z_T → z_I → z_Q → Prop} {Xk : String → Nat → z_T → z_I → z_Q → Prop} (X : z_X l G A p R s m args meth c cX1_setCapacity 6 RX1 "setCapacity" (some .int) mc ms 15 292) (ho : (T0 o).1 = 1) {cells slots : Nat} {T : z_T} {I : z_I} {Q : z_Q} {kc : Nat} {ks : Nat} {x2 : Int32} {x3 : Option Nat} {x4 : Option Nat} {s0 : Int32} {H : Heap} {locs : List Loc} {ls : Array Slot} (hB : z_HB G z_PR A s.heap T0 I0 Q0 T I Q H locs) (hK1 : cells + kc ≤ mc) (hK2 : slots + ks ≤ ms) (hl : lv_has ls 6 [(0, .ref o), (2, .int x2), (3, va_rf x3), (4, va_rf x4)]) (h : wb_X1_setCapacity_57 G.2.2 o Qk Xk T I Q kc ks x2 x3 x4 s0) : W p l e R s m args below meth c H locs cells slots (z_MQ below G z_PR A T0 I0 Q0 (z_qi Qk) Xk args s mc ms) (F0 m 57 ls [.int s0]) := by
  obtain ⟨hx, hb, -⟩ := id X
  unfold wb_X1_setCapacity_57 at h
  obtain ⟨kc33, ks34, g1, g2, h⟩ := h
  refine z_callXv (z_runS (rest := []) [.int s0] pk_X1_checkState (met_X1_checkState s0 kc33 ks34 _ _ h) X hB hB.2.2.2.2.2.2 q2456 rfl hl.1 (Nat.le_of_ble_eq_true rfl) dX1_setCapacity_57 (z_k1 hK1 g1) (z_k1 hK2 g2) (by decide) (by decide)) hB (fun _ h => h) (z_on (by decide +kernel) X (z_k1 hK1 g1) (z_k1 hK2 g2)) (fun T35 I36 Q37 H locs h9 hF hB => ?_)
  replace h := h9
  clear h9
  replace h := h hF
  replace hK1 := z_k2 hK1 g1
  replace hK2 := z_k2 hK2 g2
  refine z_aload (x := x4) hx hb dX1_setCapacity_60 (lv_at hl 3 rfl) ?_
  obtain ⟨a38, rfl, h⟩ := h
  obtain ⟨hk_a38, h⟩ := h
  refine z_getiN X hB.1 kc_X3 in_X3 (j := 1) (Nat.le_of_ble_eq_true rfl) q1149 (fun _ h => h) rfl (by decide) hk_a38 dX1_setCapacity_62 ?_
  refine lv_topi (fun y39 ey39 => ?_)
  replace h := h y39 ey39
  refine lv_istore (lv' := [(5, .int y39), (0, .ref o), (2, .int x2), (3, va_rf x3), (4, .ref a38)]) hx hb dX1_setCapacity_65 hl (by decide) rfl (fun ls hl9 => ?_)
  replace hl := hl9
  clear hl9
  refine lv_aload (x := a38) hx hb dX1_setCapacity_67 (lv_at hl 4 rfl) ?_
  refine lv_iload_n hx hb dX1_setCapacity_69 rfl (lv_at hl 2 rfl) ?_
  obtain ⟨hc_a38, h⟩ := h
  obtain ⟨I40, eI40⟩ : ∃ z, z = z_up I36 a38 1 x2 := ⟨_, rfl⟩
  replace h := h I40 eI40
  refine z_putiN (x := x2) eI40 tyX3 X hB kc_X3 in_X3 tyX3_ok nmX3 (j := 1) (Nat.le_of_ble_eq_true rfl) q1149 (fun _ h => h) rfl rfl (by decide) hk_a38 hc_a38 rfl (Or.inl rfl) dX1_setCapacity_70 (fun H locs hB => ?_)
  refine lv_aload_n (x := o) hx hb dX1_setCapacity_73 rfl (lv_at hl 1 rfl) ?_
  refine z_aload_n (x := x3) hx hb dX1_setCapacity_74 rfl (lv_at hl 3 rfl) ?_
  obtain ⟨kc42, ks43, g1, g2, h⟩ := h
  refine z_callv (z_runV (rest := []) [va_rf x3] pk_X1_change (met_X1_change o x3 kc42 ks43 _ h) X hB hB.2.2.2.2.2.2 q2495 kc_X1 (by decide) (z_fo hB ho (by decide)) rfl hl.1 (Nat.le_of_ble_eq_true rfl) dX1_setCapacity_75 (z_k1 hK1 g1) (z_k1 hK2 g2) (by decide) (by decide)) hB (fun _ h => h) (fun T44 I45 Q46 H locs h9 hF hB => ?_)
  replace h := h9
  clear h9
  replace h := h hF
  have hc_a38 : 3 ≤ (T44 a38).2.2 := by rw [z_te hF hk_a38 (by decide)]; exact hc_a38
  have hk_a38 := z_tk hF hk_a38 (by decide)
  replace hK1 := z_k2 hK1 g1
  replace hK2 := z_k2 hK2 g2
  refine lv_iload hx hb dX1_setCapacity_78 (lv_at hl 0 rfl) ?_
  exact z_iret X hB ⟨_, rfl, h⟩ (z_k3 hK1) (z_k3 hK2) dX1_setCapacity_80
theorem ww_X1_setCapacity_0 {o : Nat} {Qk : Int32 → z_T → z_I → z_Q → Prop} {Xk : String → Nat → z_T → z_I → z_Q → Prop} (X : z_X l G A p R s m args meth c cX1_setCapacity 6 RX1 "setCapacity" (some .int) mc ms 15 292) (ho : (T0 o).1 = 1) {cells slots : Nat} {T : z_T} {I : z_I} {Q : z_Q} {kc : Nat} {ks : Nat} {x1 : Int32} {x2 : Int32} {H : Heap} {locs : List Loc} {ls : Array Slot} (hB : z_HB G z_PR A s.heap T0 I0 Q0 T I Q H locs) (hK1 : cells + kc ≤ mc) (hK2 : slots + ks ≤ ms) (hl : lv_has ls 6 [(0, .ref o), (1, .int x1), (2, .int x2)]) (h : wb_X1_setCapacity_0 G.2.2 o Qk Xk T I Q kc ks x1 x2) : W p l e R s m args below meth c H locs cells slots (z_MQ below G z_PR A T0 I0 Q0 (z_qi Qk) Xk args s mc ms) (F0 m 0 ls []) := by
  obtain ⟨hx, hb, -⟩ := id X
  unfold wb_X1_setCapacity_0 at h
  refine lv_iload_n hx hb dX1_setCapacity_0 rfl (lv_at hl 1 rfl) ?_
  refine lv_iconst (v := 3) hx hb dX1_setCapacity_1 (by decide) ?_
  obtain ⟨kc2, ks3, g1, g2, h⟩ := h
  refine z_callXv (z_runS (rest := []) [.int x1, .int 3] pk_X1_checkIndex (met_X1_checkIndex x1 3 kc2 ks3 _ _ h) X hB hB.2.2.2.2.2.2 q2387 rfl hl.1 (Nat.le_of_ble_eq_true rfl) dX1_setCapacity_2 (z_k1 hK1 g1) (z_k1 hK2 g2) (by decide) (by decide)) hB (fun _ h => h) (z_on (by decide +kernel) X (z_k1 hK1 g1) (z_k1 hK2 g2)) (fun T4 I5 Q6 H locs h9 hF hB => ?_)
  replace h := h9
  clear h9
  replace h := h hF
  replace hK1 := z_k2 hK1 g1
  replace hK2 := z_k2 hK2 g2
  refine lv_iload_n hx hb dX1_setCapacity_5 rfl (lv_at hl 2 rfl) ?_
  refine lv_iconst (v := 1) hx hb dX1_setCapacity_6 (by decide) ?_
  refine lv_iconst (v := 4) hx hb dX1_setCapacity_7 (by decide) ?_
  refine z_callzp (z_runS (rest := []) [.int x2, .int 1, .int 4] pk_X1_inRange (met_X1_inRange x2 1 4 _ h) X hB (fun h => h) q2390 rfl hl.1 (Nat.le_of_ble_eq_true rfl) dX1_setCapacity_8 (z_k4 hK1) (z_k4 hK2) (by decide) (by decide)) hB (fun r7 H locs hz h9 hB => ?_)
  replace h := h9
  clear h9
  replace h := h hz
  obtain ⟨kc9, ks10, g1, g2, h⟩ := h
  refine z_callXv (z_runS (rest := []) [.int r7] pk_X1_checkArgument (met_X1_checkArgument r7 kc9 ks10 _ _ h) X hB hB.2.2.2.2.2.2 q2408 rfl hl.1 (Nat.le_of_ble_eq_true rfl) dX1_setCapacity_11 (z_k1 hK1 g1) (z_k1 hK2 g2) (by decide) (by decide)) hB (fun _ h => h) (z_on (by decide +kernel) X (z_k1 hK1 g1) (z_k1 hK2 g2)) (fun T11 I12 Q13 H locs h9 hF hB => ?_)
  replace h := h9
  clear h9
  replace h := h hF
  replace hK1 := z_k2 hK1 g1
  replace hK2 := z_k2 hK2 g2
  obtain ⟨co14, hco14, h⟩ := h
  obtain ⟨g1, g2, h⟩ := h
  refine z_new (col := co14) tyX2 X hB kc_X2 in_X2 tyX2_ok q172 q173 q95 (by decide) (z_dvX2) hco14 (z_k1 hK1 g1) (z_k1 hK2 g2) dX1_setCapacity_14 (fun a15 H hq hB => ?_)
  obtain ⟨T16, eT16⟩ : ∃ z, z = z_t T11 a15 (3, 0, co14) := ⟨_, rfl⟩
  obtain ⟨I17, eI17⟩ : ∃ z, z = z_row I12 a15 (fun _ => 0) := ⟨_, rfl⟩
  obtain ⟨Q18, eQ18⟩ : ∃ z, z = z_row Q13 a15 (fun _ => none) := ⟨_, rfl⟩
  rw [← eT16, ← eI17, ← eQ18] at hB
  replace h := h a15 T16 I17 Q18 hq eT16 eI17 eQ18
  have hk_a15 := z_tq eT16
  have hc_a15 : 3 ≤ (T16 a15).2.2 := by rw [z_tqc eT16]; exact hco14
  replace hK1 := z_k2 hK1 g1
  replace hK2 := z_k2 hK2 g2
  refine lv_dup hx hb dX1_setCapacity_17 rfl ?_
  refine lv_aload_n (x := o) hx hb dX1_setCapacity_18 rfl (lv_at hl 0 rfl) ?_
  refine z_getq X hB.1 kc_X1 in_X1 (j := 0) (Nat.le_of_ble_eq_true rfl) q1296 (fun _ h => h) rfl (by decide) (z_fo hB ho (by decide)) dX1_setCapacity_19 ?_
  obtain ⟨co20, hco20, h⟩ := h
  obtain ⟨kc21, ks22, g1, g2, h⟩ := h
  refine z_callv (z_runI (rest := [.ref a15]) [va_rf (Q18 o 0)] pk_X2_init_2 (met_X2_init_2 co20 a15 (Q18 o 0) kc21 ks22 _ h) X hB (z_coR0 hco20) q1627 rfl hl.1 (Nat.le_of_ble_eq_true rfl) dX1_setCapacity_22 (z_k1 hK1 g1) (z_k1 hK2 g2) (by decide) (by decide)) hB (z_coR hco20) (fun T23 I24 Q25 H locs h9 hF hB => ?_)
  replace h := h9
  clear h9
  replace h := h hF
  have hc_a15 : 3 ≤ (T23 a15).2.2 := by rw [z_te hF hk_a15 (by decide)]; exact hc_a15
  have hk_a15 := z_tk hF hk_a15 (by decide)
  replace hK1 := z_k2 hK1 g1
  replace hK2 := z_k2 hK2 g2
  refine lv_astore_n (x := a15) (lv' := [(3, .ref a15), (0, .ref o), (1, .int x1), (2, .int x2)]) hx hb dX1_setCapacity_25 rfl hl (by decide) rfl (fun ls hl9 => ?_)
  replace hl := hl9
  clear hl9
  refine lv_aload_n (x := a15) hx hb dX1_setCapacity_26 rfl (lv_at hl 0 rfl) ?_
  refine z_getqN X hB.1 kc_X2 in_X2 (j := 1) (Nat.le_of_ble_eq_true rfl) q1239 (fun _ h => h) rfl (by decide) hk_a15 dX1_setCapacity_27 ?_
  refine lv_iload_n hx hb dX1_setCapacity_30 rfl (lv_at hl 2 rfl) ?_
  obtain ⟨a26, ea26, h⟩ := h
  refine z_stk (st' := [.int x1, .ref a26]) (by rw [ea26] <;> rfl) ?_
  obtain ⟨hk_a26, h⟩ := h
  obtain ⟨h1, h⟩ := h
  refine z_aald (k := 3) X hB.1 (by decide) hk_a26 h1 dX1_setCapacity_31 ?_
  obtain ⟨y27, ey27⟩ : ∃ z : Option Nat, z = (Q25 a26 x1.toNatClampNeg) := ⟨_, rfl⟩
  replace h := h y27 ey27
  refine z_stk (st' := [va_rf y27]) (by rw [ey27]) ?_
  refine z_astore (x := y27) (lv' := [(4, va_rf y27), (3, .ref a15), (0, .ref o), (1, .int x1), (2, .int x2)]) hx hb dX1_setCapacity_32 hl (by decide) rfl (fun ls hl9 => ?_)
  replace hl := hl9
  clear hl9
  refine z_aload (x := y27) hx hb dX1_setCapacity_34 (lv_at hl 0 rfl) ?_
  obtain ⟨a28, rfl, h⟩ := h
  obtain ⟨hk_a28, h⟩ := h
  refine z_getqN X hB.1 kc_X3 in_X3 (j := 0) (Nat.le_of_ble_eq_true rfl) q1147 (fun _ h => h) rfl (by decide) hk_a28 dX1_setCapacity_36 ?_
  obtain ⟨a29, ea29, h⟩ := h
  refine z_stk (st' := [.ref a29]) (by rw [ea29] <;> rfl) ?_
  obtain ⟨hk_a29, h⟩ := h
  refine z_callip (z_runV (rest := []) [] pk_J31_size (met_J31_size a29 _ h) X hB (fun h => h) q2499 kc_J31 (by decide) hk_a29 rfl hl.1 (Nat.le_of_ble_eq_true rfl) dX1_setCapacity_39 (z_k4 hK1) (z_k4 hK2) (by decide) (by decide)) hB (fun r30 H locs h9 hB => ?_)
  replace h := h9
  clear h9
  refine lv_aload (x := a28) hx hb dX1_setCapacity_42 (lv_at hl 0 rfl) ?_
  refine z_getiN X hB.1 kc_X3 in_X3 (j := 2) (Nat.le_of_ble_eq_true rfl) q1152 (fun _ h => h) rfl (by decide) hk_a28 dX1_setCapacity_44 ?_
  refine lv_iadd hx hb dX1_setCapacity_47 ?_
  refine lv_iload_n hx hb dX1_setCapacity_48 rfl (lv_at hl 4 rfl) ?_
  refine lv_icmp_gt (tgt := 56) hx hb dX1_setCapacity_49 (by decide) (fun c31 => ?_) (fun c31 => ?_)
  · replace h := h.1 c31
    refine lv_iconst (v := 0) hx hb dX1_setCapacity_56 (by decide) ?_
    exact ww_X1_setCapacity_57 X ho  hB hK1 hK2 (lv_sub hl [2, 4, 1, 0] rfl) h
  · replace h := h.2 c31
    refine lv_iconst (v := 1) hx hb dX1_setCapacity_52 (by decide) ?_
    refine lv_goto (tgt := 57) hx hb dX1_setCapacity_53 (by decide) ?_
    exact ww_X1_setCapacity_57 X ho  hB hK1 hK2 (lv_sub hl [2, 4, 1, 0] rfl) h
theorem pk_X1_setCapacity : z_PV RX1 yX1_setCapacity cX1_setCapacity 6 (some .int) 2 := ⟨q2525, q2526, q94, q2527, by decide +kernel⟩
theorem met_X1_setCapacity {l : Launch} {G : z_E} {T : z_T} {I : z_I} {Q : z_Q} (o : Nat) (x1 : Int32) (x2 : Int32) (kc : Nat) (ks : Nat) (Qk : Int32 → z_T → z_I → z_Q → Prop) (Xk : String → Nat → z_T → z_I → z_Q → Prop) (h : wp_X1_setCapacity G.2.2 T I Q o x1 x2 kc ks Qk Xk) : z_GM l G yX1_setCapacity (ws_ yX1_setCapacity cX1_setCapacity 6 (some .int)) 15 292 kc ks [.ref o, .int x1, .int x2] z_PR T I Q (z_qi Qk) Xk := by
  obtain ⟨ho, h⟩ := h
  refine z_body (own := RX1) (nm := "setCapacity") (by decide +kernel) rfl rfl (Nat.le_of_ble_eq_true rfl) (fun p e R s m below meth c A ls X hB hl => ?_)
  exact ww_X1_setCapacity_0 X ho hB z_k0 z_k0 hl h
/-! X1_setReach -/
theorem ww_X1_setReach_0 {o : Nat} {Qk : Int32 → z_T → z_I → z_Q → Prop} {Xk : String → Nat → z_T → z_I → z_Q → Prop} (X : z_X l G A p R s m args meth c cX1_setReach 5 RX1 "setReach" (some .int) mc ms 15 292) (ho : (T0 o).1 = 1) {cells slots : Nat} {T : z_T} {I : z_I} {Q : z_Q} {kc : Nat} {ks : Nat} {x1 : Int32} {x2 : Int32} {H : Heap} {locs : List Loc} {ls : Array Slot} (hB : z_HB G z_PR A s.heap T0 I0 Q0 T I Q H locs) (hK1 : cells + kc ≤ mc) (hK2 : slots + ks ≤ ms) (hl : lv_has ls 5 [(0, .ref o), (1, .int x1), (2, .int x2)]) (h : wb_X1_setReach_0 G.2.2 o Qk Xk T I Q kc ks x1 x2) : W p l e R s m args below meth c H locs cells slots (z_MQ below G z_PR A T0 I0 Q0 (z_qi Qk) Xk args s mc ms) (F0 m 0 ls []) := by
  obtain ⟨hx, hb, -⟩ := id X
  unfold wb_X1_setReach_0 at h
  refine lv_iload_n hx hb dX1_setReach_0 rfl (lv_at hl 1 rfl) ?_
  refine lv_iconst (v := 3) hx hb dX1_setReach_1 (by decide) ?_
  obtain ⟨kc2, ks3, g1, g2, h⟩ := h
  refine z_callXv (z_runS (rest := []) [.int x1, .int 3] pk_X1_checkIndex (met_X1_checkIndex x1 3 kc2 ks3 _ _ h) X hB hB.2.2.2.2.2.2 q2387 rfl hl.1 (Nat.le_of_ble_eq_true rfl) dX1_setReach_2 (z_k1 hK1 g1) (z_k1 hK2 g2) (by decide) (by decide)) hB (fun _ h => h) (z_on (by decide +kernel) X (z_k1 hK1 g1) (z_k1 hK2 g2)) (fun T4 I5 Q6 H locs h9 hF hB => ?_)
  replace h := h9
  clear h9
  replace h := h hF
  replace hK1 := z_k2 hK1 g1
  replace hK2 := z_k2 hK2 g2
  refine lv_iload_n hx hb dX1_setReach_5 rfl (lv_at hl 2 rfl) ?_
  refine lv_iconst (v := 0) hx hb dX1_setReach_6 (by decide) ?_
  refine lv_sipush (v := 255) hx hb dX1_setReach_7 (by decide) ?_
  refine z_callzp (z_runS (rest := []) [.int x2, .int 0, .int 255] pk_X1_inRange (met_X1_inRange x2 0 255 _ h) X hB (fun h => h) q2390 rfl hl.1 (Nat.le_of_ble_eq_true rfl) dX1_setReach_10 (z_k4 hK1) (z_k4 hK2) (by decide) (by decide)) hB (fun r7 H locs hz h9 hB => ?_)
  replace h := h9
  clear h9
  replace h := h hz
  obtain ⟨kc9, ks10, g1, g2, h⟩ := h
  refine z_callXv (z_runS (rest := []) [.int r7] pk_X1_checkArgument (met_X1_checkArgument r7 kc9 ks10 _ _ h) X hB hB.2.2.2.2.2.2 q2408 rfl hl.1 (Nat.le_of_ble_eq_true rfl) dX1_setReach_13 (z_k1 hK1 g1) (z_k1 hK2 g2) (by decide) (by decide)) hB (fun _ h => h) (z_on (by decide +kernel) X (z_k1 hK1 g1) (z_k1 hK2 g2)) (fun T11 I12 Q13 H locs h9 hF hB => ?_)
  replace h := h9
  clear h9
  replace h := h hF
  replace hK1 := z_k2 hK1 g1
  replace hK2 := z_k2 hK2 g2
  obtain ⟨co14, hco14, h⟩ := h
  obtain ⟨g1, g2, h⟩ := h
  refine z_new (col := co14) tyX2 X hB kc_X2 in_X2 tyX2_ok q172 q173 q95 (by decide) (z_dvX2) hco14 (z_k1 hK1 g1) (z_k1 hK2 g2) dX1_setReach_16 (fun a15 H hq hB => ?_)
  obtain ⟨T16, eT16⟩ : ∃ z, z = z_t T11 a15 (3, 0, co14) := ⟨_, rfl⟩
  obtain ⟨I17, eI17⟩ : ∃ z, z = z_row I12 a15 (fun _ => 0) := ⟨_, rfl⟩
  obtain ⟨Q18, eQ18⟩ : ∃ z, z = z_row Q13 a15 (fun _ => none) := ⟨_, rfl⟩
  rw [← eT16, ← eI17, ← eQ18] at hB
  replace h := h a15 T16 I17 Q18 hq eT16 eI17 eQ18
  have hk_a15 := z_tq eT16
  have hc_a15 : 3 ≤ (T16 a15).2.2 := by rw [z_tqc eT16]; exact hco14
  replace hK1 := z_k2 hK1 g1
  replace hK2 := z_k2 hK2 g2
  refine lv_dup hx hb dX1_setReach_19 rfl ?_
  refine lv_aload_n (x := o) hx hb dX1_setReach_20 rfl (lv_at hl 0 rfl) ?_
  refine z_getq X hB.1 kc_X1 in_X1 (j := 0) (Nat.le_of_ble_eq_true rfl) q1296 (fun _ h => h) rfl (by decide) (z_fo hB ho (by decide)) dX1_setReach_21 ?_
  obtain ⟨co20, hco20, h⟩ := h
  obtain ⟨kc21, ks22, g1, g2, h⟩ := h
  refine z_callv (z_runI (rest := [.ref a15]) [va_rf (Q18 o 0)] pk_X2_init_2 (met_X2_init_2 co20 a15 (Q18 o 0) kc21 ks22 _ h) X hB (z_coR0 hco20) q1627 rfl hl.1 (Nat.le_of_ble_eq_true rfl) dX1_setReach_24 (z_k1 hK1 g1) (z_k1 hK2 g2) (by decide) (by decide)) hB (z_coR hco20) (fun T23 I24 Q25 H locs h9 hF hB => ?_)
  replace h := h9
  clear h9
  replace h := h hF
  have hc_a15 : 3 ≤ (T23 a15).2.2 := by rw [z_te hF hk_a15 (by decide)]; exact hc_a15
  have hk_a15 := z_tk hF hk_a15 (by decide)
  replace hK1 := z_k2 hK1 g1
  replace hK2 := z_k2 hK2 g2
  refine lv_astore_n (x := a15) (lv' := [(3, .ref a15), (0, .ref o), (1, .int x1), (2, .int x2)]) hx hb dX1_setReach_27 rfl hl (by decide) rfl (fun ls hl9 => ?_)
  replace hl := hl9
  clear hl9
  refine lv_aload_n (x := a15) hx hb dX1_setReach_28 rfl (lv_at hl 0 rfl) ?_
  refine z_getqN X hB.1 kc_X2 in_X2 (j := 2) (Nat.le_of_ble_eq_true rfl) q1243 (fun _ h => h) rfl (by decide) hk_a15 dX1_setReach_29 ?_
  refine lv_iload_n hx hb dX1_setReach_32 rfl (lv_at hl 2 rfl) ?_
  obtain ⟨a26, ea26, h⟩ := h
  refine z_stk (st' := [.int x1, .ref a26]) (by rw [ea26] <;> rfl) ?_
  obtain ⟨hk_a26, h⟩ := h
  obtain ⟨h1, h⟩ := h
  refine z_aald (k := 4) X hB.1 (by decide) hk_a26 h1 dX1_setReach_33 ?_
  obtain ⟨a27, ea27, h⟩ := h
  refine z_stk (st' := [.ref a27]) (by rw [ea27] <;> rfl) ?_
  obtain ⟨hk_a27, h⟩ := h
  refine z_getiN X hB.1 kc_X4 in_X4 (j := 1) (Nat.le_of_ble_eq_true rfl) q1181 (fun _ h => h) rfl (by decide) hk_a27 dX1_setReach_34 ?_
  refine lv_topi (fun y28 ey28 => ?_)
  replace h := h y28 ey28
  refine lv_istore (lv' := [(4, .int y28), (3, .ref a15), (0, .ref o), (1, .int x1), (2, .int x2)]) hx hb dX1_setReach_37 hl (by decide) rfl (fun ls hl9 => ?_)
  replace hl := hl9
  clear hl9
  refine lv_aload_n (x := a15) hx hb dX1_setReach_39 rfl (lv_at hl 1 rfl) ?_
  refine z_getqN X hB.1 kc_X2 in_X2 (j := 2) (Nat.le_of_ble_eq_true rfl) q1243 (fun _ h => h) rfl (by decide) hk_a15 dX1_setReach_40 ?_
  refine z_stk (st' := [.ref a26]) (by rw [ea26] <;> rfl) ?_
  refine lv_iload_n hx hb dX1_setReach_43 rfl (lv_at hl 3 rfl) ?_
  obtain ⟨h1, h⟩ := h
  refine z_aald (k := 4) X hB.1 (by decide) hk_a26 h1 dX1_setReach_44 ?_
  refine z_stk (st' := [.ref a27]) (by rw [ea27] <;> rfl) ?_
  refine lv_iload_n hx hb dX1_setReach_45 rfl (lv_at hl 4 rfl) ?_
  obtain ⟨hc_a27, h⟩ := h
  obtain ⟨I29, eI29⟩ : ∃ z, z = z_up I24 a27 1 x2 := ⟨_, rfl⟩
  replace h := h I29 eI29
  refine z_putiN (x := x2) eI29 tyX4 X hB kc_X4 in_X4 tyX4_ok nmX4 (j := 1) (Nat.le_of_ble_eq_true rfl) q1181 (fun _ h => h) rfl rfl (by decide) hk_a27 hc_a27 rfl (Or.inl rfl) dX1_setReach_46 (fun H locs hB => ?_)
  refine lv_aload_n (x := o) hx hb dX1_setReach_49 rfl (lv_at hl 2 rfl) ?_
  refine lv_aload_n (x := a15) hx hb dX1_setReach_50 rfl (lv_at hl 1 rfl) ?_
  obtain ⟨kc31, ks32, g1, g2, h⟩ := h
  refine z_callv (z_runV (rest := []) [.ref a15] pk_X1_change (met_X1_change o (some a15) kc31 ks32 _ h) X hB hB.2.2.2.2.2.2 q2495 kc_X1 (by decide) (z_fo hB ho (by decide)) rfl hl.1 (Nat.le_of_ble_eq_true rfl) dX1_setReach_51 (z_k1 hK1 g1) (z_k1 hK2 g2) (by decide) (by decide)) hB (fun _ h => h) (fun T33 I34 Q35 H locs h9 hF hB => ?_)
  replace h := h9
  clear h9
  replace h := h hF
  have hc_a15 : 3 ≤ (T33 a15).2.2 := by rw [z_te hF hk_a15 (by decide)]; exact hc_a15
  have hk_a15 := z_tk hF hk_a15 (by decide)
  replace hK1 := z_k2 hK1 g1
  replace hK2 := z_k2 hK2 g2
  refine lv_iload hx hb dX1_setReach_54 (lv_at hl 0 rfl) ?_
  exact z_iret X hB ⟨_, rfl, h⟩ (z_k3 hK1) (z_k3 hK2) dX1_setReach_56
theorem pk_X1_setReach : z_PV RX1 yX1_setReach cX1_setReach 5 (some .int) 2 := ⟨q2518, q2519, q94, q2520, by decide +kernel⟩
theorem met_X1_setReach {l : Launch} {G : z_E} {T : z_T} {I : z_I} {Q : z_Q} (o : Nat) (x1 : Int32) (x2 : Int32) (kc : Nat) (ks : Nat) (Qk : Int32 → z_T → z_I → z_Q → Prop) (Xk : String → Nat → z_T → z_I → z_Q → Prop) (h : wp_X1_setReach G.2.2 T I Q o x1 x2 kc ks Qk Xk) : z_GM l G yX1_setReach (ws_ yX1_setReach cX1_setReach 5 (some .int)) 15 292 kc ks [.ref o, .int x1, .int x2] z_PR T I Q (z_qi Qk) Xk := by
  obtain ⟨ho, h⟩ := h
  refine z_body (own := RX1) (nm := "setReach") (by decide +kernel) rfl rfl (Nat.le_of_ble_eq_true rfl) (fun p e R s m below meth c A ls X hB hl => ?_)
  exact ww_X1_setReach_0 X ho hB z_k0 z_k0 hl h
/-! X1_setInterlock -/
theorem ww_X1_setInterlock_0 {o : Nat} {Qk : Int32 → z_T → z_I → z_Q → Prop} {Xk : String → Nat → z_T → z_I → z_Q → Prop} (X : z_X l G A p R s m args meth c cX1_setInterlock 6 RX1 "setInterlock" (some .boolean) mc ms 15 296) (ho : (T0 o).1 = 1) {cells slots : Nat} {T : z_T} {I : z_I} {Q : z_Q} {kc : Nat} {ks : Nat} {x1 : Int32} {x2 : Int32} {x3 : Int32} {H : Heap} {locs : List Loc} {ls : Array Slot} (hB : z_HB G z_PR A s.heap T0 I0 Q0 T I Q H locs) (hK1 : cells + kc ≤ mc) (hK2 : slots + ks ≤ ms) (hl : lv_has ls 6 [(0, .ref o), (1, .int x1), (2, .int x2), (3, .int x3)]) (h : wb_X1_setInterlock_0 G.2.2 o Qk Xk T I Q kc ks x1 x2 x3) : W p l e R s m args below meth c H locs cells slots (z_MQ below G z_PR A T0 I0 Q0 (z_qz Qk) Xk args s mc ms) (F0 m 0 ls []) := by
  obtain ⟨hx, hb, -⟩ := id X
  unfold wb_X1_setInterlock_0 at h
  obtain ⟨co1, hco1, h⟩ := h
  obtain ⟨g1, g2, h⟩ := h
  refine z_new (col := co1) tyX2 X hB kc_X2 in_X2 tyX2_ok q172 q173 q95 (by decide) (z_dvX2) hco1 (z_k1 hK1 g1) (z_k1 hK2 g2) dX1_setInterlock_0 (fun a2 H hq hB => ?_)
  obtain ⟨T3, eT3⟩ : ∃ z, z = z_t T a2 (3, 0, co1) := ⟨_, rfl⟩
  obtain ⟨I4, eI4⟩ : ∃ z, z = z_row I a2 (fun _ => 0) := ⟨_, rfl⟩
  obtain ⟨Q5, eQ5⟩ : ∃ z, z = z_row Q a2 (fun _ => none) := ⟨_, rfl⟩
  rw [← eT3, ← eI4, ← eQ5] at hB
  replace h := h a2 T3 I4 Q5 hq eT3 eI4 eQ5
  have hk_a2 := z_tq eT3
  have hc_a2 : 3 ≤ (T3 a2).2.2 := by rw [z_tqc eT3]; exact hco1
  replace hK1 := z_k2 hK1 g1
  replace hK2 := z_k2 hK2 g2
  refine lv_dup hx hb dX1_setInterlock_3 rfl ?_
  refine lv_aload_n (x := o) hx hb dX1_setInterlock_4 rfl (lv_at hl 0 rfl) ?_
  refine z_getq X hB.1 kc_X1 in_X1 (j := 0) (Nat.le_of_ble_eq_true rfl) q1296 (fun _ h => h) rfl (by decide) (z_fo hB ho (by decide)) dX1_setInterlock_5 ?_
  obtain ⟨co7, hco7, h⟩ := h
  obtain ⟨kc8, ks9, g1, g2, h⟩ := h
  refine z_callv (z_runI (rest := [.ref a2]) [va_rf (Q5 o 0)] pk_X2_init_2 (met_X2_init_2 co7 a2 (Q5 o 0) kc8 ks9 _ h) X hB (z_coR0 hco7) q1627 rfl hl.1 (Nat.le_of_ble_eq_true rfl) dX1_setInterlock_8 (z_k1 hK1 g1) (z_k1 hK2 g2) (by decide) (by decide)) hB (z_coR hco7) (fun T10 I11 Q12 H locs h9 hF hB => ?_)
  replace h := h9
  clear h9
  replace h := h hF
  have hc_a2 : 3 ≤ (T10 a2).2.2 := by rw [z_te hF hk_a2 (by decide)]; exact hc_a2
  have hk_a2 := z_tk hF hk_a2 (by decide)
  replace hK1 := z_k2 hK1 g1
  replace hK2 := z_k2 hK2 g2
  refine lv_astore (x := a2) (lv' := [(4, .ref a2), (0, .ref o), (1, .int x1), (2, .int x2), (3, .int x3)]) hx hb dX1_setInterlock_11 hl (by decide) rfl (fun ls hl9 => ?_)
  replace hl := hl9
  clear hl9
  refine lv_aload (x := a2) hx hb dX1_setInterlock_13 (lv_at hl 0 rfl) ?_
  refine lv_iload_n hx hb dX1_setInterlock_15 rfl (lv_at hl 2 rfl) ?_
  refine lv_iload_n hx hb dX1_setInterlock_16 rfl (lv_at hl 3 rfl) ?_
  refine lv_iload_n hx hb dX1_setInterlock_17 rfl (lv_at hl 4 rfl) ?_
  obtain ⟨kc14, ks15, g1, g2, h⟩ := h
  refine z_callXz (z_runS (rest := []) [.ref a2, .int x1, .int x2, .int x3] pk_X1_setInterlockIn (met_X1_setInterlockIn (some a2) x1 x2 x3 kc14 ks15 _ _ h) X hB hB.2.2.2.2.2.2 q2384 rfl hl.1 (Nat.le_of_ble_eq_true rfl) dX1_setInterlock_18 (z_k1 hK1 g1) (z_k1 hK2 g2) (by decide) (by decide)) hB (fun _ h => h) (z_on (by decide +kernel) X (z_k1 hK1 g1) (z_k1 hK2 g2)) (fun r13 T16 I17 Q18 H locs hz h9 hF hB => ?_)
  replace h := h9
  clear h9
  replace h := h hz hF
  have hc_a2 : 3 ≤ (T16 a2).2.2 := by rw [z_te hF hk_a2 (by decide)]; exact hc_a2
  have hk_a2 := z_tk hF hk_a2 (by decide)
  replace hK1 := z_k2 hK1 g1
  replace hK2 := z_k2 hK2 g2
  refine lv_istore (lv' := [(5, .int r13), (4, .ref a2), (0, .ref o), (1, .int x1), (2, .int x2), (3, .int x3)]) hx hb dX1_setInterlock_21 hl (by decide) rfl (fun ls hl9 => ?_)
  replace hl := hl9
  clear hl9
  refine lv_aload_n (x := o) hx hb dX1_setInterlock_23 rfl (lv_at hl 2 rfl) ?_
  refine lv_aload (x := a2) hx hb dX1_setInterlock_24 (lv_at hl 1 rfl) ?_
  obtain ⟨kc20, ks21, g1, g2, h⟩ := h
  refine z_callv (z_runV (rest := []) [.ref a2] pk_X1_change (met_X1_change o (some a2) kc20 ks21 _ h) X hB hB.2.2.2.2.2.2 q2495 kc_X1 (by decide) (z_fo hB ho (by decide)) rfl hl.1 (Nat.le_of_ble_eq_true rfl) dX1_setInterlock_26 (z_k1 hK1 g1) (z_k1 hK2 g2) (by decide) (by decide)) hB (fun _ h => h) (fun T22 I23 Q24 H locs h9 hF hB => ?_)
  replace h := h9
  clear h9
  replace h := h hF
  have hc_a2 : 3 ≤ (T22 a2).2.2 := by rw [z_te hF hk_a2 (by decide)]; exact hc_a2
  have hk_a2 := z_tk hF hk_a2 (by decide)
  replace hK1 := z_k2 hK1 g1
  replace hK2 := z_k2 hK2 g2
  refine lv_iload hx hb dX1_setInterlock_29 (lv_at hl 0 rfl) ?_
  obtain ⟨hz, h⟩ := h
  exact z_zret X hB hz ⟨_, rfl, hz, h⟩ (z_k3 hK1) (z_k3 hK2) dX1_setInterlock_31
theorem pk_X1_setInterlock : z_PV RX1 yX1_setInterlock cX1_setInterlock 6 (some .boolean) 3 := ⟨q2381, q2382, q94, q2383, by decide +kernel⟩
theorem met_X1_setInterlock {l : Launch} {G : z_E} {T : z_T} {I : z_I} {Q : z_Q} (o : Nat) (x1 : Int32) (x2 : Int32) (x3 : Int32) (kc : Nat) (ks : Nat) (Qk : Int32 → z_T → z_I → z_Q → Prop) (Xk : String → Nat → z_T → z_I → z_Q → Prop) (h : wp_X1_setInterlock G.2.2 T I Q o x1 x2 x3 kc ks Qk Xk) : z_GM l G yX1_setInterlock (ws_ yX1_setInterlock cX1_setInterlock 6 (some .boolean)) 15 296 kc ks [.ref o, .int x1, .int x2, .int x3] z_PR T I Q (z_qz Qk) Xk := by
  obtain ⟨ho, h⟩ := h
  refine z_body (own := RX1) (nm := "setInterlock") (by decide +kernel) rfl rfl (Nat.le_of_ble_eq_true rfl) (fun p e R s m below meth c A ls X hB hl => ?_)
  exact ww_X1_setInterlock_0 X ho hB z_k0 z_k0 hl h
/-! X1_save -/
theorem ww_X1_save_0 {o : Nat} {Qk : Int32 → z_T → z_I → z_Q → Prop} (X : z_X l G A p R s m args meth c cX1_save 1 RX1 "save" (some .int) mc ms 15 292) (ho : (T0 o).1 = 1) (hoc : 3 ≤ (T0 o).2.2) {cells slots : Nat} {T : z_T} {I : z_I} {Q : z_Q} {kc : Nat} {ks : Nat} {H : Heap} {locs : List Loc} {ls : Array Slot} (hB : z_HB G z_PR A s.heap T0 I0 Q0 T I Q H locs) (hK1 : cells + kc ≤ mc) (hK2 : slots + ks ≤ ms) (hl : lv_has ls 1 [(0, .ref o)]) (h : wb_X1_save_0 G.2.2 o Qk T I Q kc ks) : W p l e R s m args below meth c H locs cells slots (z_MQ below G z_PR A T0 I0 Q0 (z_qi Qk) z_no args s mc ms) (F0 m 0 ls []) := by
  obtain ⟨hx, hb, -⟩ := id X
  unfold wb_X1_save_0 at h
  refine lv_aload_n (x := o) hx hb dX1_save_0 rfl (lv_at hl 0 rfl) ?_
  obtain ⟨co1, hco1, h⟩ := h
  obtain ⟨g1, g2, h⟩ := h
  refine z_new (col := co1) tyX2 X hB kc_X2 in_X2 tyX2_ok q172 q173 q95 (by decide) (z_dvX2) hco1 (z_k1 hK1 g1) (z_k1 hK2 g2) dX1_save_1 (fun a2 H hq hB => ?_)
  obtain ⟨T3, eT3⟩ : ∃ z, z = z_t T a2 (3, 0, co1) := ⟨_, rfl⟩
  obtain ⟨I4, eI4⟩ : ∃ z, z = z_row I a2 (fun _ => 0) := ⟨_, rfl⟩
  obtain ⟨Q5, eQ5⟩ : ∃ z, z = z_row Q a2 (fun _ => none) := ⟨_, rfl⟩
  rw [← eT3, ← eI4, ← eQ5] at hB
  replace h := h a2 T3 I4 Q5 hq eT3 eI4 eQ5
  have hk_a2 := z_tq eT3
  have hc_a2 : 3 ≤ (T3 a2).2.2 := by rw [z_tqc eT3]; exact hco1
  replace hK1 := z_k2 hK1 g1
  replace hK2 := z_k2 hK2 g2
  refine lv_dup hx hb dX1_save_4 rfl ?_
  refine lv_aload_n (x := o) hx hb dX1_save_5 rfl (lv_at hl 0 rfl) ?_
  refine z_getq X hB.1 kc_X1 in_X1 (j := 0) (Nat.le_of_ble_eq_true rfl) q1296 (fun _ h => h) rfl (by decide) (z_fo hB ho (by decide)) dX1_save_6 ?_
  obtain ⟨co7, hco7, h⟩ := h
  obtain ⟨kc8, ks9, g1, g2, h⟩ := h
  refine z_callv (z_runI (rest := [.ref a2, .ref o]) [va_rf (Q5 o 0)] pk_X2_init_2 (met_X2_init_2 co7 a2 (Q5 o 0) kc8 ks9 _ h) X hB (z_coR0 hco7) q1627 rfl hl.1 (Nat.le_of_ble_eq_true rfl) dX1_save_9 (z_k1 hK1 g1) (z_k1 hK2 g2) (by decide) (by decide)) hB (z_coR hco7) (fun T10 I11 Q12 H locs h9 hF hB => ?_)
  replace h := h9
  clear h9
  replace h := h hF
  have hc_a2 : 3 ≤ (T10 a2).2.2 := by rw [z_te hF hk_a2 (by decide)]; exact hc_a2
  have hk_a2 := z_tk hF hk_a2 (by decide)
  replace hK1 := z_k2 hK1 g1
  replace hK2 := z_k2 hK2 g2
  obtain ⟨Q13, eQ13⟩ : ∃ z, z = z_up Q12 o 1 (some a2) := ⟨_, rfl⟩
  replace h := h Q13 eQ13
  refine z_putq (x := (some a2)) eQ13 tyX1 X hB kc_X1 in_X1 tyX1_ok nmX1 (j := 1) (Nat.le_of_ble_eq_true rfl) q1297 (fun _ h => h) rfl rfl (by decide) (z_fo hB ho (by decide)) (z_foc hB ho (by decide) hoc) rfl (Or.inl ⟨_, rfl⟩) dX1_save_12 (fun H locs hB => ?_)
  refine lv_aload_n (x := o) hx hb dX1_save_15 rfl (lv_at hl 0 rfl) ?_
  refine z_getq X hB.1 kc_X1 in_X1 (j := 0) (Nat.le_of_ble_eq_true rfl) q1296 (fun _ h => h) rfl (by decide) (z_fo hB ho (by decide)) dX1_save_16 ?_
  obtain ⟨a14, ea14, h⟩ := h
  refine z_stk (st' := [.ref a14]) (by rw [ea14] <;> rfl) ?_
  obtain ⟨hk_a14, h⟩ := h
  refine z_getiN X hB.1 kc_X2 in_X2 (j := 6) (Nat.le_of_ble_eq_true rfl) q1255 (fun _ h => h) rfl (by decide) hk_a14 dX1_save_19 ?_
  exact z_iret X hB ⟨_, rfl, h⟩ (z_k3 hK1) (z_k3 hK2) dX1_save_22
theorem pk_X1_save : z_PV RX1 yX1_save cX1_save 1 (some .int) 0 := ⟨q1624, q1625, q94, q1626, by decide +kernel⟩
theorem met_X1_save {l : Launch} {G : z_E} {T : z_T} {I : z_I} {Q : z_Q} (o : Nat) (kc : Nat) (ks : Nat) (Qk : Int32 → z_T → z_I → z_Q → Prop) (h : wp_X1_save G.2.2 T I Q o kc ks Qk) : z_GM l G yX1_save (ws_ yX1_save cX1_save 1 (some .int)) 15 292 kc ks [.ref o] z_PR T I Q (z_qi Qk) z_no := by
  obtain ⟨ho, hoc, h⟩ := h
  refine z_body (own := RX1) (nm := "save") (by decide +kernel) rfl rfl (Nat.le_of_ble_eq_true rfl) (fun p e R s m below meth c A ls X hB hl => ?_)
  exact ww_X1_save_0 X ho hoc hB z_k0 z_k0 hl h
/-! X1_isSafe -/
theorem ww_X1_isSafe_0 {o : Nat} {Qk : Int32 → z_T → z_I → z_Q → Prop} (X : z_X l G A p R s m args meth c cX1_isSafe 1 RX1 "isSafe" (some .boolean) mc ms 19 359) (ho : (T0 o).1 = 1) {cells slots : Nat} {T : z_T} {I : z_I} {Q : z_Q} {kc : Nat} {ks : Nat} {H : Heap} {locs : List Loc} {ls : Array Slot} (hB : z_HB G z_PR A s.heap T0 I0 Q0 T I Q H locs) (hK1 : cells + kc ≤ mc) (hK2 : slots + ks ≤ ms) (hl : lv_has ls 1 [(0, .ref o)]) (h : wb_X1_isSafe_0 o Qk T I Q kc ks) : W p l e R s m args below meth c H locs cells slots (z_MQ below G z_PR A T0 I0 Q0 (z_qz Qk) z_no args s mc ms) (F0 m 0 ls []) := by
  obtain ⟨hx, hb, -⟩ := id X
  unfold wb_X1_isSafe_0 at h
  refine lv_aload_n (x := o) hx hb dX1_isSafe_0 rfl (lv_at hl 0 rfl) ?_
  refine z_getq X hB.1 kc_X1 in_X1 (j := 0) (Nat.le_of_ble_eq_true rfl) q1296 (fun _ h => h) rfl (by decide) (z_fo hB ho (by decide)) dX1_isSafe_1 ?_
  obtain ⟨a1, ea1, h⟩ := h
  refine z_stk (st' := [.ref a1]) (by rw [ea1] <;> rfl) ?_
  obtain ⟨hk_a1, h⟩ := h
  obtain ⟨co3, hco3, h⟩ := h
  obtain ⟨kc4, ks5, g1, g2, h⟩ := h
  refine z_callz (z_runV (rest := []) [] pk_X2_isSafe (met_X2_isSafe co3 a1 kc4 ks5 _ h) X hB (z_coR0 hco3) q1318 kc_X2 (by decide) hk_a1 rfl hl.1 (Nat.le_of_ble_eq_true rfl) dX1_isSafe_4 (z_k1 hK1 g1) (z_k1 hK2 g2) (by decide) (by decide)) hB (z_coR hco3) (fun r2 T6 I7 Q8 H locs hz h9 hF hB => ?_)
  replace h := h9
  clear h9
  replace h := h hz hF
  replace hK1 := z_k2 hK1 g1
  replace hK2 := z_k2 hK2 g2
  obtain ⟨hz, h⟩ := h
  exact z_zret X hB hz ⟨_, rfl, hz, h⟩ (z_k3 hK1) (z_k3 hK2) dX1_isSafe_7
theorem pk_X1_isSafe : z_PV RX1 yX1_isSafe cX1_isSafe 1 (some .boolean) 0 := ⟨q1315, q1316, q94, q1317, by decide +kernel⟩
theorem met_X1_isSafe {l : Launch} {G : z_E} {T : z_T} {I : z_I} {Q : z_Q} (o : Nat) (kc : Nat) (ks : Nat) (Qk : Int32 → z_T → z_I → z_Q → Prop) (h : wp_X1_isSafe T I Q o kc ks Qk) : z_GM l G yX1_isSafe (ws_ yX1_isSafe cX1_isSafe 1 (some .boolean)) 19 359 kc ks [.ref o] z_PR T I Q (z_qz Qk) z_no := by
  obtain ⟨ho, h⟩ := h
  refine z_body (own := RX1) (nm := "isSafe") (by decide +kernel) rfl rfl (Nat.le_of_ble_eq_true rfl) (fun p e R s m below meth c A ls X hB hl => ?_)
  exact ww_X1_isSafe_0 X ho hB z_k0 z_k0 hl h
/-! X1_init -/
theorem ww_X1_init_0 {o : Nat} {Qk : z_T → z_I → z_Q → Prop} (X : z_X l G A p R s m args meth c cX1_init 1 RX1 "<init>" none mc ms 15 270) (ho : (T0 o).1 = 1) (hoc : 3 ≤ (T0 o).2.2) {cells slots : Nat} {T : z_T} {I : z_I} {Q : z_Q} {kc : Nat} {ks : Nat} {H : Heap} {locs : List Loc} {ls : Array Slot} (hB : z_HB G z_PR A s.heap T0 I0 Q0 T I Q H locs) (hK1 : cells + kc ≤ mc) (hK2 : slots + ks ≤ ms) (hl : lv_has ls 1 [(0, .ref o)]) (h : wb_X1_init_0 G.2.2 o Qk T I Q kc ks) : W p l e R s m args below meth c H locs cells slots (z_MQ below G z_PR A T0 I0 Q0 (z_qv Qk) z_no args s mc ms) (F0 m 0 ls []) := by
  obtain ⟨hx, hb, -⟩ := id X
  unfold wb_X1_init_0 at h
  refine lv_aload_n (x := o) hx hb dX1_init_0 rfl (lv_at hl 0 rfl) ?_
  refine z_objInit (rest := []) X q169 hl.1 dX1_init_1 (by decide) (Nat.le_of_ble_eq_true rfl) ?_
  refine lv_aload_n (x := o) hx hb dX1_init_4 rfl (lv_at hl 0 rfl) ?_
  obtain ⟨co1, hco1, h⟩ := h
  obtain ⟨g1, g2, h⟩ := h
  refine z_new (col := co1) tyX2 X hB kc_X2 in_X2 tyX2_ok q172 q173 q95 (by decide) (z_dvX2) hco1 (z_k1 hK1 g1) (z_k1 hK2 g2) dX1_init_5 (fun a2 H hq hB => ?_)
  obtain ⟨T3, eT3⟩ : ∃ z, z = z_t T a2 (3, 0, co1) := ⟨_, rfl⟩
  obtain ⟨I4, eI4⟩ : ∃ z, z = z_row I a2 (fun _ => 0) := ⟨_, rfl⟩
  obtain ⟨Q5, eQ5⟩ : ∃ z, z = z_row Q a2 (fun _ => none) := ⟨_, rfl⟩
  rw [← eT3, ← eI4, ← eQ5] at hB
  replace h := h a2 T3 I4 Q5 hq eT3 eI4 eQ5
  have hk_a2 := z_tq eT3
  have hc_a2 : 3 ≤ (T3 a2).2.2 := by rw [z_tqc eT3]; exact hco1
  replace hK1 := z_k2 hK1 g1
  replace hK2 := z_k2 hK2 g2
  refine lv_dup hx hb dX1_init_8 rfl ?_
  obtain ⟨co7, hco7, h⟩ := h
  obtain ⟨kc8, ks9, g1, g2, h⟩ := h
  refine z_callv (z_runI (rest := [.ref a2, .ref o]) [] pk_X2_init (met_X2_init co7 a2 kc8 ks9 _ h) X hB (z_coR0 hco7) q174 rfl hl.1 (Nat.le_of_ble_eq_true rfl) dX1_init_9 (z_k1 hK1 g1) (z_k1 hK2 g2) (by decide) (by decide)) hB (z_coR hco7) (fun T10 I11 Q12 H locs h9 hF hB => ?_)
  replace h := h9
  clear h9
  replace h := h hF
  have hc_a2 : 3 ≤ (T10 a2).2.2 := by rw [z_te hF hk_a2 (by decide)]; exact hc_a2
  have hk_a2 := z_tk hF hk_a2 (by decide)
  replace hK1 := z_k2 hK1 g1
  replace hK2 := z_k2 hK2 g2
  obtain ⟨Q13, eQ13⟩ : ∃ z, z = z_up Q12 o 0 (some a2) := ⟨_, rfl⟩
  replace h := h Q13 eQ13
  refine z_putq (x := (some a2)) eQ13 tyX1 X hB kc_X1 in_X1 tyX1_ok nmX1 (j := 0) (Nat.le_of_ble_eq_true rfl) q1296 (fun _ h => h) rfl rfl (by decide) (z_fo hB ho (by decide)) (z_foc hB ho (by decide) hoc) rfl (Or.inl ⟨_, rfl⟩) dX1_init_12 (fun H locs hB => ?_)
  refine lv_aload_n (x := o) hx hb dX1_init_15 rfl (lv_at hl 0 rfl) ?_
  obtain ⟨co14, hco14, h⟩ := h
  obtain ⟨g1, g2, h⟩ := h
  refine z_new (col := co14) tyJ31 X hB kc_J31 in_J31 tyJ31_ok q1294 q1119 q128 (by decide) (z_dvJ31) hco14 (z_k1 hK1 g1) (z_k1 hK2 g2) dX1_init_16 (fun a15 H hq hB => ?_)
  obtain ⟨T16, eT16⟩ : ∃ z, z = z_t T10 a15 (17, 0, co14) := ⟨_, rfl⟩
  obtain ⟨I17, eI17⟩ : ∃ z, z = z_row I11 a15 (fun _ => 0) := ⟨_, rfl⟩
  obtain ⟨Q18, eQ18⟩ : ∃ z, z = z_row Q13 a15 (fun _ => none) := ⟨_, rfl⟩
  rw [← eT16, ← eI17, ← eQ18] at hB
  replace h := h a15 T16 I17 Q18 hq eT16 eI17 eQ18
  have hk_a15 := z_tq eT16
  have hc_a15 : 3 ≤ (T16 a15).2.2 := by rw [z_tqc eT16]; exact hco14
  replace hK1 := z_k2 hK1 g1
  replace hK2 := z_k2 hK2 g2
  refine lv_dup hx hb dX1_init_19 rfl ?_
  obtain ⟨co20, hco20, h⟩ := h
  obtain ⟨kc21, ks22, g1, g2, h⟩ := h
  refine z_callv (z_runI (rest := [.ref a15, .ref o]) [] pk_J31_init (met_J31_init co20 a15 kc21 ks22 _ h) X hB (z_coR0 hco20) q1295 rfl hl.1 (Nat.le_of_ble_eq_true rfl) dX1_init_20 (z_k1 hK1 g1) (z_k1 hK2 g2) (by decide) (by decide)) hB (z_coR hco20) (fun T23 I24 Q25 H locs h9 hF hB => ?_)
  replace h := h9
  clear h9
  replace h := h hF
  have hc_a15 : 3 ≤ (T23 a15).2.2 := by rw [z_te hF hk_a15 (by decide)]; exact hc_a15
  have hk_a15 := z_tk hF hk_a15 (by decide)
  replace hK1 := z_k2 hK1 g1
  replace hK2 := z_k2 hK2 g2
  obtain ⟨Q26, eQ26⟩ : ∃ z, z = z_up Q25 o 2 (some a15) := ⟨_, rfl⟩
  replace h := h Q26 eQ26
  refine z_putqF (x := (some a15)) eQ26 tyX1 X hB kc_X1 in_X1 tyX1_ok nmX1 (j := 2) (Nat.le_of_ble_eq_true rfl) q1298 (fun _ h => h) rfl rfl rfl (by decide) (z_fo hB ho (by decide)) (z_foc hB ho (by decide) hoc) rfl (Or.inl ⟨_, rfl⟩) dX1_init_23 (fun H locs hB => ?_)
  refine lv_aload_n (x := o) hx hb dX1_init_26 rfl (lv_at hl 0 rfl) ?_
  refine lv_bipush (v := 80) hx hb dX1_init_27 (by decide) ?_
  obtain ⟨co27, hco27, h⟩ := h
  obtain ⟨g1, g2, h⟩ := h
  refine z_newa (k := 1) (n := 80) (col := co27) (.char) rfl (by decide) X hB q991 (by decide) rfl (Nat.le_of_ble_eq_true rfl) hco27 (z_k1 hK1 g1) (z_k1 hK2 g2) dX1_init_29 (fun a28 H hq hB => ?_)
  obtain ⟨T29, eT29⟩ : ∃ z, z = z_t T23 a28 (101, 80, co27) := ⟨_, rfl⟩
  obtain ⟨I30, eI30⟩ : ∃ z, z = z_row I24 a28 (fun _ => 0) := ⟨_, rfl⟩
  obtain ⟨Q31, eQ31⟩ : ∃ z, z = z_row Q26 a28 (fun _ => none) := ⟨_, rfl⟩
  rw [← eT29, ← eI30, ← eQ31] at hB
  replace h := h a28 T29 I30 Q31 hq eT29 eI30 eQ31
  have hk_a28 := z_tq eT29
  have hc_a28 : 3 ≤ (T29 a28).2.2 := by rw [z_tqc eT29]; exact hco27
  replace hK1 := z_k2 hK1 g1
  replace hK2 := z_k2 hK2 g2
  obtain ⟨Q32, eQ32⟩ : ∃ z, z = z_up Q31 o 3 (some a28) := ⟨_, rfl⟩
  replace h := h Q32 eQ32
  refine z_putqF (x := (some a28)) eQ32 tyX1 X hB kc_X1 in_X1 tyX1_ok nmX1 (j := 3) (Nat.le_of_ble_eq_true rfl) q1300 (fun _ h => h) rfl rfl rfl (by decide) (z_fo hB ho (by decide)) (z_foc hB ho (by decide) hoc) rfl (Or.inr ⟨_, rfl⟩) dX1_init_31 (fun H locs hB => ?_)
  exact z_vret X hB ⟨rfl, h⟩ (z_k3 hK1) (z_k3 hK2) dX1_init_34
theorem pk_X1_init : z_PI yX1_init cX1_init 1 0 := ⟨q167, q94, q168, rfl, by decide +kernel⟩
theorem met_X1_init {l : Launch} {G : z_E} {T : z_T} {I : z_I} {Q : z_Q} (o : Nat) (kc : Nat) (ks : Nat) (Qk : z_T → z_I → z_Q → Prop) (h : wp_X1_init G.2.2 T I Q o kc ks Qk) : z_GM l G yX1_init (ws_ yX1_init cX1_init 1 none) 15 270 kc ks [.ref o] z_PR T I Q (z_qv Qk) z_no := by
  obtain ⟨ho, hoc, h⟩ := h
  refine z_body (own := RX1) (nm := "<init>") (by decide +kernel) rfl rfl (Nat.le_of_ble_eq_true rfl) (fun p e R s m below meth c A ls X hB hl => ?_)
  exact ww_X1_init_0 X ho hoc hB z_k0 z_k0 hl h
end
