/-! THE CODE: walks 4 -/
set_option maxRecDepth 100000
section
variable {p : Program} {l : Launch} {e : Env} {R : Room} {s : State} {m : MethodId} {args : Array Value} {below : List Frame} {meth : Method} {c : Code}
variable {G : z_E} {A : Nat → Prop} {T T0 : z_T} {I I0 : z_I} {Q Q0 : z_Q} {mc ms : Nat}
/-! X10_finishAll -/
theorem ww_X10_finishAll_50 {co : Nat} {o : Nat} {k2 : z_T → z_I → z_Q → Nat → Nat → Int32 → Prop} {k10 : z_T → z_I → z_Q → Nat → Nat → Int32 → Int32 → Prop} {Qk : Int32 → z_T → z_I → z_Q → Prop} (X : z_X l G A p R s m args meth c cX10_finishAll 3 RX10 "finishAll" (some .int) mc ms 16 293) (ho : (T0 o).1 = 11) (hoc : (T0 o).2.2 = co) (hk2 : ∀ {cells slots : Nat} {T : z_T} {I : z_I} {Q : z_Q} {kc : Nat} {ks : Nat} {x1 : Int32} {H : Heap} {locs : List Loc} {ls : Array Slot}, z_HB G (z_co co) A s.heap T0 I0 Q0 T I Q H locs → cells + kc ≤ mc → slots + ks ≤ ms → lv_has ls 3 [(0, .ref o), (1, .int x1)] → k2 T I Q kc ks x1 → W p l e R s m args below meth c H locs cells slots (z_MQ below G (z_co co) A T0 I0 Q0 (z_qi Qk) z_no args s mc ms) (F0 m 2 ls [])) (hk10 : ∀ {cells slots : Nat} {T : z_T} {I : z_I} {Q : z_Q} {kc : Nat} {ks : Nat} {x1 : Int32} {x2 : Int32} {H : Heap} {locs : List Loc} {ls : Array Slot}, z_HB G (z_co co) A s.heap T0 I0 Q0 T I Q H locs → cells + kc ≤ mc → slots + ks ≤ ms → lv_has ls 3 [(0, .ref o), (1, .int x1), (2, .int x2)] → k10 T I Q kc ks x1 x2 → W p l e R s m args below meth c H locs cells slots (z_MQ below G (z_co co) A T0 I0 Q0 (z_qi Qk) z_no args s mc ms) (F0 m 10 ls [])) {cells slots : Nat} {T : z_T} {I : z_I} {Q : z_Q} {kc : Nat} {ks : Nat} {x1 : Int32} {x2 : Int32} {H : Heap} {locs : List Loc} {ls : Array Slot} (hB : z_HB G (z_co co) A s.heap T0 I0 Q0 T I Q H locs) (hK1 : cells + kc ≤ mc) (hK2 : slots + ks ≤ ms) (hl : lv_has ls 3 [(0, .ref o), (1, .int x1), (2, .int x2)]) (h : wb_X10_finishAll_50 co o k2 k10 Qk T I Q kc ks x1 x2) : W p l e R s m args below meth c H locs cells slots (z_MQ below G (z_co co) A T0 I0 Q0 (z_qi Qk) z_no args s mc ms) (F0 m 50 ls []) := by
  obtain ⟨hx, hb, -⟩ := id X
  unfold wb_X10_finishAll_50 at h
  obtain ⟨y15, ey15⟩ : ∃ z : Int32, z = x2 + 1 := ⟨_, rfl⟩
  replace h := h y15 ey15
  refine lv_iinc (v := y15) (lv' := [(2, .int y15), (0, .ref o), (1, .int x1)]) hx hb dX10_finishAll_50 hl (k := 2) rfl (by rw [ey15]; rfl) (by decide) rfl (fun ls hl9 => ?_)
  replace hl := hl9
  clear hl9
  refine lv_goto (tgt := 10) hx hb dX10_finishAll_53 (by decide) ?_
  exact hk10 hB hK1 hK2 (lv_sub hl [1, 2, 0] rfl) h
theorem wv_X10_finishAll_10 {co : Nat} {o : Nat} {k2 : z_T → z_I → z_Q → Nat → Nat → Int32 → Prop} {Qk : Int32 → z_T → z_I → z_Q → Prop} (X : z_X l G A p R s m args meth c cX10_finishAll 3 RX10 "finishAll" (some .int) mc ms 16 293) (ho : (T0 o).1 = 11) (hoc : (T0 o).2.2 = co) (hk2 : ∀ {cells slots : Nat} {T : z_T} {I : z_I} {Q : z_Q} {kc : Nat} {ks : Nat} {x1 : Int32} {H : Heap} {locs : List Loc} {ls : Array Slot}, z_HB G (z_co co) A s.heap T0 I0 Q0 T I Q H locs → cells + kc ≤ mc → slots + ks ≤ ms → lv_has ls 3 [(0, .ref o), (1, .int x1)] → k2 T I Q kc ks x1 → W p l e R s m args below meth c H locs cells slots (z_MQ below G (z_co co) A T0 I0 Q0 (z_qi Qk) z_no args s mc ms) (F0 m 2 ls [])) : ∀ (n : Nat) {cells slots : Nat} {T : z_T} {I : z_I} {Q : z_Q} {kc : Nat} {ks : Nat} {x1 : Int32} {x2 : Int32} {H : Heap} {locs : List Loc} {ls : Array Slot}, z_HB G (z_co co) A s.heap T0 I0 Q0 T I Q H locs → cells + kc ≤ mc → slots + ks ≤ ms → lv_has ls 3 [(0, .ref o), (1, .int x1), (2, .int x2)] → wl_X10_finishAll_10 co o k2 Qk n T I Q kc ks x1 x2 → W p l e R s m args below meth c H locs cells slots (z_MQ below G (z_co co) A T0 I0 Q0 (z_qi Qk) z_no args s mc ms) (F0 m 10 ls []) := by
  intro n
  induction n with
  | zero =>
    intro cells slots T I Q kc ks x1 x2 H locs ls hB hK1 hK2 hl h
    exact h.elim
  | succ n ih =>
    intro cells slots T I Q kc ks x1 x2 H locs ls hB hK1 hK2 hl h
    obtain ⟨hx, hb, -⟩ := id X
    unfold wl_X10_finishAll_10 at h
    refine lv_iload_n hx hb dX10_finishAll_10 rfl (lv_at hl 2 rfl) ?_
    refine lv_iconst (v := 3) hx hb dX10_finishAll_11 (by decide) ?_
    refine lv_icmp_ge (tgt := 56) hx hb dX10_finishAll_12 (by decide) (fun c4 => ?_) (fun c4 => ?_)
    · replace h := h.1 c4
      refine lv_goto (tgt := 2) hx hb dX10_finishAll_56 (by decide) ?_
      exact hk2 hB hK1 hK2 (lv_sub hl [0, 1] rfl) h
    · replace h := h.2 c4
      refine lv_aload_n (x := o) hx hb dX10_finishAll_15 rfl (lv_at hl 0 rfl) ?_
      refine z_geti X hB.1 kc_X10 in_X10 (j := 0) (Nat.le_of_ble_eq_true rfl) q1348 (fun _ h => h) rfl (by decide) (z_fo hB ho (by decide)) dX10_finishAll_16 ?_
      refine lv_iload_n hx hb dX10_finishAll_19 rfl (lv_at hl 2 rfl) ?_
      refine z_callzp (z_runSN (rest := []) [.int (I o 0), .int x2] pk_X1_contains (met_X1_contains (I o 0) x2 _ h) X hB (fun h => h) q1377 rfl hl.1 (Nat.le_of_ble_eq_true rfl) dX10_finishAll_20 (z_k4 hK1) (z_k4 hK2) (by decide) (by decide)) hB (fun r5 H locs hz h9 hB => ?_)
      replace h := h9
      clear h9
      replace h := h hz
      refine lv_if_eq (tgt := 50) hx hb dX10_finishAll_23 (by decide) (fun c6 => ?_) (fun c6 => ?_)
      · replace h := h.1 c6
        exact ww_X10_finishAll_50 X ho hoc hk2 (fun hB hK1 hK2 hl h => ih hB hK1 hK2 hl h) hB hK1 hK2 (lv_sub hl [0, 1, 2] rfl) h
      · replace h := h.2 c6
        refine lv_aload_n (x := o) hx hb dX10_finishAll_26 rfl (lv_at hl 0 rfl) ?_
        refine lv_iload_n hx hb dX10_finishAll_27 rfl (lv_at hl 2 rfl) ?_
        obtain ⟨kc8, ks9, g1, g2, h⟩ := h
        refine z_callz (z_runV (rest := []) [.int x2] pk_X10_canFinish (met_X10_canFinish co o x2 kc8 ks9 _ h) X hB hB.2.2.2.2.2.2 q1380 kc_X10 (by decide) (z_fo hB ho (by decide)) rfl hl.1 (Nat.le_of_ble_eq_true rfl) dX10_finishAll_28 (z_k1 hK1 g1) (z_k1 hK2 g2) (by decide) (by decide)) hB (fun _ h => h) (fun r7 T10 I11 Q12 H locs hz h9 hF hB => ?_)
        replace h := h9
        clear h9
        replace h := h hz hF
        replace hK1 := z_k2 hK1 g1
        replace hK2 := z_k2 hK2 g2
        refine lv_if_eq (tgt := 50) hx hb dX10_finishAll_31 (by decide) (fun c13 => ?_) (fun c13 => ?_)
        · replace h := h.1 c13
          exact ww_X10_finishAll_50 X ho hoc hk2 (fun hB hK1 hK2 hl h => ih hB hK1 hK2 hl h) hB hK1 hK2 (lv_sub hl [0, 1, 2] rfl) h
        · replace h := h.2 c13
          refine lv_aload_n (x := o) hx hb dX10_finishAll_34 rfl (lv_at hl 0 rfl) ?_
          refine lv_dup hx hb dX10_finishAll_35 rfl ?_
          refine z_geti X hB.1 kc_X10 in_X10 (j := 0) (Nat.le_of_ble_eq_true rfl) q1348 (fun _ h => h) rfl (by decide) (z_fo hB ho (by decide)) dX10_finishAll_36 ?_
          refine lv_iconst (v := 1) hx hb dX10_finishAll_39 (by decide) ?_
          refine lv_iload_n hx hb dX10_finishAll_40 rfl (lv_at hl 2 rfl) ?_
          refine lv_ishl hx hb dX10_finishAll_41 ?_
          refine lv_iconst (v := (-1)) hx hb dX10_finishAll_42 (by decide) ?_
          refine lv_ixor hx hb dX10_finishAll_43 ?_
          refine lv_iand hx hb dX10_finishAll_44 ?_
          obtain ⟨I14, eI14⟩ : ∃ z, z = z_up I11 o 0 ((I11 o 0) &&& ((1 <<< (x2 &&& 31)) ^^^ (-1))) := ⟨_, rfl⟩
          replace h := h I14 eI14
          refine z_puti (x := ((I11 o 0) &&& ((1 <<< (x2 &&& 31)) ^^^ (-1)))) eI14 tyX10 X hB kc_X10 in_X10 tyX10_ok nmX10 (j := 0) (Nat.le_of_ble_eq_true rfl) q1348 (fun _ h => h) rfl rfl (by decide) (z_fo hB ho (by decide)) (z_foc hB ho (by decide) hoc) rfl (Or.inl rfl) dX10_finishAll_45 (fun H locs hB => ?_)
          refine lv_iconst (v := 1) hx hb dX10_finishAll_48 (by decide) ?_
          refine lv_istore_n (lv' := [(1, .int 1), (0, .ref o), (2, .int x2)]) hx hb dX10_finishAll_49 rfl hl (by decide) rfl (fun ls hl9 => ?_)
          replace hl := hl9
          clear hl9
          exact ww_X10_finishAll_50 X ho hoc hk2 (fun hB hK1 hK2 hl h => ih hB hK1 hK2 hl h) hB hK1 hK2 (lv_sub hl [1, 0, 2] rfl) h
theorem ww_X10_finishAll_77 {co : Nat} {o : Nat} {Qk : Int32 → z_T → z_I → z_Q → Prop} (X : z_X l G A p R s m args meth c cX10_finishAll 3 RX10 "finishAll" (some .int) mc ms 16 293) (ho : (T0 o).1 = 11) (hoc : (T0 o).2.2 = co) {cells slots : Nat} {T : z_T} {I : z_I} {Q : z_Q} {kc : Nat} {ks : Nat} {s0 : Int32} {H : Heap} {locs : List Loc} {ls : Array Slot} (hB : z_HB G (z_co co) A s.heap T0 I0 Q0 T I Q H locs) (hK1 : cells + kc ≤ mc) (hK2 : slots + ks ≤ ms) (hl : lv_has ls 3 []) (h : wb_X10_finishAll_77 co o Qk T I Q kc ks s0) : W p l e R s m args below meth c H locs cells slots (z_MQ below G (z_co co) A T0 I0 Q0 (z_qi Qk) z_no args s mc ms) (F0 m 77 ls [.int s0]) := by
  obtain ⟨hx, hb, -⟩ := id X
  unfold wb_X10_finishAll_77 at h
  exact z_iret X hB ⟨_, rfl, h⟩ (z_k3 hK1) (z_k3 hK2) dX10_finishAll_77
theorem wv_X10_finishAll_2 {co : Nat} {o : Nat} {Qk : Int32 → z_T → z_I → z_Q → Prop} (X : z_X l G A p R s m args meth c cX10_finishAll 3 RX10 "finishAll" (some .int) mc ms 16 293) (ho : (T0 o).1 = 11) (hoc : (T0 o).2.2 = co) : ∀ (n : Nat) {cells slots : Nat} {T : z_T} {I : z_I} {Q : z_Q} {kc : Nat} {ks : Nat} {x1 : Int32} {H : Heap} {locs : List Loc} {ls : Array Slot}, z_HB G (z_co co) A s.heap T0 I0 Q0 T I Q H locs → cells + kc ≤ mc → slots + ks ≤ ms → lv_has ls 3 [(0, .ref o), (1, .int x1)] → wl_X10_finishAll_2 co o Qk n T I Q kc ks x1 → W p l e R s m args below meth c H locs cells slots (z_MQ below G (z_co co) A T0 I0 Q0 (z_qi Qk) z_no args s mc ms) (F0 m 2 ls []) := by
  intro n
  induction n with
  | zero =>
    intro cells slots T I Q kc ks x1 H locs ls hB hK1 hK2 hl h
    exact h.elim
  | succ n ih =>
    intro cells slots T I Q kc ks x1 H locs ls hB hK1 hK2 hl h
    obtain ⟨hx, hb, -⟩ := id X
    unfold wl_X10_finishAll_2 at h
    refine lv_iload_n hx hb dX10_finishAll_2 rfl (lv_at hl 1 rfl) ?_
    refine lv_if_eq (tgt := 59) hx hb dX10_finishAll_3 (by decide) (fun c1 => ?_) (fun c1 => ?_)
    · replace h := h.1 c1
      refine lv_aload_n (x := o) hx hb dX10_finishAll_59 rfl (lv_at hl 0 rfl) ?_
      refine z_geti X hB.1 kc_X10 in_X10 (j := 0) (Nat.le_of_ble_eq_true rfl) q1348 (fun _ h => h) rfl (by decide) (z_fo hB ho (by decide)) dX10_finishAll_60 ?_
      refine lv_if_ne (tgt := 70) hx hb dX10_finishAll_63 (by decide) (fun c2 => ?_) (fun c2 => ?_)
      · replace h := h.1 c2
        refine lv_aload_n (x := o) hx hb dX10_finishAll_70 rfl (lv_at hl 0 rfl) ?_
        refine z_geti X hB.1 kc_X10 in_X10 (j := 0) (Nat.le_of_ble_eq_true rfl) q1348 (fun _ h => h) rfl (by decide) (z_fo hB ho (by decide)) dX10_finishAll_71 ?_
        refine z_callip (z_runS (rest := []) [.int (I o 0)] pk_J21_numberOfTrailingZeros (met_J21_numberOfTrailingZeros (I o 0) _ h) X hB (fun h => h) q1620 rfl hl.1 (Nat.le_of_ble_eq_true rfl) dX10_finishAll_74 (z_k4 hK1) (z_k4 hK2) (by decide) (by decide)) hB (fun r3 H locs h9 hB => ?_)
        replace h := h9
        clear h9
        exact ww_X10_finishAll_77 X ho hoc  hB hK1 hK2 (lv_sub hl [] rfl) h
      · replace h := h.2 c2
        refine lv_iconst (v := (-1)) hx hb dX10_finishAll_66 (by decide) ?_
        refine lv_goto (tgt := 77) hx hb dX10_finishAll_67 (by decide) ?_
        exact ww_X10_finishAll_77 X ho hoc  hB hK1 hK2 (lv_sub hl [] rfl) h
    · replace h := h.2 c1
      refine lv_iconst (v := 0) hx hb dX10_finishAll_6 (by decide) ?_
      refine lv_istore_n (lv' := [(1, .int 0), (0, .ref o)]) hx hb dX10_finishAll_7 rfl hl (by decide) rfl (fun ls hl9 => ?_)
      replace hl := hl9
      clear hl9
      refine lv_iconst (v := 0) hx hb dX10_finishAll_8 (by decide) ?_
      refine lv_istore_n (lv' := [(2, .int 0), (1, .int 0), (0, .ref o)]) hx hb dX10_finishAll_9 rfl hl (by decide) rfl (fun ls hl9 => ?_)
      replace hl := hl9
      clear hl9
      obtain ⟨w, h⟩ := h
      exact wv_X10_finishAll_10 X ho hoc (fun hB hK1 hK2 hl h => ih hB hK1 hK2 hl h) w hB hK1 hK2 (lv_sub hl [2, 1, 0] rfl) h
theorem ww_X10_finishAll_0 {co : Nat} {o : Nat} {Qk : Int32 → z_T → z_I → z_Q → Prop} (X : z_X l G A p R s m args meth c cX10_finishAll 3 RX10 "finishAll" (some .int) mc ms 16 293) (ho : (T0 o).1 = 11) (hoc : (T0 o).2.2 = co) {cells slots : Nat} {T : z_T} {I : z_I} {Q : z_Q} {kc : Nat} {ks : Nat} {H : Heap} {locs : List Loc} {ls : Array Slot} (hB : z_HB G (z_co co) A s.heap T0 I0 Q0 T I Q H locs) (hK1 : cells + kc ≤ mc) (hK2 : slots + ks ≤ ms) (hl : lv_has ls 3 [(0, .ref o)]) (h : wb_X10_finishAll_0 co o Qk T I Q kc ks) : W p l e R s m args below meth c H locs cells slots (z_MQ below G (z_co co) A T0 I0 Q0 (z_qi Qk) z_no args s mc ms) (F0 m 0 ls []) := by
  obtain ⟨hx, hb, -⟩ := id X
  unfold wb_X10_finishAll_0 at h
  refine lv_iconst (v := 1) hx hb dX10_finishAll_0 (by decide) ?_
  refine lv_istore_n (lv' := [(1, .int 1), (0, .ref o)]) hx hb dX10_finishAll_1 rfl hl (by decide) rfl (fun ls hl9 => ?_)
  replace hl := hl9
  clear hl9
  obtain ⟨w, h⟩ := h
  exact wv_X10_finishAll_2 X ho hoc  w hB hK1 hK2 (lv_sub hl [1, 0] rfl) h
theorem pk_X10_finishAll : z_PV RX10 yX10_finishAll cX10_finishAll 3 (some .int) 0 := ⟨q1374, q1375, q155, q1376, by decide +kernel⟩
theorem met_X10_finishAll {l : Launch} {G : z_E} {T : z_T} {I : z_I} {Q : z_Q} (co : Nat) (o : Nat) (kc : Nat) (ks : Nat) (Qk : Int32 → z_T → z_I → z_Q → Prop) (h : wp_X10_finishAll co T I Q o kc ks Qk) : z_GM l G yX10_finishAll (ws_ yX10_finishAll cX10_finishAll 3 (some .int)) 16 293 kc ks [.ref o] (z_co co) T I Q (z_qi Qk) z_no := by
  obtain ⟨ho, hoc, h⟩ := h
  refine z_body (own := RX10) (nm := "finishAll") (by decide +kernel) rfl rfl (Nat.le_of_ble_eq_true rfl) (fun p e R s m below meth c A ls X hB hl => ?_)
  exact ww_X10_finishAll_0 X ho hoc hB z_k0 z_k0 hl h
/-! X2_zonesFrom -/
theorem wv_X2_zonesFrom_4 {T : z_T} {I : z_I} {Q : z_Q} {Qk : Int32 → Prop} (X : z_X l G A p R s m args meth c cX2_zonesFrom 4 RX2 "zonesFrom" (some .int) 0 0 8 120) : ∀ (n : Nat) {x0 : Option Nat} {x2 : Int32} {x3 : Int32} {H : Heap} {locs : List Loc} {ls : Array Slot}, z_HB G z_none A s.heap T I Q T I Q H locs → lv_has ls 4 [(0, va_rf x0), (2, .int x2), (3, .int x3)] → wl_X2_zonesFrom_4 T I Q Qk n x0 x2 x3 → W p l e R s m args below meth c H locs 0 0 (z_MQ below G z_none A T I Q (z_pi Qk T I Q) z_no args s 0 0) (F0 m 4 ls []) := by
  intro n
  induction n with
  | zero =>
    intro x0 x2 x3 H locs ls hB hl h
    exact h.elim
  | succ n ih =>
    intro x0 x2 x3 H locs ls hB hl h
    obtain ⟨hx, hb, -⟩ := id X
    unfold wl_X2_zonesFrom_4 at h
    refine lv_iload_n hx hb dX2_zonesFrom_4 rfl (lv_at hl 2 rfl) ?_
    refine z_aload_n (x := x0) hx hb dX2_zonesFrom_5 rfl (lv_at hl 0 rfl) ?_
    obtain ⟨a1, rfl, h⟩ := h
    obtain ⟨hk_a1, h⟩ := h
    refine z_getqN X hB.1 kc_X8 in_X8 (j := 2) (Nat.le_of_ble_eq_true rfl) q2649 (fun _ h => h) rfl (by decide) hk_a1 dX2_zonesFrom_6 ?_
    obtain ⟨a2, ea2, h⟩ := h
    refine z_stk (st' := [.ref a2, .int x3]) (by rw [ea2] <;> rfl) ?_
    obtain ⟨hk_a2, h⟩ := h
    refine z_alen (k := 0) X hB.1 (by decide) hk_a2 dX2_zonesFrom_9 ?_
    refine lv_icmp_ge (tgt := 30) hx hb dX2_zonesFrom_10 (by decide) (fun c3 => ?_) (fun c3 => ?_)
    · replace h := h.1 c3
      refine lv_iload_n hx hb dX2_zonesFrom_30 rfl (lv_at hl 1 rfl) ?_
      exact z_iret X hB ⟨_, rfl, h, rfl, rfl, rfl⟩ (Nat.le_refl 0) (Nat.le_refl 0) dX2_zonesFrom_31
    · replace h := h.2 c3
      refine lv_iload_n hx hb dX2_zonesFrom_13 rfl (lv_at hl 1 rfl) ?_
      refine lv_iconst (v := 1) hx hb dX2_zonesFrom_14 (by decide) ?_
      refine lv_aload_n (x := a1) hx hb dX2_zonesFrom_15 rfl (lv_at hl 0 rfl) ?_
      refine z_getqN X hB.1 kc_X8 in_X8 (j := 2) (Nat.le_of_ble_eq_true rfl) q2649 (fun _ h => h) rfl (by decide) hk_a1 dX2_zonesFrom_16 ?_
      refine z_stk (st' := [.ref a2, .int 1, .int x2]) (by rw [ea2] <;> rfl) ?_
      refine lv_iload_n hx hb dX2_zonesFrom_19 rfl (lv_at hl 2 rfl) ?_
      obtain ⟨h1, h⟩ := h
      refine z_iald X hB.1 hk_a2 h1 dX2_zonesFrom_20 ?_
      refine lv_ishl hx hb dX2_zonesFrom_21 ?_
      refine lv_ior hx hb dX2_zonesFrom_22 ?_
      refine lv_topi (fun y4 ey4 => ?_)
      replace h := h y4 ey4
      refine lv_istore_n (lv' := [(2, .int y4), (0, .ref a1), (3, .int x3)]) hx hb dX2_zonesFrom_23 rfl hl (by decide) rfl (fun ls hl9 => ?_)
      replace hl := hl9
      clear hl9
      obtain ⟨y5, ey5⟩ : ∃ z : Int32, z = x3 + 1 := ⟨_, rfl⟩
      replace h := h y5 ey5
      refine lv_iinc (v := y5) (lv' := [(3, .int y5), (2, .int y4), (0, .ref a1)]) hx hb dX2_zonesFrom_24 hl (k := 2) rfl (by rw [ey5]; rfl) (by decide) rfl (fun ls hl9 => ?_)
      replace hl := hl9
      clear hl9
      refine lv_goto (tgt := 4) hx hb dX2_zonesFrom_27 (by decide) ?_
      exact ih hB (lv_sub hl [2, 1, 0] rfl) h
theorem ww_X2_zonesFrom_0 {T : z_T} {I : z_I} {Q : z_Q} {Qk : Int32 → Prop} (X : z_X l G A p R s m args meth c cX2_zonesFrom 4 RX2 "zonesFrom" (some .int) 0 0 8 120) {x0 : Option Nat} {x1 : Int32} {H : Heap} {locs : List Loc} {ls : Array Slot} (hB : z_HB G z_none A s.heap T I Q T I Q H locs) (hl : lv_has ls 4 [(0, va_rf x0), (1, .int x1)]) (h : wb_X2_zonesFrom_0 T I Q Qk x0 x1) : W p l e R s m args below meth c H locs 0 0 (z_MQ below G z_none A T I Q (z_pi Qk T I Q) z_no args s 0 0) (F0 m 0 ls []) := by
  obtain ⟨hx, hb, -⟩ := id X
  unfold wb_X2_zonesFrom_0 at h
  refine lv_iconst (v := 0) hx hb dX2_zonesFrom_0 (by decide) ?_
  refine lv_istore_n (lv' := [(2, .int 0), (0, va_rf x0), (1, .int x1)]) hx hb dX2_zonesFrom_1 rfl hl (by decide) rfl (fun ls hl9 => ?_)
  replace hl := hl9
  clear hl9
  refine lv_iload_n hx hb dX2_zonesFrom_2 rfl (lv_at hl 2 rfl) ?_
  refine lv_istore_n (lv' := [(3, .int x1), (2, .int 0), (0, va_rf x0), (1, .int x1)]) hx hb dX2_zonesFrom_3 rfl hl (by decide) rfl (fun ls hl9 => ?_)
  replace hl := hl9
  clear hl9
  obtain ⟨w, h⟩ := h
  exact wv_X2_zonesFrom_4 X  w hB (lv_sub hl [2, 1, 0] rfl) h
theorem pk_X2_zonesFrom : z_PS yX2_zonesFrom cX2_zonesFrom 4 (some .int) 2 := ⟨q1341, q95, q1342, by decide +kernel⟩
theorem met_X2_zonesFrom {l : Launch} {G : z_E} {T : z_T} {I : z_I} {Q : z_Q} (x0 : Option Nat) (x1 : Int32) (Qk : Int32 → Prop) (h : wp_X2_zonesFrom T I Q x0 x1 Qk) : z_GM l G yX2_zonesFrom (ws_ yX2_zonesFrom cX2_zonesFrom 4 (some .int)) 8 120 0 0 [va_rf x0, .int x1] z_none T I Q (z_pi Qk T I Q) z_no := by
  refine z_body (own := RX2) (nm := "zonesFrom") (by decide +kernel) rfl rfl (by cases x0 <;> exact Nat.le_of_ble_eq_true rfl) (fun p e R s m below meth c A ls X hB hl => ?_)
  replace hl : lv_has ls 4 [(0, va_rf x0), (1, .int x1)] := by cases x0 <;> exact hl
  exact ww_X2_zonesFrom_0 X hB hl h
/-! X10_init -/
theorem ww_X10_init_185 {co : Nat} {o : Nat} {k48 : z_T → z_I → z_Q → Nat → Nat → Option Nat → Int32 → Prop} {Qk : z_T → z_I → z_Q → Prop} (X : z_X l G A p R s m args meth c cX10_init 8 RX10 "<init>" none mc ms 10 161) (ho : (T0 o).1 = 11) (hoc : (T0 o).2.2 = co) (hk48 : ∀ {cells slots : Nat} {T : z_T} {I : z_I} {Q : z_Q} {kc : Nat} {ks : Nat} {x1 : Option Nat} {x6 : Int32} {H : Heap} {locs : List Loc} {ls : Array Slot}, z_HB G (z_co co) A s.heap T0 I0 Q0 T I Q H locs → cells + kc ≤ mc → slots + ks ≤ ms → lv_has ls 8 [(0, .ref o), (1, va_rf x1), (6, .int x6)] → k48 T I Q kc ks x1 x6 → W p l e R s m args below meth c H locs cells slots (z_MQ below G (z_co co) A T0 I0 Q0 (z_qv Qk) z_no args s mc ms) (F0 m 48 ls [])) {cells slots : Nat} {T : z_T} {I : z_I} {Q : z_Q} {kc : Nat} {ks : Nat} {x1 : Option Nat} {x6 : Int32} {H : Heap} {locs : List Loc} {ls : Array Slot} (hB : z_HB G (z_co co) A s.heap T0 I0 Q0 T I Q H locs) (hK1 : cells + kc ≤ mc) (hK2 : slots + ks ≤ ms) (hl : lv_has ls 8 [(0, .ref o), (1, va_rf x1), (6, .int x6)]) (h : wb_X10_init_185 co o k48 Qk T I Q kc ks x1 x6) : W p l e R s m args below meth c H locs cells slots (z_MQ below G (z_co co) A T0 I0 Q0 (z_qv Qk) z_no args s mc ms) (F0 m 185 ls []) := by
  obtain ⟨hx, hb, -⟩ := id X
  unfold wb_X10_init_185 at h
  obtain ⟨y41, ey41⟩ : ∃ z : Int32, z = x6 + 1 := ⟨_, rfl⟩
  replace h := h y41 ey41
  refine lv_iinc (v := y41) (lv' := [(6, .int y41), (0, .ref o), (1, va_rf x1)]) hx hb dX10_init_185 hl (k := 2) rfl (by rw [ey41]; rfl) (by decide) rfl (fun ls hl9 => ?_)
  replace hl := hl9
  clear hl9
  refine lv_goto (tgt := 48) hx hb dX10_init_188 (by decide) ?_
  exact hk48 hB hK1 hK2 (lv_sub hl [1, 2, 0] rfl) h
theorem ww_X10_init_184 {co : Nat} {o : Nat} {k48 : z_T → z_I → z_Q → Nat → Nat → Option Nat → Int32 → Prop} {Qk : z_T → z_I → z_Q → Prop} (X : z_X l G A p R s m args meth c cX10_init 8 RX10 "<init>" none mc ms 10 161) (ho : (T0 o).1 = 11) (hoc : (T0 o).2.2 = co) (hk48 : ∀ {cells slots : Nat} {T : z_T} {I : z_I} {Q : z_Q} {kc : Nat} {ks : Nat} {x1 : Option Nat} {x6 : Int32} {H : Heap} {locs : List Loc} {ls : Array Slot}, z_HB G (z_co co) A s.heap T0 I0 Q0 T I Q H locs → cells + kc ≤ mc → slots + ks ≤ ms → lv_has ls 8 [(0, .ref o), (1, va_rf x1), (6, .int x6)] → k48 T I Q kc ks x1 x6 → W p l e R s m args below meth c H locs cells slots (z_MQ below G (z_co co) A T0 I0 Q0 (z_qv Qk) z_no args s mc ms) (F0 m 48 ls [])) {cells slots : Nat} {T : z_T} {I : z_I} {Q : z_Q} {kc : Nat} {ks : Nat} {x1 : Option Nat} {x6 : Int32} {s0 : Option Nat} {s1 : Int32} {s2 : Int32} {H : Heap} {locs : List Loc} {ls : Array Slot} (hB : z_HB G (z_co co) A s.heap T0 I0 Q0 T I Q H locs) (hK1 : cells + kc ≤ mc) (hK2 : slots + ks ≤ ms) (hl : lv_has ls 8 [(0, .ref o), (1, va_rf x1), (6, .int x6)]) (h : wb_X10_init_184 co o k48 Qk T I Q kc ks x1 x6 s0 s1 s2) : W p l e R s m args below meth c H locs cells slots (z_MQ below G (z_co co) A T0 I0 Q0 (z_qv Qk) z_no args s mc ms) (F0 m 184 ls [.int s2, .int s1, va_rf s0]) := by
  obtain ⟨hx, hb, -⟩ := id X
  unfold wb_X10_init_184 at h
  obtain ⟨a39, rfl, h⟩ := h
  obtain ⟨hk_a39, h⟩ := h
  obtain ⟨hc_a39, h⟩ := h
  obtain ⟨h1, h⟩ := h
  obtain ⟨I40, eI40⟩ : ∃ z, z = z_up I a39 s1.toNatClampNeg s2 := ⟨_, rfl⟩
  replace h := h I40 eI40
  refine z_iast (x := s2) X hB hk_a39 hc_a39 h1 dX10_init_184 (fun H locs hB => ?_)
  rw [← eI40] at hB
  exact ww_X10_init_185 X ho hoc hk48 hB hK1 hK2 (lv_sub hl [0, 1, 2] rfl) h
theorem ww_X10_init_132 {co : Nat} {o : Nat} {k48 : z_T → z_I → z_Q → Nat → Nat → Option Nat → Int32 → Prop} {Qk : z_T → z_I → z_Q → Prop} (X : z_X l G A p R s m args meth c cX10_init 8 RX10 "<init>" none mc ms 10 161) (ho : (T0 o).1 = 11) (hoc : (T0 o).2.2 = co) (hk48 : ∀ {cells slots : Nat} {T : z_T} {I : z_I} {Q : z_Q} {kc : Nat} {ks : Nat} {x1 : Option Nat} {x6 : Int32} {H : Heap} {locs : List Loc} {ls : Array Slot}, z_HB G (z_co co) A s.heap T0 I0 Q0 T I Q H locs → cells + kc ≤ mc → slots + ks ≤ ms → lv_has ls 8 [(0, .ref o), (1, va_rf x1), (6, .int x6)] → k48 T I Q kc ks x1 x6 → W p l e R s m args below meth c H locs cells slots (z_MQ below G (z_co co) A T0 I0 Q0 (z_qv Qk) z_no args s mc ms) (F0 m 48 ls [])) {cells slots : Nat} {T : z_T} {I : z_I} {Q : z_Q} {kc : Nat} {ks : Nat} {x1 : Option Nat} {x6 : Int32} {x7 : Int32} {s0 : Option Nat} {s1 : Int32} {s2 : Int32} {s3 : Int32} {H : Heap} {locs : List Loc} {ls : Array Slot} (hB : z_HB G (z_co co) A s.heap T0 I0 Q0 T I Q H locs) (hK1 : cells + kc ≤ mc) (hK2 : slots + ks ≤ ms) (hl : lv_has ls 8 [(0, .ref o), (1, va_rf x1), (6, .int x6), (7, .int x7)]) (h : wb_X10_init_132 co o k48 Qk T I Q kc ks x1 x6 x7 s0 s1 s2 s3) : W p l e R s m args below meth c H locs cells slots (z_MQ below G (z_co co) A T0 I0 Q0 (z_qv Qk) z_no args s mc ms) (F0 m 132 ls [.int s3, .int s2, .int s1, va_rf s0]) := by
  obtain ⟨hx, hb, -⟩ := id X
  unfold wb_X10_init_132 at h
  refine lv_ior hx hb dX10_init_132 ?_
  obtain ⟨a29, rfl, h⟩ := h
  obtain ⟨hk_a29, h⟩ := h
  obtain ⟨hc_a29, h⟩ := h
  obtain ⟨h1, h⟩ := h
  obtain ⟨I30, eI30⟩ : ∃ z, z = z_up I a29 s1.toNatClampNeg (s2 ||| s3) := ⟨_, rfl⟩
  replace h := h I30 eI30
  refine z_iast (x := (s2 ||| s3)) X hB hk_a29 hc_a29 h1 dX10_init_133 (fun H locs hB => ?_)
  rw [← eI30] at hB
  refine lv_aload_n (x := o) hx hb dX10_init_134 rfl (lv_at hl 0 rfl) ?_
  refine z_getq X hB.1 kc_X10 in_X10 (j := 2) (Nat.le_of_ble_eq_true rfl) q1350 (fun _ h => h) rfl (by decide) (z_fo hB ho (by decide)) dX10_init_135 ?_
  refine lv_iload hx hb dX10_init_138 (lv_at hl 2 rfl) ?_
  refine lv_iload hx hb dX10_init_140 (lv_at hl 3 rfl) ?_
  refine lv_if_eq (tgt := 159) hx hb dX10_init_142 (by decide) (fun c31 => ?_) (fun c31 => ?_)
  · replace h := h.1 c31
    refine z_aload_n (x := x1) hx hb dX10_init_159 rfl (lv_at hl 1 rfl) ?_
    obtain ⟨a32, rfl, h⟩ := h
    obtain ⟨hk_a32, h⟩ := h
    refine z_getqN X hB.1 kc_X2 in_X2 (j := 2) (Nat.le_of_ble_eq_true rfl) q1241 (fun _ h => h) rfl (by decide) hk_a32 dX10_init_160 ?_
    refine lv_iload hx hb dX10_init_163 (lv_at hl 2 rfl) ?_
    obtain ⟨a33, ea33, h⟩ := h
    refine z_stk (st' := [.int x6, .ref a33, .int x6, va_rf (Q o 2)]) (by rw [ea33] <;> rfl) ?_
    obtain ⟨hk_a33, h⟩ := h
    obtain ⟨h1, h⟩ := h
    refine z_aald (k := 4) X hB.1 (by decide) hk_a33 h1 dX10_init_165 ?_
    obtain ⟨a34, ea34, h⟩ := h
    refine z_stk (st' := [.ref a34, .int x6, va_rf (Q o 2)]) (by rw [ea34] <;> rfl) ?_
    obtain ⟨hk_a34, h⟩ := h
    refine z_callrp (z_runV (rest := [.int x6, va_rf (Q o 2)]) [] pk_X4_order (met_X4_order a34 _ h) X hB (fun h => h) q1343 kc_X4 (by decide) hk_a34 rfl hl.1 (by simp [z_cat, z_cati, z_catl, z_catf, z_catd, z_catq]) dX10_init_166 (z_k4 hK1) (z_k4 hK2) (by decide) (by decide)) hB (fun r35 H locs h9 hB => ?_)
    replace h := h9
    clear h9
    refine lv_aload_n (x := a32) hx hb dX10_init_169 rfl (lv_at hl 1 rfl) ?_
    refine z_getqN X hB.1 kc_X2 in_X2 (j := 2) (Nat.le_of_ble_eq_true rfl) q1241 (fun _ h => h) rfl (by decide) hk_a32 dX10_init_170 ?_
    refine z_stk (st' := [.ref a33, va_rf r35, .int x6, va_rf (Q o 2)]) (by rw [ea33] <;> rfl) ?_
    refine lv_iload hx hb dX10_init_173 (lv_at hl 2 rfl) ?_
    obtain ⟨h1, h⟩ := h
    refine z_aald (k := 4) X hB.1 (by decide) hk_a33 h1 dX10_init_175 ?_
    refine z_stk (st' := [.ref a34, va_rf r35, .int x6, va_rf (Q o 2)]) (by rw [ea34] <;> rfl) ?_
    refine z_callip (z_runV (rest := [va_rf r35, .int x6, va_rf (Q o 2)]) [] pk_X4_reached (met_X4_reached a34 _ h) X hB (fun h => h) q1344 kc_X4 (by decide) hk_a34 rfl hl.1 (by simp [z_cat, z_cati, z_catl, z_catf, z_catd, z_catq]) dX10_init_176 (z_k4 hK1) (z_k4 hK2) (by decide) (by decide)) hB (fun r36 H locs h9 hB => ?_)
    replace h := h9
    clear h9
    refine lv_iconst (v := 1) hx hb dX10_init_179 (by decide) ?_
    refine lv_iadd hx hb dX10_init_180 ?_
    refine z_callip (z_runSN (rest := [.int x6, va_rf (Q o 2)]) [va_rf r35, .int (r36 + 1)] pk_X2_zonesFrom (met_X2_zonesFrom r35 (r36 + 1) _ h) X hB (fun h => h) q1340 rfl hl.1 (by simp [z_cat, z_cati, z_catl, z_catf, z_catd, z_catq]) dX10_init_181 (z_k4 hK1) (z_k4 hK2) (by decide) (by decide)) hB (fun r37 H locs h9 hB => ?_)
    replace h := h9
    clear h9
    exact ww_X10_init_184 X ho hoc hk48 hB hK1 hK2 (lv_sub hl [0, 1, 2] rfl) h
  · replace h := h.2 c31
    refine lv_aload_n (x := o) hx hb dX10_init_145 rfl (lv_at hl 0 rfl) ?_
    refine z_getq X hB.1 kc_X10 in_X10 (j := 5) (Nat.le_of_ble_eq_true rfl) q1353 (fun _ h => h) rfl (by decide) (z_fo hB ho (by decide)) dX10_init_146 ?_
    refine lv_aload_n (x := o) hx hb dX10_init_149 rfl (lv_at hl 0 rfl) ?_
    refine z_geti X hB.1 kc_X10 in_X10 (j := 6) (Nat.le_of_ble_eq_true rfl) q1354 (fun _ h => h) rfl (by decide) (z_fo hB ho (by decide)) dX10_init_150 ?_
    refine z_callip (z_runSN (rest := [.int x6, va_rf (Q o 2)]) [va_rf (Q o 5), .int (I30 o 6)] pk_X2_zonesFrom (met_X2_zonesFrom (Q o 5) (I30 o 6) _ h) X hB (fun h => h) q1340 rfl hl.1 (by simp [z_cat, z_cati, z_catl, z_catf, z_catd, z_catq]) dX10_init_153 (z_k4 hK1) (z_k4 hK2) (by decide) (by decide)) hB (fun r38 H locs h9 hB => ?_)
    replace h := h9
    clear h9
    refine lv_goto (tgt := 184) hx hb dX10_init_156 (by decide) ?_
    exact ww_X10_init_184 X ho hoc hk48 hB hK1 hK2 (lv_sub hl [0, 1, 2] rfl) h
theorem ww_X10_init_88 {co : Nat} {o : Nat} {k48 : z_T → z_I → z_Q → Nat → Nat → Option Nat → Int32 → Prop} {Qk : z_T → z_I → z_Q → Prop} (X : z_X l G A p R s m args meth c cX10_init 8 RX10 "<init>" none mc ms 10 161) (ho : (T0 o).1 = 11) (hoc : (T0 o).2.2 = co) (hk48 : ∀ {cells slots : Nat} {T : z_T} {I : z_I} {Q : z_Q} {kc : Nat} {ks : Nat} {x1 : Option Nat} {x6 : Int32} {H : Heap} {locs : List Loc} {ls : Array Slot}, z_HB G (z_co co) A s.heap T0 I0 Q0 T I Q H locs → cells + kc ≤ mc → slots + ks ≤ ms → lv_has ls 8 [(0, .ref o), (1, va_rf x1), (6, .int x6)] → k48 T I Q kc ks x1 x6 → W p l e R s m args below meth c H locs cells slots (z_MQ below G (z_co co) A T0 I0 Q0 (z_qv Qk) z_no args s mc ms) (F0 m 48 ls [])) {cells slots : Nat} {T : z_T} {I : z_I} {Q : z_Q} {kc : Nat} {ks : Nat} {x1 : Option Nat} {x6 : Int32} {x7 : Int32} {H : Heap} {locs : List Loc} {ls : Array Slot} (hB : z_HB G (z_co co) A s.heap T0 I0 Q0 T I Q H locs) (hK1 : cells + kc ≤ mc) (hK2 : slots + ks ≤ ms) (hl : lv_has ls 8 [(0, .ref o), (1, va_rf x1), (6, .int x6), (7, .int x7)]) (h : wb_X10_init_88 co o k48 Qk T I Q kc ks x1 x6 x7) : W p l e R s m args below meth c H locs cells slots (z_MQ below G (z_co co) A T0 I0 Q0 (z_qv Qk) z_no args s mc ms) (F0 m 88 ls []) := by
  obtain ⟨hx, hb, -⟩ := id X
  unfold wb_X10_init_88 at h
  refine lv_aload_n (x := o) hx hb dX10_init_88 rfl (lv_at hl 0 rfl) ?_
  refine lv_dup hx hb dX10_init_89 rfl ?_
  refine z_geti X hB.1 kc_X10 in_X10 (j := 0) (Nat.le_of_ble_eq_true rfl) q1348 (fun _ h => h) rfl (by decide) (z_fo hB ho (by decide)) dX10_init_90 ?_
  refine lv_iconst (v := 1) hx hb dX10_init_93 (by decide) ?_
  refine lv_iload hx hb dX10_init_94 (lv_at hl 2 rfl) ?_
  refine lv_ishl hx hb dX10_init_96 ?_
  refine lv_ior hx hb dX10_init_97 ?_
  obtain ⟨I23, eI23⟩ : ∃ z, z = z_up I o 0 ((I o 0) ||| (1 <<< (x6 &&& 31))) := ⟨_, rfl⟩
  replace h := h I23 eI23
  refine z_puti (x := ((I o 0) ||| (1 <<< (x6 &&& 31)))) eI23 tyX10 X hB kc_X10 in_X10 tyX10_ok nmX10 (j := 0) (Nat.le_of_ble_eq_true rfl) q1348 (fun _ h => h) rfl rfl (by decide) (z_fo hB ho (by decide)) (z_foc hB ho (by decide) hoc) rfl (Or.inl rfl) dX10_init_98 (fun H locs hB => ?_)
  refine lv_aload_n (x := o) hx hb dX10_init_101 rfl (lv_at hl 0 rfl) ?_
  refine z_getq X hB.1 kc_X10 in_X10 (j := 1) (Nat.le_of_ble_eq_true rfl) q1349 (fun _ h => h) rfl (by decide) (z_fo hB ho (by decide)) dX10_init_102 ?_
  refine lv_iload hx hb dX10_init_105 (lv_at hl 2 rfl) ?_
  refine z_aload_n (x := x1) hx hb dX10_init_107 rfl (lv_at hl 1 rfl) ?_
  obtain ⟨a24, rfl, h⟩ := h
  obtain ⟨hk_a24, h⟩ := h
  refine z_getqN X hB.1 kc_X2 in_X2 (j := 2) (Nat.le_of_ble_eq_true rfl) q1241 (fun _ h => h) rfl (by decide) hk_a24 dX10_init_108 ?_
  refine lv_iload hx hb dX10_init_111 (lv_at hl 2 rfl) ?_
  obtain ⟨a25, ea25, h⟩ := h
  refine z_stk (st' := [.int x6, .ref a25, .int x6, va_rf (Q o 1)]) (by rw [ea25] <;> rfl) ?_
  obtain ⟨hk_a25, h⟩ := h
  obtain ⟨h1, h⟩ := h
  refine z_aald (k := 4) X hB.1 (by decide) hk_a25 h1 dX10_init_113 ?_
  obtain ⟨a26, ea26, h⟩ := h
  refine z_stk (st' := [.ref a26, .int x6, va_rf (Q o 1)]) (by rw [ea26] <;> rfl) ?_
  obtain ⟨hk_a26, h⟩ := h
  refine z_callip (z_runV (rest := [.int x6, va_rf (Q o 1)]) [] pk_X4_held (met_X4_held a26 _ h) X hB (fun h => h) q1332 kc_X4 (by decide) hk_a26 rfl hl.1 (by simp [z_cat, z_cati, z_catl, z_catf, z_catd, z_catq]) dX10_init_114 (z_k4 hK1) (z_k4 hK2) (by decide) (by decide)) hB (fun r27 H locs h9 hB => ?_)
  replace h := h9
  clear h9
  refine lv_iload hx hb dX10_init_117 (lv_at hl 3 rfl) ?_
  refine lv_if_eq (tgt := 131) hx hb dX10_init_119 (by decide) (fun c28 => ?_) (fun c28 => ?_)
  · replace h := h.1 c28
    refine lv_iconst (v := 0) hx hb dX10_init_131 (by decide) ?_
    exact ww_X10_init_132 X ho hoc hk48 hB hK1 hK2 (lv_sub hl [0, 1, 2, 3] rfl) h
  · replace h := h.2 c28
    refine lv_iconst (v := 1) hx hb dX10_init_122 (by decide) ?_
    refine lv_aload_n (x := o) hx hb dX10_init_123 rfl (lv_at hl 0 rfl) ?_
    refine z_geti X hB.1 kc_X10 in_X10 (j := 4) (Nat.le_of_ble_eq_true rfl) q1352 (fun _ h => h) rfl (by decide) (z_fo hB ho (by decide)) dX10_init_124 ?_
    refine lv_ishl hx hb dX10_init_127 ?_
    refine lv_goto (tgt := 132) hx hb dX10_init_128 (by decide) ?_
    exact ww_X10_init_132 X ho hoc hk48 hB hK1 hK2 (lv_sub hl [0, 1, 2, 3] rfl) h
theorem ww_X10_init_68 {co : Nat} {o : Nat} {k48 : z_T → z_I → z_Q → Nat → Nat → Option Nat → Int32 → Prop} {Qk : z_T → z_I → z_Q → Prop} (X : z_X l G A p R s m args meth c cX10_init 8 RX10 "<init>" none mc ms 10 161) (ho : (T0 o).1 = 11) (hoc : (T0 o).2.2 = co) (hk48 : ∀ {cells slots : Nat} {T : z_T} {I : z_I} {Q : z_Q} {kc : Nat} {ks : Nat} {x1 : Option Nat} {x6 : Int32} {H : Heap} {locs : List Loc} {ls : Array Slot}, z_HB G (z_co co) A s.heap T0 I0 Q0 T I Q H locs → cells + kc ≤ mc → slots + ks ≤ ms → lv_has ls 8 [(0, .ref o), (1, va_rf x1), (6, .int x6)] → k48 T I Q kc ks x1 x6 → W p l e R s m args below meth c H locs cells slots (z_MQ below G (z_co co) A T0 I0 Q0 (z_qv Qk) z_no args s mc ms) (F0 m 48 ls [])) {cells slots : Nat} {T : z_T} {I : z_I} {Q : z_Q} {kc : Nat} {ks : Nat} {x1 : Option Nat} {x6 : Int32} {s0 : Int32} {H : Heap} {locs : List Loc} {ls : Array Slot} (hB : z_HB G (z_co co) A s.heap T0 I0 Q0 T I Q H locs) (hK1 : cells + kc ≤ mc) (hK2 : slots + ks ≤ ms) (hl : lv_has ls 8 [(0, .ref o), (1, va_rf x1), (6, .int x6)]) (h : wb_X10_init_68 co o k48 Qk T I Q kc ks x1 x6 s0) : W p l e R s m args below meth c H locs cells slots (z_MQ below G (z_co co) A T0 I0 Q0 (z_qv Qk) z_no args s mc ms) (F0 m 68 ls [.int s0]) := by
  obtain ⟨hx, hb, -⟩ := id X
  unfold wb_X10_init_68 at h
  refine lv_istore (lv' := [(7, .int s0), (0, .ref o), (1, va_rf x1), (6, .int x6)]) hx hb dX10_init_68 hl (by decide) rfl (fun ls hl9 => ?_)
  replace hl := hl9
  clear hl9
  refine lv_iload hx hb dX10_init_70 (lv_at hl 0 rfl) ?_
  refine lv_if_ne (tgt := 88) hx hb dX10_init_72 (by decide) (fun c18 => ?_) (fun c18 => ?_)
  · replace h := h.1 c18
    exact ww_X10_init_88 X ho hoc hk48 hB hK1 hK2 (lv_sub hl [1, 2, 3, 0] rfl) h
  · replace h := h.2 c18
    refine z_aload_n (x := x1) hx hb dX10_init_75 rfl (lv_at hl 2 rfl) ?_
    obtain ⟨a19, rfl, h⟩ := h
    obtain ⟨hk_a19, h⟩ := h
    refine z_getqN X hB.1 kc_X2 in_X2 (j := 2) (Nat.le_of_ble_eq_true rfl) q1241 (fun _ h => h) rfl (by decide) hk_a19 dX10_init_76 ?_
    refine lv_iload hx hb dX10_init_79 (lv_at hl 3 rfl) ?_
    obtain ⟨a20, ea20, h⟩ := h
    refine z_stk (st' := [.int x6, .ref a20]) (by rw [ea20] <;> rfl) ?_
    obtain ⟨hk_a20, h⟩ := h
    obtain ⟨h1, h⟩ := h
    refine z_aald (k := 4) X hB.1 (by decide) hk_a20 h1 dX10_init_81 ?_
    obtain ⟨a21, ea21, h⟩ := h
    refine z_stk (st' := [.ref a21]) (by rw [ea21] <;> rfl) ?_
    obtain ⟨hk_a21, h⟩ := h
    refine z_getiN X hB.1 kc_X4 in_X4 (j := 4) (Nat.le_of_ble_eq_true rfl) q1186 (fun _ h => h) rfl (by decide) hk_a21 dX10_init_82 ?_
    refine lv_if_eq (tgt := 185) hx hb dX10_init_85 (by decide) (fun c22 => ?_) (fun c22 => ?_)
    · replace h := h.1 c22
      exact ww_X10_init_185 X ho hoc hk48 hB hK1 hK2 (lv_sub hl [1, 2, 3] rfl) h
    · replace h := h.2 c22
      exact ww_X10_init_88 X ho hoc hk48 hB hK1 hK2 (lv_sub hl [1, 2, 3, 0] rfl) h
theorem wv_X10_init_48 {co : Nat} {o : Nat} {Qk : z_T → z_I → z_Q → Prop} (X : z_X l G A p R s m args meth c cX10_init 8 RX10 "<init>" none mc ms 10 161) (ho : (T0 o).1 = 11) (hoc : (T0 o).2.2 = co) : ∀ (n : Nat) {cells slots : Nat} {T : z_T} {I : z_I} {Q : z_Q} {kc : Nat} {ks : Nat} {x1 : Option Nat} {x6 : Int32} {H : Heap} {locs : List Loc} {ls : Array Slot}, z_HB G (z_co co) A s.heap T0 I0 Q0 T I Q H locs → cells + kc ≤ mc → slots + ks ≤ ms → lv_has ls 8 [(0, .ref o), (1, va_rf x1), (6, .int x6)] → wl_X10_init_48 co o Qk n T I Q kc ks x1 x6 → W p l e R s m args below meth c H locs cells slots (z_MQ below G (z_co co) A T0 I0 Q0 (z_qv Qk) z_no args s mc ms) (F0 m 48 ls []) := by
  intro n
  induction n with
  | zero =>
    intro cells slots T I Q kc ks x1 x6 H locs ls hB hK1 hK2 hl h
    exact h.elim
  | succ n ih =>
    intro cells slots T I Q kc ks x1 x6 H locs ls hB hK1 hK2 hl h
    obtain ⟨hx, hb, -⟩ := id X
    unfold wl_X10_init_48 at h
    refine lv_iload hx hb dX10_init_48 (lv_at hl 2 rfl) ?_
    refine lv_iconst (v := 3) hx hb dX10_init_50 (by decide) ?_
    refine lv_icmp_ge (tgt := 191) hx hb dX10_init_51 (by decide) (fun c16 => ?_) (fun c16 => ?_)
    · replace h := h.1 c16
      exact z_vret X hB ⟨rfl, h⟩ (z_k3 hK1) (z_k3 hK2) dX10_init_191
    · replace h := h.2 c16
      refine lv_iload hx hb dX10_init_54 (lv_at hl 2 rfl) ?_
      refine lv_aload_n (x := o) hx hb dX10_init_56 rfl (lv_at hl 0 rfl) ?_
      refine z_geti X hB.1 kc_X10 in_X10 (j := 3) (Nat.le_of_ble_eq_true rfl) q1351 (fun _ h => h) rfl (by decide) (z_fo hB ho (by decide)) dX10_init_57 ?_
      refine lv_icmp_ne (tgt := 67) hx hb dX10_init_60 (by decide) (fun c17 => ?_) (fun c17 => ?_)
      · replace h := h.1 c17
        refine lv_iconst (v := 0) hx hb dX10_init_67 (by decide) ?_
        exact ww_X10_init_68 X ho hoc (fun hB hK1 hK2 hl h => ih hB hK1 hK2 hl h) hB hK1 hK2 (lv_sub hl [0, 1, 2] rfl) h
      · replace h := h.2 c17
        refine lv_iconst (v := 1) hx hb dX10_init_63 (by decide) ?_
        refine lv_goto (tgt := 68) hx hb dX10_init_64 (by decide) ?_
        exact ww_X10_init_68 X ho hoc (fun hB hK1 hK2 hl h => ih hB hK1 hK2 hl h) hB hK1 hK2 (lv_sub hl [0, 1, 2] rfl) h
theorem ww_X10_init_0 {co : Nat} {o : Nat} {Qk : z_T → z_I → z_Q → Prop} (X : z_X l G A p R s m args meth c cX10_init 8 RX10 "<init>" none mc ms 10 161) (ho : (T0 o).1 = 11) (hoc : (T0 o).2.2 = co) {cells slots : Nat} {T : z_T} {I : z_I} {Q : z_Q} {kc : Nat} {ks : Nat} {x1 : Option Nat} {x2 : Int32} {x3 : Int32} {x4 : Option Nat} {x5 : Int32} {H : Heap} {locs : List Loc} {ls : Array Slot} (hB : z_HB G (z_co co) A s.heap T0 I0 Q0 T I Q H locs) (hK1 : cells + kc ≤ mc) (hK2 : slots + ks ≤ ms) (hl : lv_has ls 8 [(0, .ref o), (1, va_rf x1), (2, .int x2), (3, .int x3), (4, va_rf x4), (5, .int x5)]) (h : wb_X10_init_0 co o Qk T I Q kc ks x1 x2 x3 x4 x5) : W p l e R s m args below meth c H locs cells slots (z_MQ below G (z_co co) A T0 I0 Q0 (z_qv Qk) z_no args s mc ms) (F0 m 0 ls []) := by
  obtain ⟨hx, hb, -⟩ := id X
  unfold wb_X10_init_0 at h
  refine lv_aload_n (x := o) hx hb dX10_init_0 rfl (lv_at hl 0 rfl) ?_
  refine z_aload_n (x := x1) hx hb dX10_init_1 rfl (lv_at hl 1 rfl) ?_
  obtain ⟨Q1, eQ1⟩ : ∃ z, z = z_up Q o 7 x1 := ⟨_, rfl⟩
  replace h := h Q1 eQ1
  refine z_putqF (x := x1) eQ1 tyX10 X hB kc_X10 in_X10 tyX10_ok nmX10 (j := 7) (Nat.le_of_ble_eq_true rfl) q1355 (fun _ h => h) rfl rfl rfl (by decide) (z_fo hB ho (by decide)) (z_foc hB ho (by decide) hoc) rfl (Or.inl ⟨_, rfl⟩) dX10_init_2 (fun H locs hB => ?_)
  refine lv_aload_n (x := o) hx hb dX10_init_5 rfl (lv_at hl 0 rfl) ?_
  refine lv_iload_n hx hb dX10_init_6 rfl (lv_at hl 2 rfl) ?_
  obtain ⟨I2, eI2⟩ : ∃ z, z = z_up I o 3 x2 := ⟨_, rfl⟩
  replace h := h I2 eI2
  refine z_putiF (x := x2) eI2 tyX10 X hB kc_X10 in_X10 tyX10_ok nmX10 (j := 3) (Nat.le_of_ble_eq_true rfl) q1351 (fun _ h => h) rfl rfl rfl (by decide) (z_fo hB ho (by decide)) (z_foc hB ho (by decide) hoc) rfl (Or.inl rfl) dX10_init_7 (fun H locs hB => ?_)
  refine lv_aload_n (x := o) hx hb dX10_init_10 rfl (lv_at hl 0 rfl) ?_
  refine lv_iload_n hx hb dX10_init_11 rfl (lv_at hl 3 rfl) ?_
  obtain ⟨I3, eI3⟩ : ∃ z, z = z_up I2 o 4 x3 := ⟨_, rfl⟩
  replace h := h I3 eI3
  refine z_putiF (x := x3) eI3 tyX10 X hB kc_X10 in_X10 tyX10_ok nmX10 (j := 4) (Nat.le_of_ble_eq_true rfl) q1352 (fun _ h => h) rfl rfl rfl (by decide) (z_fo hB ho (by decide)) (z_foc hB ho (by decide) hoc) rfl (Or.inl rfl) dX10_init_12 (fun H locs hB => ?_)
  refine lv_aload_n (x := o) hx hb dX10_init_15 rfl (lv_at hl 0 rfl) ?_
  refine z_aload (x := x4) hx hb dX10_init_16 (lv_at hl 4 rfl) ?_
  obtain ⟨Q4, eQ4⟩ : ∃ z, z = z_up Q1 o 5 x4 := ⟨_, rfl⟩
  replace h := h Q4 eQ4
  refine z_putqF (x := x4) eQ4 tyX10 X hB kc_X10 in_X10 tyX10_ok nmX10 (j := 5) (Nat.le_of_ble_eq_true rfl) q1353 (fun _ h => h) rfl rfl rfl (by decide) (z_fo hB ho (by decide)) (z_foc hB ho (by decide) hoc) rfl (Or.inl ⟨_, rfl⟩) dX10_init_18 (fun H locs hB => ?_)
  refine lv_aload_n (x := o) hx hb dX10_init_21 rfl (lv_at hl 0 rfl) ?_
  refine lv_iload hx hb dX10_init_22 (lv_at hl 5 rfl) ?_
  obtain ⟨I5, eI5⟩ : ∃ z, z = z_up I3 o 6 x5 := ⟨_, rfl⟩
  replace h := h I5 eI5
  refine z_putiF (x := x5) eI5 tyX10 X hB kc_X10 in_X10 tyX10_ok nmX10 (j := 6) (Nat.le_of_ble_eq_true rfl) q1354 (fun _ h => h) rfl rfl rfl (by decide) (z_fo hB ho (by decide)) (z_foc hB ho (by decide) hoc) rfl (Or.inl rfl) dX10_init_24 (fun H locs hB => ?_)
  refine lv_aload_n (x := o) hx hb dX10_init_27 rfl (lv_at hl 0 rfl) ?_
  refine z_objInit (rest := []) X q1331 hl.1 dX10_init_28 (by decide) (Nat.le_of_ble_eq_true rfl) ?_
  refine lv_aload_n (x := o) hx hb dX10_init_31 rfl (lv_at hl 0 rfl) ?_
  refine lv_iconst (v := 3) hx hb dX10_init_32 (by decide) ?_
  obtain ⟨g1, g2, h⟩ := h
  refine z_newa (k := 0) (n := 3) (col := co) (.int) rfl (by decide) X hB q1170 (by decide) rfl (Nat.le_of_ble_eq_true rfl) rfl (z_k1 hK1 g1) (z_k1 hK2 g2) dX10_init_33 (fun a6 H hq hB => ?_)
  obtain ⟨T7, eT7⟩ : ∃ z, z = z_t T a6 (100, 3, co) := ⟨_, rfl⟩
  obtain ⟨I8, eI8⟩ : ∃ z, z = z_row I5 a6 (fun _ => 0) := ⟨_, rfl⟩
  obtain ⟨Q9, eQ9⟩ : ∃ z, z = z_row Q4 a6 (fun _ => none) := ⟨_, rfl⟩
  rw [← eT7, ← eI8, ← eQ9] at hB
  replace h := h a6 T7 I8 Q9 hq eT7 eI8 eQ9
  have hk_a6 := z_tq eT7
  have hc_a6 : (T7 a6).2.2 = co := by rw [z_tqc eT7]
  replace hK1 := z_k2 hK1 g1
  replace hK2 := z_k2 hK2 g2
  obtain ⟨Q10, eQ10⟩ : ∃ z, z = z_up Q9 o 1 (some a6) := ⟨_, rfl⟩
  replace h := h Q10 eQ10
  refine z_putqF (x := (some a6)) eQ10 tyX10 X hB kc_X10 in_X10 tyX10_ok nmX10 (j := 1) (Nat.le_of_ble_eq_true rfl) q1349 (fun _ h => h) rfl rfl rfl (by decide) (z_fo hB ho (by decide)) (z_foc hB ho (by decide) hoc) rfl (Or.inr ⟨_, rfl⟩) dX10_init_35 (fun H locs hB => ?_)
  refine lv_aload_n (x := o) hx hb dX10_init_38 rfl (lv_at hl 0 rfl) ?_
  refine lv_iconst (v := 3) hx hb dX10_init_39 (by decide) ?_
  obtain ⟨g1, g2, h⟩ := h
  refine z_newa (k := 0) (n := 3) (col := co) (.int) rfl (by decide) X hB q1170 (by decide) rfl (Nat.le_of_ble_eq_true rfl) rfl (z_k1 hK1 g1) (z_k1 hK2 g2) dX10_init_40 (fun a11 H hq hB => ?_)
  obtain ⟨T12, eT12⟩ : ∃ z, z = z_t T7 a11 (100, 3, co) := ⟨_, rfl⟩
  obtain ⟨I13, eI13⟩ : ∃ z, z = z_row I8 a11 (fun _ => 0) := ⟨_, rfl⟩
  obtain ⟨Q14, eQ14⟩ : ∃ z, z = z_row Q10 a11 (fun _ => none) := ⟨_, rfl⟩
  rw [← eT12, ← eI13, ← eQ14] at hB
  replace h := h a11 T12 I13 Q14 hq eT12 eI13 eQ14
  have hk_a11 := z_tq eT12
  have hc_a11 : (T12 a11).2.2 = co := by rw [z_tqc eT12]
  replace hK1 := z_k2 hK1 g1
  replace hK2 := z_k2 hK2 g2
  obtain ⟨Q15, eQ15⟩ : ∃ z, z = z_up Q14 o 2 (some a11) := ⟨_, rfl⟩
  replace h := h Q15 eQ15
  refine z_putqF (x := (some a11)) eQ15 tyX10 X hB kc_X10 in_X10 tyX10_ok nmX10 (j := 2) (Nat.le_of_ble_eq_true rfl) q1350 (fun _ h => h) rfl rfl rfl (by decide) (z_fo hB ho (by decide)) (z_foc hB ho (by decide) hoc) rfl (Or.inr ⟨_, rfl⟩) dX10_init_42 (fun H locs hB => ?_)
  refine lv_iconst (v := 0) hx hb dX10_init_45 (by decide) ?_
  refine lv_istore (lv' := [(6, .int 0), (0, .ref o), (1, va_rf x1), (2, .int x2), (3, .int x3), (4, va_rf x4), (5, .int x5)]) hx hb dX10_init_46 hl (by decide) rfl (fun ls hl9 => ?_)
  replace hl := hl9
  clear hl9
  obtain ⟨w, h⟩ := h
  exact wv_X10_init_48 X ho hoc  w hB hK1 hK2 (lv_sub hl [1, 2, 0] rfl) h
theorem pk_X10_init : z_PI yX10_init cX10_init 8 5 := ⟨q1329, q155, q1330, rfl, by decide +kernel⟩
theorem met_X10_init {l : Launch} {G : z_E} {T : z_T} {I : z_I} {Q : z_Q} (co : Nat) (o : Nat) (x1 : Option Nat) (x2 : Int32) (x3 : Int32) (x4 : Option Nat) (x5 : Int32) (kc : Nat) (ks : Nat) (Qk : z_T → z_I → z_Q → Prop) (h : wp_X10_init co T I Q o x1 x2 x3 x4 x5 kc ks Qk) : z_GM l G yX10_init (ws_ yX10_init cX10_init 8 none) 10 161 kc ks [.ref o, va_rf x1, .int x2, .int x3, va_rf x4, .int x5] (z_co co) T I Q (z_qv Qk) z_no := by
  obtain ⟨ho, hoc, h⟩ := h
  refine z_body (own := RX10) (nm := "<init>") (by decide +kernel) rfl rfl (by cases x1 <;> cases x4 <;> exact Nat.le_of_ble_eq_true rfl) (fun p e R s m below meth c A ls X hB hl => ?_)
  replace hl : lv_has ls 8 [(0, .ref o), (1, va_rf x1), (2, .int x2), (3, .int x3), (4, va_rf x4), (5, .int x5)] := by cases x1 <;> cases x4 <;> exact hl
  exact ww_X10_init_0 X ho hoc hB z_k0 z_k0 hl h
/-! X2_stuck -/
theorem ww_X2_stuck_0 {co : Nat} {o : Nat} {Qk : Int32 → z_T → z_I → z_Q → Prop} (X : z_X l G A p R s m args meth c cX2_stuck 5 RX2 "stuck" (some .int) mc ms 17 315) (ho : (T0 o).1 = 3) {cells slots : Nat} {T : z_T} {I : z_I} {Q : z_Q} {kc : Nat} {ks : Nat} {x1 : Int32} {x2 : Int32} {x3 : Int32} {x4 : Option Nat} {H : Heap} {locs : List Loc} {ls : Array Slot} (hB : z_HB G (z_co co) A s.heap T0 I0 Q0 T I Q H locs) (hK1 : cells + kc ≤ mc) (hK2 : slots + ks ≤ ms) (hl : lv_has ls 5 [(0, .ref o), (1, .int x1), (2, .int x2), (3, .int x3), (4, va_rf x4)]) (h : wb_X2_stuck_0 co o Qk T I Q kc ks x1 x2 x3 x4) : W p l e R s m args below meth c H locs cells slots (z_MQ below G (z_co co) A T0 I0 Q0 (z_qi Qk) z_no args s mc ms) (F0 m 0 ls []) := by
  obtain ⟨hx, hb, -⟩ := id X
  unfold wb_X2_stuck_0 at h
  obtain ⟨g1, g2, h⟩ := h
  refine z_new (col := co) tyX10 X hB kc_X10 in_X10 tyX10_ok q1326 q1327 q155 (by decide) (z_dvX10) rfl (z_k1 hK1 g1) (z_k1 hK2 g2) dX2_stuck_0 (fun a1 H hq hB => ?_)
  obtain ⟨T2, eT2⟩ : ∃ z, z = z_t T a1 (11, 0, co) := ⟨_, rfl⟩
  obtain ⟨I3, eI3⟩ : ∃ z, z = z_row I a1 (fun _ => 0) := ⟨_, rfl⟩
  obtain ⟨Q4, eQ4⟩ : ∃ z, z = z_row Q a1 (fun _ => none) := ⟨_, rfl⟩
  rw [← eT2, ← eI3, ← eQ4] at hB
  replace h := h a1 T2 I3 Q4 hq eT2 eI3 eQ4
  have hk_a1 := z_tq eT2
  have hc_a1 : (T2 a1).2.2 = co := by rw [z_tqc eT2]
  replace hK1 := z_k2 hK1 g1
  replace hK2 := z_k2 hK2 g2
  refine lv_dup hx hb dX2_stuck_3 rfl ?_
  refine lv_aload_n (x := o) hx hb dX2_stuck_4 rfl (lv_at hl 0 rfl) ?_
  refine lv_iload_n hx hb dX2_stuck_5 rfl (lv_at hl 1 rfl) ?_
  refine lv_iload_n hx hb dX2_stuck_6 rfl (lv_at hl 2 rfl) ?_
  refine z_aload (x := x4) hx hb dX2_stuck_7 (lv_at hl 4 rfl) ?_
  refine lv_iload_n hx hb dX2_stuck_9 rfl (lv_at hl 3 rfl) ?_
  obtain ⟨kc6, ks7, g1, g2, h⟩ := h
  refine z_callv (z_runI (rest := [.ref a1]) [.ref o, .int x1, .int x2, va_rf x4, .int x3] pk_X10_init (met_X10_init co a1 o x1 x2 x4 x3 kc6 ks7 _ h) X hB hB.2.2.2.2.2.2 q1328 rfl hl.1 (Nat.le_of_ble_eq_true rfl) dX2_stuck_10 (z_k1 hK1 g1) (z_k1 hK2 g2) (by decide) (by decide)) hB (fun _ h => h) (fun T8 I9 Q10 H locs h9 hF hB => ?_)
  replace h := h9
  clear h9
  replace h := h hF
  have hc_a1 : (T8 a1).2.2 = co := by rw [z_te hF hk_a1 (by decide)]; exact hc_a1
  have hk_a1 := z_tk hF hk_a1 (by decide)
  replace hK1 := z_k2 hK1 g1
  replace hK2 := z_k2 hK2 g2
  obtain ⟨kc12, ks13, g1, g2, h⟩ := h
  refine z_calli (z_runV (rest := []) [] pk_X10_finishAll (met_X10_finishAll co a1 kc12 ks13 _ h) X hB hB.2.2.2.2.2.2 q1373 kc_X10 (by decide) hk_a1 rfl hl.1 (Nat.le_of_ble_eq_true rfl) dX2_stuck_13 (z_k1 hK1 g1) (z_k1 hK2 g2) (by decide) (by decide)) hB (fun _ h => h) (fun r11 T14 I15 Q16 H locs h9 hF hB => ?_)
  replace h := h9
  clear h9
  replace h := h hF
  replace hK1 := z_k2 hK1 g1
  replace hK2 := z_k2 hK2 g2
  exact z_iret X hB ⟨_, rfl, h⟩ (z_k3 hK1) (z_k3 hK2) dX2_stuck_16
theorem pk_X2_stuck : z_PV RX2 yX2_stuck cX2_stuck 5 (some .int) 4 := ⟨q1324, qs14, q95, q1325, by decide +kernel⟩
theorem met_X2_stuck {l : Launch} {G : z_E} {T : z_T} {I : z_I} {Q : z_Q} (co : Nat) (o : Nat) (x1 : Int32) (x2 : Int32) (x3 : Int32) (x4 : Option Nat) (kc : Nat) (ks : Nat) (Qk : Int32 → z_T → z_I → z_Q → Prop) (h : wp_X2_stuck co T I Q o x1 x2 x3 x4 kc ks Qk) : z_GM l G yX2_stuck (ws_ yX2_stuck cX2_stuck 5 (some .int)) 17 315 kc ks [.ref o, .int x1, .int x2, .int x3, va_rf x4] (z_co co) T I Q (z_qi Qk) z_no := by
  obtain ⟨ho, h⟩ := h
  refine z_body (own := RX2) (nm := "stuck") (by decide +kernel) rfl rfl (by cases x4 <;> exact Nat.le_of_ble_eq_true rfl) (fun p e R s m below meth c A ls X hB hl => ?_)
  replace hl : lv_has ls 5 [(0, .ref o), (1, .int x1), (2, .int x2), (3, .int x3), (4, va_rf x4)] := by cases x4 <;> exact hl
  exact ww_X2_stuck_0 X ho hB z_k0 z_k0 hl h
/-! X4_requestZone -/
theorem ww_X4_requestZone_72 {co : Nat} {o : Nat} {k24 : z_T → z_I → z_Q → Nat → Nat → Option Nat → Int32 → Int32 → Option Nat → Int32 → Int32 → Prop} {Qk : Int32 → z_T → z_I → z_Q → Prop} (X : z_X l G A p R s m args meth c cX4_requestZone 8 RX4 "requestZone" (some .int) mc ms 18 339) (ho : (T0 o).1 = 4) (hk24 : ∀ {cells slots : Nat} {T : z_T} {I : z_I} {Q : z_Q} {kc : Nat} {ks : Nat} {x1 : Option Nat} {x2 : Int32} {x3 : Int32} {x4 : Option Nat} {x5 : Int32} {x6 : Int32} {H : Heap} {locs : List Loc} {ls : Array Slot}, z_HB G (z_co co) A s.heap T0 I0 Q0 T I Q H locs → cells + kc ≤ mc → slots + ks ≤ ms → lv_has ls 8 [(0, .ref o), (1, va_rf x1), (2, .int x2), (3, .int x3), (4, va_rf x4), (5, .int x5), (6, .int x6)] → k24 T I Q kc ks x1 x2 x3 x4 x5 x6 → W p l e R s m args below meth c H locs cells slots (z_MQ below G (z_co co) A T0 I0 Q0 (z_qi Qk) z_no args s mc ms) (F0 m 24 ls [])) {cells slots : Nat} {T : z_T} {I : z_I} {Q : z_Q} {kc : Nat} {ks : Nat} {x1 : Option Nat} {x2 : Int32} {x3 : Int32} {x4 : Option Nat} {x5 : Int32} {x6 : Int32} {H : Heap} {locs : List Loc} {ls : Array Slot} (hB : z_HB G (z_co co) A s.heap T0 I0 Q0 T I Q H locs) (hK1 : cells + kc ≤ mc) (hK2 : slots + ks ≤ ms) (hl : lv_has ls 8 [(0, .ref o), (1, va_rf x1), (2, .int x2), (3, .int x3), (4, va_rf x4), (5, .int x5), (6, .int x6)]) (h : wb_X4_requestZone_72 co o k24 Qk T I Q kc ks x1 x2 x3 x4 x5 x6) : W p l e R s m args below meth c H locs cells slots (z_MQ below G (z_co co) A T0 I0 Q0 (z_qi Qk) z_no args s mc ms) (F0 m 72 ls []) := by
  obtain ⟨hx, hb, -⟩ := id X
  unfold wb_X4_requestZone_72 at h
  obtain ⟨y38, ey38⟩ : ∃ z : Int32, z = x6 + 1 := ⟨_, rfl⟩
  replace h := h y38 ey38
  refine lv_iinc (v := y38) (lv' := [(6, .int y38), (0, .ref o), (1, va_rf x1), (2, .int x2), (3, .int x3), (4, va_rf x4), (5, .int x5)]) hx hb dX4_requestZone_72 hl (k := 6) rfl (by rw [ey38]; rfl) (by decide) rfl (fun ls hl9 => ?_)
  replace hl := hl9
  clear hl9
  refine lv_goto (tgt := 24) hx hb dX4_requestZone_75 (by decide) ?_
  exact hk24 hB hK1 hK2 (lv_sub hl [1, 2, 3, 4, 5, 6, 0] rfl) h
theorem ww_X4_requestZone_113 {co : Nat} {o : Nat} {Qk : Int32 → z_T → z_I → z_Q → Prop} (X : z_X l G A p R s m args meth c cX4_requestZone 8 RX4 "requestZone" (some .int) mc ms 18 339) (ho : (T0 o).1 = 4) {cells slots : Nat} {T : z_T} {I : z_I} {Q : z_Q} {kc : Nat} {ks : Nat} {s0 : Int32} {H : Heap} {locs : List Loc} {ls : Array Slot} (hB : z_HB G (z_co co) A s.heap T0 I0 Q0 T I Q H locs) (hK1 : cells + kc ≤ mc) (hK2 : slots + ks ≤ ms) (hl : lv_has ls 8 []) (h : wb_X4_requestZone_113 co o Qk T I Q kc ks s0) : W p l e R s m args below meth c H locs cells slots (z_MQ below G (z_co co) A T0 I0 Q0 (z_qi Qk) z_no args s mc ms) (F0 m 113 ls [.int s0]) := by
  obtain ⟨hx, hb, -⟩ := id X
  unfold wb_X4_requestZone_113 at h
  exact z_iret X hB ⟨_, rfl, h⟩ (z_k3 hK1) (z_k3 hK2) dX4_requestZone_113
theorem wv_X4_requestZone_24 {co : Nat} {o : Nat} {Qk : Int32 → z_T → z_I → z_Q → Prop} (X : z_X l G A p R s m args meth c cX4_requestZone 8 RX4 "requestZone" (some .int) mc ms 18 339) (ho : (T0 o).1 = 4) : ∀ (n : Nat) {cells slots : Nat} {T : z_T} {I : z_I} {Q : z_Q} {kc : Nat} {ks : Nat} {x1 : Option Nat} {x2 : Int32} {x3 : Int32} {x4 : Option Nat} {x5 : Int32} {x6 : Int32} {H : Heap} {locs : List Loc} {ls : Array Slot}, z_HB G (z_co co) A s.heap T0 I0 Q0 T I Q H locs → cells + kc ≤ mc → slots + ks ≤ ms → lv_has ls 8 [(0, .ref o), (1, va_rf x1), (2, .int x2), (3, .int x3), (4, va_rf x4), (5, .int x5), (6, .int x6)] → wl_X4_requestZone_24 co o Qk n T I Q kc ks x1 x2 x3 x4 x5 x6 → W p l e R s m args below meth c H locs cells slots (z_MQ below G (z_co co) A T0 I0 Q0 (z_qi Qk) z_no args s mc ms) (F0 m 24 ls []) := by
  intro n
  induction n with
  | zero =>
    intro cells slots T I Q kc ks x1 x2 x3 x4 x5 x6 H locs ls hB hK1 hK2 hl h
    exact h.elim
  | succ n ih =>
    intro cells slots T I Q kc ks x1 x2 x3 x4 x5 x6 H locs ls hB hK1 hK2 hl h
    obtain ⟨hx, hb, -⟩ := id X
    unfold wl_X4_requestZone_24 at h
    refine lv_iload hx hb dX4_requestZone_24 (lv_at hl 6 rfl) ?_
    refine lv_iload hx hb dX4_requestZone_26 (lv_at hl 5 rfl) ?_
    refine lv_icmp_ge (tgt := 78) hx hb dX4_requestZone_28 (by decide) (fun c8 => ?_) (fun c8 => ?_)
    · replace h := h.1 c8
      refine lv_aload_n (x := o) hx hb dX4_requestZone_78 rfl (lv_at hl 0 rfl) ?_
      refine z_getq X hB.1 kc_X4 in_X4 (j := 13) (Nat.le_of_ble_eq_true rfl) q1204 (fun _ h => h) rfl (by decide) (z_fo hB ho (by decide)) dX4_requestZone_79 ?_
      refine lv_aload_n (x := o) hx hb dX4_requestZone_82 rfl (lv_at hl 0 rfl) ?_
      refine z_geti X hB.1 kc_X4 in_X4 (j := 0) (Nat.le_of_ble_eq_true rfl) q1178 (fun _ h => h) rfl (by decide) (z_fo hB ho (by decide)) dX4_requestZone_83 ?_
      refine lv_iload_n hx hb dX4_requestZone_86 rfl (lv_at hl 3 rfl) ?_
      refine lv_iload_n hx hb dX4_requestZone_87 rfl (lv_at hl 2 rfl) ?_
      refine lv_iconst (v := 1) hx hb dX4_requestZone_88 (by decide) ?_
      refine lv_iadd hx hb dX4_requestZone_89 ?_
      refine z_aload_n (x := x1) hx hb dX4_requestZone_90 rfl (lv_at hl 1 rfl) ?_
      obtain ⟨a9, ea9, h⟩ := h
      refine z_stk (st' := [va_rf x1, .int (x2 + 1), .int x3, .int (I o 0), .ref a9]) (by rw [ea9] <;> rfl) ?_
      obtain ⟨hk_a9, h⟩ := h
      obtain ⟨kc11, ks12, g1, g2, h⟩ := h
      refine z_calli (z_runVN (rest := []) [.int (I o 0), .int x3, .int (x2 + 1), va_rf x1] pk_X2_stuck (met_X2_stuck co a9 (I o 0) x3 (x2 + 1) x1 kc11 ks12 _ h) X hB hB.2.2.2.2.2.2 q2842 kc_X2 (by decide) hk_a9 rfl hl.1 (Nat.le_of_ble_eq_true rfl) dX4_requestZone_91 (z_k1 hK1 g1) (z_k1 hK2 g2) (by decide) (by decide)) hB (fun _ h => h) (fun r10 T13 I14 Q15 H locs h9 hF hB => ?_)
      replace h := h9
      clear h9
      replace h := h hF
      replace hK1 := z_k2 hK1 g1
      replace hK2 := z_k2 hK2 g2
      refine lv_istore (lv' := [(4, .int r10), (0, .ref o), (1, va_rf x1), (2, .int x2), (3, .int x3), (5, .int x5), (6, .int x6)]) hx hb dX4_requestZone_94 hl (by decide) rfl (fun ls hl9 => ?_)
      replace hl := hl9
      clear hl9
      refine lv_iload hx hb dX4_requestZone_96 (lv_at hl 0 rfl) ?_
      refine lv_iconst (v := (-1)) hx hb dX4_requestZone_98 (by decide) ?_
      refine lv_icmp_ne (tgt := 106) hx hb dX4_requestZone_99 (by decide) (fun c16 => ?_) (fun c16 => ?_)
      · replace h := h.1 c16
        refine lv_aload_n (x := o) hx hb dX4_requestZone_106 rfl (lv_at hl 1 rfl) ?_
        refine lv_iconst (v := 4) hx hb dX4_requestZone_107 (by decide) ?_
        refine lv_iload hx hb dX4_requestZone_108 (lv_at hl 0 rfl) ?_
        refine z_calli (z_runV (rest := []) [.int 4, .int r10] pk_X4_refuse (met_X4_refuse co o 4 r10 _ h) X hB hB.2.2.2.2.2.2 q2832 kc_X4 (by decide) (z_fo hB ho (by decide)) rfl hl.1 (Nat.le_of_ble_eq_true rfl) dX4_requestZone_110 (z_k4 hK1) (z_k4 hK2) (by decide) (by decide)) hB (fun _ h => h) (fun r17 T18 I19 Q20 H locs h9 hF hB => ?_)
        replace h := h9
        clear h9
        replace h := h hF
        exact ww_X4_requestZone_113 X ho  hB hK1 hK2 (lv_sub hl [] rfl) h
      · replace h := h.2 c16
        refine lv_iconst (v := 0) hx hb dX4_requestZone_102 (by decide) ?_
        refine lv_goto (tgt := 113) hx hb dX4_requestZone_103 (by decide) ?_
        exact ww_X4_requestZone_113 X ho  hB hK1 hK2 (lv_sub hl [] rfl) h
    · replace h := h.2 c8
      refine z_aload (x := x4) hx hb dX4_requestZone_31 (lv_at hl 4 rfl) ?_
      refine lv_iload hx hb dX4_requestZone_33 (lv_at hl 6 rfl) ?_
      obtain ⟨a21, rfl, h⟩ := h
      obtain ⟨hk_a21, h⟩ := h
      obtain ⟨h1, h⟩ := h
      refine z_aald (k := 4) X hB.1 (by decide) hk_a21 h1 dX4_requestZone_35 ?_
      obtain ⟨y22, ey22⟩ : ∃ z : Option Nat, z = (Q a21 x6.toNatClampNeg) := ⟨_, rfl⟩
      replace h := h y22 ey22
      refine z_stk (st' := [va_rf y22]) (by rw [ey22]) ?_
      refine z_astore (x := y22) (lv' := [(7, va_rf y22), (0, .ref o), (1, va_rf x1), (2, .int x2), (3, .int x3), (4, .ref a21), (5, .int x5), (6, .int x6)]) hx hb dX4_requestZone_36 hl (by decide) rfl (fun ls hl9 => ?_)
      replace hl := hl9
      clear hl9
      refine z_aload (x := y22) hx hb dX4_requestZone_38 (lv_at hl 0 rfl) ?_
      refine lv_aload_n (x := o) hx hb dX4_requestZone_40 rfl (lv_at hl 1 rfl) ?_
      refine lv_acmp_eq (rx := y22) (ry := o) (tgt := 72) hx hb dX4_requestZone_41 (by decide) (fun c23 => ?_) (fun c23 => ?_)
      · replace h := h.1 c23
        exact ww_X4_requestZone_72 X ho (fun hB hK1 hK2 hl h => ih hB hK1 hK2 hl h) hB hK1 hK2 (lv_sub hl [1, 2, 3, 4, 5, 6, 7] rfl) h
      · replace h := h.2 c23
        refine z_aload (x := y22) hx hb dX4_requestZone_44 (lv_at hl 0 rfl) ?_
        obtain ⟨a24, rfl, h⟩ := h
        obtain ⟨hk_a24, h⟩ := h
        refine z_callip (z_runV (rest := []) [] pk_X4_held (met_X4_held a24 _ h) X hB (fun h => h) q2765 kc_X4 (by decide) hk_a24 rfl hl.1 (Nat.le_of_ble_eq_true rfl) dX4_requestZone_46 (z_k4 hK1) (z_k4 hK2) (by decide) (by decide)) hB (fun r25 H locs h9 hB => ?_)
        replace h := h9
        clear h9
        refine lv_aload_n (x := o) hx hb dX4_requestZone_49 rfl (lv_at hl 1 rfl) ?_
        refine z_getq X hB.1 kc_X4 in_X4 (j := 13) (Nat.le_of_ble_eq_true rfl) q1204 (fun _ h => h) rfl (by decide) (z_fo hB ho (by decide)) dX4_requestZone_50 ?_
        refine lv_iload_n hx hb dX4_requestZone_53 rfl (lv_at hl 4 rfl) ?_
        obtain ⟨a26, ea26, h⟩ := h
        refine z_stk (st' := [.int x3, .ref a26, .int r25]) (by rw [ea26] <;> rfl) ?_
        obtain ⟨hk_a26, h⟩ := h
        obtain ⟨kc28, ks29, g1, g2, h⟩ := h
        refine z_calli (z_runV (rest := [.int r25]) [.int x3] pk_X2_conflicts (met_X2_conflicts co a26 x3 kc28 ks29 _ h) X hB hB.2.2.2.2.2.2 q2841 kc_X2 (by decide) hk_a26 rfl hl.1 (Nat.le_of_ble_eq_true rfl) dX4_requestZone_54 (z_k1 hK1 g1) (z_k1 hK2 g2) (by decide) (by decide)) hB (fun _ h => h) (fun r27 T30 I31 Q32 H locs h9 hF hB => ?_)
        replace h := h9
        clear h9
        replace h := h hF
        have hk_a21 := z_tk hF hk_a21 (by decide)
        have hk_a24 := z_tk hF hk_a24 (by decide)
        replace hK1 := z_k2 hK1 g1
        replace hK2 := z_k2 hK2 g2
        refine lv_iand hx hb dX4_requestZone_57 ?_
        refine lv_if_eq (tgt := 72) hx hb dX4_requestZone_58 (by decide) (fun c33 => ?_) (fun c33 => ?_)
        · replace h := h.1 c33
          exact ww_X4_requestZone_72 X ho (fun hB hK1 hK2 hl h => ih hB hK1 hK2 hl h) hB hK1 hK2 (lv_sub hl [1, 2, 3, 4, 5, 6, 7] rfl) h
        · replace h := h.2 c33
          refine lv_aload_n (x := o) hx hb dX4_requestZone_61 rfl (lv_at hl 1 rfl) ?_
          refine lv_iconst (v := 3) hx hb dX4_requestZone_62 (by decide) ?_
          refine lv_aload (x := a24) hx hb dX4_requestZone_63 (lv_at hl 0 rfl) ?_
          refine z_geti X hB.1 kc_X4 in_X4 (j := 0) (Nat.le_of_ble_eq_true rfl) q1178 (fun _ h => h) rfl (by decide) hk_a24 dX4_requestZone_65 ?_
          refine z_calli (z_runV (rest := []) [.int 3, .int (I31 a24 0)] pk_X4_refuse (met_X4_refuse co o 3 (I31 a24 0) _ h) X hB hB.2.2.2.2.2.2 q2832 kc_X4 (by decide) (z_fo hB ho (by decide)) rfl hl.1 (Nat.le_of_ble_eq_true rfl) dX4_requestZone_68 (z_k4 hK1) (z_k4 hK2) (by decide) (by decide)) hB (fun _ h => h) (fun r34 T35 I36 Q37 H locs h9 hF hB => ?_)
          replace h := h9
          clear h9
          replace h := h hF
          have hk_a21 := z_tk hF hk_a21 (by decide)
          have hk_a24 := z_tk hF hk_a24 (by decide)
          exact z_iret X hB ⟨_, rfl, h⟩ (z_k3 hK1) (z_k3 hK2) dX4_requestZone_71
theorem ww_X4_requestZone_0 {co : Nat} {o : Nat} {Qk : Int32 → z_T → z_I → z_Q → Prop} (X : z_X l G A p R s m args meth c cX4_requestZone 8 RX4 "requestZone" (some .int) mc ms 18 339) (ho : (T0 o).1 = 4) {cells slots : Nat} {T : z_T} {I : z_I} {Q : z_Q} {kc : Nat} {ks : Nat} {x1 : Option Nat} {x2 : Int32} {H : Heap} {locs : List Loc} {ls : Array Slot} (hB : z_HB G (z_co co) A s.heap T0 I0 Q0 T I Q H locs) (hK1 : cells + kc ≤ mc) (hK2 : slots + ks ≤ ms) (hl : lv_has ls 8 [(0, .ref o), (1, va_rf x1), (2, .int x2)]) (h : wb_X4_requestZone_0 co o Qk T I Q kc ks x1 x2) : W p l e R s m args below meth c H locs cells slots (z_MQ below G (z_co co) A T0 I0 Q0 (z_qi Qk) z_no args s mc ms) (F0 m 0 ls []) := by
  obtain ⟨hx, hb, -⟩ := id X
  unfold wb_X4_requestZone_0 at h
  refine z_aload_n (x := x1) hx hb dX4_requestZone_0 rfl (lv_at hl 1 rfl) ?_
  obtain ⟨a1, rfl, h⟩ := h
  obtain ⟨hk_a1, h⟩ := h
  refine z_getqN X hB.1 kc_X8 in_X8 (j := 2) (Nat.le_of_ble_eq_true rfl) q2648 (fun _ h => h) rfl (by decide) hk_a1 dX4_requestZone_1 ?_
  refine lv_iload_n hx hb dX4_requestZone_4 rfl (lv_at hl 2 rfl) ?_
  obtain ⟨a2, ea2, h⟩ := h
  refine z_stk (st' := [.int x2, .ref a2]) (by rw [ea2] <;> rfl) ?_
  obtain ⟨hk_a2, h⟩ := h
  obtain ⟨h1, h⟩ := h
  refine z_iald X hB.1 hk_a2 h1 dX4_requestZone_5 ?_
  refine lv_topi (fun y3 ey3 => ?_)
  replace h := h y3 ey3
  refine lv_istore_n (lv' := [(3, .int y3), (0, .ref o), (1, .ref a1), (2, .int x2)]) hx hb dX4_requestZone_6 rfl hl (by decide) rfl (fun ls hl9 => ?_)
  replace hl := hl9
  clear hl9
  refine lv_aload_n (x := o) hx hb dX4_requestZone_7 rfl (lv_at hl 1 rfl) ?_
  refine z_getq X hB.1 kc_X4 in_X4 (j := 13) (Nat.le_of_ble_eq_true rfl) q1204 (fun _ h => h) rfl (by decide) (z_fo hB ho (by decide)) dX4_requestZone_8 ?_
  obtain ⟨a4, ea4, h⟩ := h
  refine z_stk (st' := [.ref a4]) (by rw [ea4] <;> rfl) ?_
  obtain ⟨hk_a4, h⟩ := h
  refine z_getqN X hB.1 kc_X2 in_X2 (j := 2) (Nat.le_of_ble_eq_true rfl) q1244 (fun _ h => h) rfl (by decide) hk_a4 dX4_requestZone_11 ?_
  obtain ⟨y5, ey5⟩ : ∃ z : Option Nat, z = (Q a4 2) := ⟨_, rfl⟩
  replace h := h y5 ey5
  refine z_stk (st' := [va_rf y5]) (by rw [ey5]) ?_
  refine z_astore (x := y5) (lv' := [(4, va_rf y5), (3, .int y3), (0, .ref o), (1, .ref a1), (2, .int x2)]) hx hb dX4_requestZone_14 hl (by decide) rfl (fun ls hl9 => ?_)
  replace hl := hl9
  clear hl9
  refine z_aload (x := y5) hx hb dX4_requestZone_16 (lv_at hl 0 rfl) ?_
  obtain ⟨a6, rfl, h⟩ := h
  obtain ⟨hk_a6, h⟩ := h
  refine z_alen (k := 4) X hB.1 (by decide) hk_a6 dX4_requestZone_18 ?_
  refine lv_topi (fun y7 ey7 => ?_)
  replace h := h y7 ey7
  refine lv_istore (lv' := [(5, .int y7), (4, .ref a6), (3, .int y3), (0, .ref o), (1, .ref a1), (2, .int x2)]) hx hb dX4_requestZone_19 hl (by decide) rfl (fun ls hl9 => ?_)
  replace hl := hl9
  clear hl9
  refine lv_iconst (v := 0) hx hb dX4_requestZone_21 (by decide) ?_
  refine lv_istore (lv' := [(6, .int 0), (5, .int y7), (4, .ref a6), (3, .int y3), (0, .ref o), (1, .ref a1), (2, .int x2)]) hx hb dX4_requestZone_22 hl (by decide) rfl (fun ls hl9 => ?_)
  replace hl := hl9
  clear hl9
  obtain ⟨w, h⟩ := h
  exact wv_X4_requestZone_24 X ho  w hB hK1 hK2 (lv_sub hl [4, 5, 6, 3, 2, 1, 0] rfl) h
theorem pk_X4_requestZone : z_PV RX4 yX4_requestZone cX4_requestZone 8 (some .int) 2 := ⟨q2839, qs28, q130, q2840, by decide +kernel⟩
theorem met_X4_requestZone {l : Launch} {G : z_E} {T : z_T} {I : z_I} {Q : z_Q} (co : Nat) (o : Nat) (x1 : Option Nat) (x2 : Int32) (kc : Nat) (ks : Nat) (Qk : Int32 → z_T → z_I → z_Q → Prop) (h : wp_X4_requestZone co T I Q o x1 x2 kc ks Qk) : z_GM l G yX4_requestZone (ws_ yX4_requestZone cX4_requestZone 8 (some .int)) 18 339 kc ks [.ref o, va_rf x1, .int x2] (z_co co) T I Q (z_qi Qk) z_no := by
  obtain ⟨ho, h⟩ := h
  refine z_body (own := RX4) (nm := "requestZone") (by decide +kernel) rfl rfl (by cases x1 <;> exact Nat.le_of_ble_eq_true rfl) (fun p e R s m below meth c A ls X hB hl => ?_)
  replace hl : lv_has ls 8 [(0, .ref o), (1, va_rf x1), (2, .int x2)] := by cases x1 <;> exact hl
  exact ww_X4_requestZone_0 X ho hB z_k0 z_k0 hl h
/-! X4_requestStart -/
theorem ww_X4_requestStart_72 {co : Nat} {o : Nat} {Qk : Int32 → z_T → z_I → z_Q → Prop} (X : z_X l G A p R s m args meth c cX4_requestStart 2 RX4 "requestStart" (some .int) mc ms 19 366) (ho : (T0 o).1 = 4) {cells slots : Nat} {T : z_T} {I : z_I} {Q : z_Q} {kc : Nat} {ks : Nat} {x1 : Option Nat} {H : Heap} {locs : List Loc} {ls : Array Slot} (hB : z_HB G (z_co co) A s.heap T0 I0 Q0 T I Q H locs) (hK1 : cells + kc ≤ mc) (hK2 : slots + ks ≤ ms) (hl : lv_has ls 2 [(0, .ref o), (1, va_rf x1)]) (h : wb_X4_requestStart_72 co o Qk T I Q kc ks x1) : W p l e R s m args below meth c H locs cells slots (z_MQ below G (z_co co) A T0 I0 Q0 (z_qi Qk) z_no args s mc ms) (F0 m 72 ls []) := by
  obtain ⟨hx, hb, -⟩ := id X
  unfold wb_X4_requestStart_72 at h
  refine lv_aload_n (x := o) hx hb dX4_requestStart_72 rfl (lv_at hl 0 rfl) ?_
  refine z_aload_n (x := x1) hx hb dX4_requestStart_73 rfl (lv_at hl 1 rfl) ?_
  refine lv_iconst (v := 0) hx hb dX4_requestStart_74 (by decide) ?_
  obtain ⟨kc24, ks25, g1, g2, h⟩ := h
  refine z_calli (z_runV (rest := []) [va_rf x1, .int 0] pk_X4_requestZone (met_X4_requestZone co o x1 0 kc24 ks25 _ h) X hB hB.2.2.2.2.2.2 q2837 kc_X4 (by decide) (z_fo hB ho (by decide)) rfl hl.1 (Nat.le_of_ble_eq_true rfl) dX4_requestStart_75 (z_k1 hK1 g1) (z_k1 hK2 g2) (by decide) (by decide)) hB (fun _ h => h) (fun r23 T26 I27 Q28 H locs h9 hF hB => ?_)
  replace h := h9
  clear h9
  replace h := h hF
  replace hK1 := z_k2 hK1 g1
  replace hK2 := z_k2 hK2 g2
  exact z_iret X hB ⟨_, rfl, h⟩ (z_k3 hK1) (z_k3 hK2) dX4_requestStart_78
theorem ww_X4_requestStart_36 {co : Nat} {o : Nat} {Qk : Int32 → z_T → z_I → z_Q → Prop} (X : z_X l G A p R s m args meth c cX4_requestStart 2 RX4 "requestStart" (some .int) mc ms 19 366) (ho : (T0 o).1 = 4) {cells slots : Nat} {T : z_T} {I : z_I} {Q : z_Q} {kc : Nat} {ks : Nat} {x1 : Option Nat} {H : Heap} {locs : List Loc} {ls : Array Slot} (hB : z_HB G (z_co co) A s.heap T0 I0 Q0 T I Q H locs) (hK1 : cells + kc ≤ mc) (hK2 : slots + ks ≤ ms) (hl : lv_has ls 2 [(0, .ref o), (1, va_rf x1)]) (h : wb_X4_requestStart_36 co o Qk T I Q kc ks x1) : W p l e R s m args below meth c H locs cells slots (z_MQ below G (z_co co) A T0 I0 Q0 (z_qi Qk) z_no args s mc ms) (F0 m 36 ls []) := by
  obtain ⟨hx, hb, -⟩ := id X
  unfold wb_X4_requestStart_36 at h
  refine z_aload_n (x := x1) hx hb dX4_requestStart_36 rfl (lv_at hl 1 rfl) ?_
  obtain ⟨a12, rfl, h⟩ := h
  obtain ⟨hk_a12, h⟩ := h
  refine z_getiN X hB.1 kc_X8 in_X8 (j := 6) (Nat.le_of_ble_eq_true rfl) q2661 (fun _ h => h) rfl (by decide) hk_a12 dX4_requestStart_37 ?_
  refine lv_iconst (v := (-1)) hx hb dX4_requestStart_40 (by decide) ?_
  refine lv_icmp_eq (tgt := 72) hx hb dX4_requestStart_41 (by decide) (fun c13 => ?_) (fun c13 => ?_)
  · replace h := h.1 c13
    exact ww_X4_requestStart_72 X ho  hB hK1 hK2 (lv_sub hl [0, 1] rfl) h
  · replace h := h.2 c13
    refine lv_aload_n (x := o) hx hb dX4_requestStart_44 rfl (lv_at hl 0 rfl) ?_
    refine z_getq X hB.1 kc_X4 in_X4 (j := 13) (Nat.le_of_ble_eq_true rfl) q1204 (fun _ h => h) rfl (by decide) (z_fo hB ho (by decide)) dX4_requestStart_45 ?_
    obtain ⟨a14, ea14, h⟩ := h
    refine z_stk (st' := [.ref a14]) (by rw [ea14] <;> rfl) ?_
    obtain ⟨hk_a14, h⟩ := h
    refine z_getqN X hB.1 kc_X2 in_X2 (j := 1) (Nat.le_of_ble_eq_true rfl) q1238 (fun _ h => h) rfl (by decide) hk_a14 dX4_requestStart_48 ?_
    refine lv_aload_n (x := a12) hx hb dX4_requestStart_51 rfl (lv_at hl 1 rfl) ?_
    refine z_getiN X hB.1 kc_X8 in_X8 (j := 6) (Nat.le_of_ble_eq_true rfl) q2661 (fun _ h => h) rfl (by decide) hk_a12 dX4_requestStart_52 ?_
    obtain ⟨a15, ea15, h⟩ := h
    refine z_stk (st' := [.int (I a12 6), .ref a15]) (by rw [ea15] <;> rfl) ?_
    obtain ⟨hk_a15, h⟩ := h
    obtain ⟨h1, h⟩ := h
    refine z_aald (k := 3) X hB.1 (by decide) hk_a15 h1 dX4_requestStart_55 ?_
    obtain ⟨a16, ea16, h⟩ := h
    refine z_stk (st' := [.ref a16]) (by rw [ea16] <;> rfl) ?_
    obtain ⟨hk_a16, h⟩ := h
    refine z_callzp (z_runV (rest := []) [] pk_X3_hasRoom (met_X3_hasRoom a16 _ h) X hB (fun h => h) q2836 kc_X3 (by decide) hk_a16 rfl hl.1 (Nat.le_of_ble_eq_true rfl) dX4_requestStart_56 (z_k4 hK1) (z_k4 hK2) (by decide) (by decide)) hB (fun r17 H locs hz h9 hB => ?_)
    replace h := h9
    clear h9
    replace h := h hz
    refine lv_if_ne (tgt := 72) hx hb dX4_requestStart_59 (by decide) (fun c18 => ?_) (fun c18 => ?_)
    · replace h := h.1 c18
      exact ww_X4_requestStart_72 X ho  hB hK1 hK2 (lv_sub hl [0, 1] rfl) h
    · replace h := h.2 c18
      refine lv_aload_n (x := o) hx hb dX4_requestStart_62 rfl (lv_at hl 0 rfl) ?_
      refine lv_iconst (v := 2) hx hb dX4_requestStart_63 (by decide) ?_
      refine lv_aload_n (x := a12) hx hb dX4_requestStart_64 rfl (lv_at hl 1 rfl) ?_
      refine z_getiN X hB.1 kc_X8 in_X8 (j := 6) (Nat.le_of_ble_eq_true rfl) q2661 (fun _ h => h) rfl (by decide) hk_a12 dX4_requestStart_65 ?_
      refine z_calli (z_runV (rest := []) [.int 2, .int (I a12 6)] pk_X4_refuse (met_X4_refuse co o 2 (I a12 6) _ h) X hB hB.2.2.2.2.2.2 q2832 kc_X4 (by decide) (z_fo hB ho (by decide)) rfl hl.1 (Nat.le_of_ble_eq_true rfl) dX4_requestStart_68 (z_k4 hK1) (z_k4 hK2) (by decide) (by decide)) hB (fun _ h => h) (fun r19 T20 I21 Q22 H locs h9 hF hB => ?_)
      replace h := h9
      clear h9
      replace h := h hF
      have hk_a12 := z_tk hF hk_a12 (by decide)
      exact z_iret X hB ⟨_, rfl, h⟩ (z_k3 hK1) (z_k3 hK2) dX4_requestStart_71
theorem ww_X4_requestStart_0 {co : Nat} {o : Nat} {Qk : Int32 → z_T → z_I → z_Q → Prop} (X : z_X l G A p R s m args meth c cX4_requestStart 2 RX4 "requestStart" (some .int) mc ms 19 366) (ho : (T0 o).1 = 4) {cells slots : Nat} {T : z_T} {I : z_I} {Q : z_Q} {kc : Nat} {ks : Nat} {x1 : Option Nat} {H : Heap} {locs : List Loc} {ls : Array Slot} (hB : z_HB G (z_co co) A s.heap T0 I0 Q0 T I Q H locs) (hK1 : cells + kc ≤ mc) (hK2 : slots + ks ≤ ms) (hl : lv_has ls 2 [(0, .ref o), (1, va_rf x1)]) (h : wb_X4_requestStart_0 co o Qk T I Q kc ks x1) : W p l e R s m args below meth c H locs cells slots (z_MQ below G (z_co co) A T0 I0 Q0 (z_qi Qk) z_no args s mc ms) (F0 m 0 ls []) := by
  obtain ⟨hx, hb, -⟩ := id X
  unfold wb_X4_requestStart_0 at h
  refine z_aload_n (x := x1) hx hb dX4_requestStart_0 rfl (lv_at hl 1 rfl) ?_
  obtain ⟨a1, rfl, h⟩ := h
  obtain ⟨hk_a1, h⟩ := h
  refine z_getiN X hB.1 kc_X8 in_X8 (j := 5) (Nat.le_of_ble_eq_true rfl) q2658 (fun _ h => h) rfl (by decide) hk_a1 dX4_requestStart_1 ?_
  refine lv_iconst (v := (-1)) hx hb dX4_requestStart_4 (by decide) ?_
  refine lv_icmp_eq (tgt := 36) hx hb dX4_requestStart_5 (by decide) (fun c2 => ?_) (fun c2 => ?_)
  · replace h := h.1 c2
    exact ww_X4_requestStart_36 X ho  hB hK1 hK2 (lv_sub hl [0, 1] rfl) h
  · replace h := h.2 c2
    refine lv_aload_n (x := o) hx hb dX4_requestStart_8 rfl (lv_at hl 0 rfl) ?_
    refine z_getq X hB.1 kc_X4 in_X4 (j := 13) (Nat.le_of_ble_eq_true rfl) q1204 (fun _ h => h) rfl (by decide) (z_fo hB ho (by decide)) dX4_requestStart_9 ?_
    obtain ⟨a3, ea3, h⟩ := h
    refine z_stk (st' := [.ref a3]) (by rw [ea3] <;> rfl) ?_
    obtain ⟨hk_a3, h⟩ := h
    refine z_getqN X hB.1 kc_X2 in_X2 (j := 1) (Nat.le_of_ble_eq_true rfl) q1238 (fun _ h => h) rfl (by decide) hk_a3 dX4_requestStart_12 ?_
    refine lv_aload_n (x := a1) hx hb dX4_requestStart_15 rfl (lv_at hl 1 rfl) ?_
    refine z_getiN X hB.1 kc_X8 in_X8 (j := 5) (Nat.le_of_ble_eq_true rfl) q2658 (fun _ h => h) rfl (by decide) hk_a1 dX4_requestStart_16 ?_
    obtain ⟨a4, ea4, h⟩ := h
    refine z_stk (st' := [.int (I a1 5), .ref a4]) (by rw [ea4] <;> rfl) ?_
    obtain ⟨hk_a4, h⟩ := h
    obtain ⟨h1, h⟩ := h
    refine z_aald (k := 3) X hB.1 (by decide) hk_a4 h1 dX4_requestStart_19 ?_
    obtain ⟨a5, ea5, h⟩ := h
    refine z_stk (st' := [.ref a5]) (by rw [ea5] <;> rfl) ?_
    obtain ⟨hk_a5, h⟩ := h
    refine z_callzp (z_runV (rest := []) [] pk_X3_hasPart (met_X3_hasPart a5 _ h) X hB (fun h => h) q2828 kc_X3 (by decide) hk_a5 rfl hl.1 (Nat.le_of_ble_eq_true rfl) dX4_requestStart_20 (z_k4 hK1) (z_k4 hK2) (by decide) (by decide)) hB (fun r6 H locs hz h9 hB => ?_)
    replace h := h9
    clear h9
    replace h := h hz
    refine lv_if_ne (tgt := 36) hx hb dX4_requestStart_23 (by decide) (fun c7 => ?_) (fun c7 => ?_)
    · replace h := h.1 c7
      exact ww_X4_requestStart_36 X ho  hB hK1 hK2 (lv_sub hl [0, 1] rfl) h
    · replace h := h.2 c7
      refine lv_aload_n (x := o) hx hb dX4_requestStart_26 rfl (lv_at hl 0 rfl) ?_
      refine lv_iconst (v := 1) hx hb dX4_requestStart_27 (by decide) ?_
      refine lv_aload_n (x := a1) hx hb dX4_requestStart_28 rfl (lv_at hl 1 rfl) ?_
      refine z_getiN X hB.1 kc_X8 in_X8 (j := 5) (Nat.le_of_ble_eq_true rfl) q2658 (fun _ h => h) rfl (by decide) hk_a1 dX4_requestStart_29 ?_
      refine z_calli (z_runV (rest := []) [.int 1, .int (I a1 5)] pk_X4_refuse (met_X4_refuse co o 1 (I a1 5) _ h) X hB hB.2.2.2.2.2.2 q2832 kc_X4 (by decide) (z_fo hB ho (by decide)) rfl hl.1 (Nat.le_of_ble_eq_true rfl) dX4_requestStart_32 (z_k4 hK1) (z_k4 hK2) (by decide) (by decide)) hB (fun _ h => h) (fun r8 T9 I10 Q11 H locs h9 hF hB => ?_)
      replace h := h9
      clear h9
      replace h := h hF
      have hk_a1 := z_tk hF hk_a1 (by decide)
      exact z_iret X hB ⟨_, rfl, h⟩ (z_k3 hK1) (z_k3 hK2) dX4_requestStart_35
theorem pk_X4_requestStart : z_PV RX4 yX4_requestStart cX4_requestStart 2 (some .int) 1 := ⟨q2826, qs26, q130, q2827, by decide +kernel⟩
theorem met_X4_requestStart {l : Launch} {G : z_E} {T : z_T} {I : z_I} {Q : z_Q} (co : Nat) (o : Nat) (x1 : Option Nat) (kc : Nat) (ks : Nat) (Qk : Int32 → z_T → z_I → z_Q → Prop) (h : wp_X4_requestStart co T I Q o x1 kc ks Qk) : z_GM l G yX4_requestStart (ws_ yX4_requestStart cX4_requestStart 2 (some .int)) 19 366 kc ks [.ref o, va_rf x1] (z_co co) T I Q (z_qi Qk) z_no := by
  obtain ⟨ho, h⟩ := h
  refine z_body (own := RX4) (nm := "requestStart") (by decide +kernel) rfl rfl (by cases x1 <;> exact Nat.le_of_ble_eq_true rfl) (fun p e R s m below meth c A ls X hB hl => ?_)
  replace hl : lv_has ls 2 [(0, .ref o), (1, va_rf x1)] := by cases x1 <;> exact hl
  exact ww_X4_requestStart_0 X ho hB z_k0 z_k0 hl h
/-! X4_request -/
theorem ww_X4_request_41 {co : Nat} {o : Nat} {Qk : Int32 → z_T → z_I → z_Q → Prop} (X : z_X l G A p R s m args meth c cX4_request 1 RX4 "request" (some .int) mc ms 20 387) (ho : (T0 o).1 = 4) {cells slots : Nat} {T : z_T} {I : z_I} {Q : z_Q} {kc : Nat} {ks : Nat} {s0 : Int32} {H : Heap} {locs : List Loc} {ls : Array Slot} (hB : z_HB G (z_co co) A s.heap T0 I0 Q0 T I Q H locs) (hK1 : cells + kc ≤ mc) (hK2 : slots + ks ≤ ms) (hl : lv_has ls 1 []) (h : wb_X4_request_41 co o Qk T I Q kc ks s0) : W p l e R s m args below meth c H locs cells slots (z_MQ below G (z_co co) A T0 I0 Q0 (z_qi Qk) z_no args s mc ms) (F0 m 41 ls [.int s0]) := by
  obtain ⟨hx, hb, -⟩ := id X
  unfold wb_X4_request_41 at h
  exact z_iret X hB ⟨_, rfl, h⟩ (z_k3 hK1) (z_k3 hK2) dX4_request_41
theorem ww_X4_request_0 {co : Nat} {o : Nat} {Qk : Int32 → z_T → z_I → z_Q → Prop} (X : z_X l G A p R s m args meth c cX4_request 1 RX4 "request" (some .int) mc ms 20 387) (ho : (T0 o).1 = 4) {cells slots : Nat} {T : z_T} {I : z_I} {Q : z_Q} {kc : Nat} {ks : Nat} {H : Heap} {locs : List Loc} {ls : Array Slot} (hB : z_HB G (z_co co) A s.heap T0 I0 Q0 T I Q H locs) (hK1 : cells + kc ≤ mc) (hK2 : slots + ks ≤ ms) (hl : lv_has ls 1 [(0, .ref o)]) (h : wb_X4_request_0 co o Qk T I Q kc ks) : W p l e R s m args below meth c H locs cells slots (z_MQ below G (z_co co) A T0 I0 Q0 (z_qi Qk) z_no args s mc ms) (F0 m 0 ls []) := by
  obtain ⟨hx, hb, -⟩ := id X
  unfold wb_X4_request_0 at h
  refine lv_aload_n (x := o) hx hb dX4_request_0 rfl (lv_at hl 0 rfl) ?_
  refine z_geti X hB.1 kc_X4 in_X4 (j := 4) (Nat.le_of_ble_eq_true rfl) q1187 (fun _ h => h) rfl (by decide) (z_fo hB ho (by decide)) dX4_request_1 ?_
  refine lv_if_ne (tgt := 27) hx hb dX4_request_4 (by decide) (fun c1 => ?_) (fun c1 => ?_)
  · replace h := h.1 c1
    refine lv_aload_n (x := o) hx hb dX4_request_27 rfl (lv_at hl 0 rfl) ?_
    refine lv_aload_n (x := o) hx hb dX4_request_28 rfl (lv_at hl 0 rfl) ?_
    refine z_callrp (z_runV (rest := [.ref o]) [] pk_X4_order (met_X4_order o _ h) X hB (fun h => h) q1336 kc_X4 (by decide) (z_fo hB ho (by decide)) rfl hl.1 (Nat.le_of_ble_eq_true rfl) dX4_request_29 (z_k4 hK1) (z_k4 hK2) (by decide) (by decide)) hB (fun r2 H locs h9 hB => ?_)
    replace h := h9
    clear h9
    refine lv_aload_n (x := o) hx hb dX4_request_32 rfl (lv_at hl 0 rfl) ?_
    refine z_callip (z_runV (rest := [va_rf r2, .ref o]) [] pk_X4_reached (met_X4_reached o _ h) X hB (fun h => h) q2843 kc_X4 (by decide) (z_fo hB ho (by decide)) rfl hl.1 (by simp [z_cat, z_cati, z_catl, z_catf, z_catd, z_catq]) dX4_request_33 (z_k4 hK1) (z_k4 hK2) (by decide) (by decide)) hB (fun r3 H locs h9 hB => ?_)
    replace h := h9
    clear h9
    refine lv_iconst (v := 1) hx hb dX4_request_36 (by decide) ?_
    refine lv_iadd hx hb dX4_request_37 ?_
    obtain ⟨kc5, ks6, g1, g2, h⟩ := h
    refine z_calli (z_runV (rest := []) [va_rf r2, .int (r3 + 1)] pk_X4_requestZone (met_X4_requestZone co o r2 (r3 + 1) kc5 ks6 _ h) X hB hB.2.2.2.2.2.2 q2837 kc_X4 (by decide) (z_fo hB ho (by decide)) rfl hl.1 (Nat.le_of_ble_eq_true rfl) dX4_request_38 (z_k1 hK1 g1) (z_k1 hK2 g2) (by decide) (by decide)) hB (fun _ h => h) (fun r4 T7 I8 Q9 H locs h9 hF hB => ?_)
    replace h := h9
    clear h9
    replace h := h hF
    replace hK1 := z_k2 hK1 g1
    replace hK2 := z_k2 hK2 g2
    exact ww_X4_request_41 X ho  hB hK1 hK2 (lv_sub hl [] rfl) h
  · replace h := h.2 c1
    refine lv_aload_n (x := o) hx hb dX4_request_7 rfl (lv_at hl 0 rfl) ?_
    refine lv_aload_n (x := o) hx hb dX4_request_8 rfl (lv_at hl 0 rfl) ?_
    refine z_getq X hB.1 kc_X4 in_X4 (j := 2) (Nat.le_of_ble_eq_true rfl) q1182 (fun _ h => h) rfl (by decide) (z_fo hB ho (by decide)) dX4_request_9 ?_
    obtain ⟨a10, ea10, h⟩ := h
    refine z_stk (st' := [.ref a10, .ref o]) (by rw [ea10] <;> rfl) ?_
    obtain ⟨hk_a10, h⟩ := h
    refine z_callrp (z_runV (rest := [.ref o]) [] pk_J31_getFirst (met_J31_getFirst a10 _ h) X hB (fun h => h) q2820 kc_J31 (by decide) hk_a10 rfl hl.1 (Nat.le_of_ble_eq_true rfl) dX4_request_12 (z_k4 hK1) (z_k4 hK2) (by decide) (by decide)) hB (fun r11 H locs h9 hB => ?_)
    replace h := h9
    clear h9
    obtain ⟨h2, h⟩ := h
    refine z_castR X hB.1 kc_X6 (by decide) h2 q2338 (Or.inl rfl) dX4_request_15 ?_
    obtain ⟨a12, rfl, h⟩ := h
    obtain ⟨hk_a12, h⟩ := h
    refine z_getqN X hB.1 kc_X6 in_X6 (j := 1) (Nat.le_of_ble_eq_true rfl) q2290 (fun _ h => h) rfl (by decide) hk_a12 dX4_request_18 ?_
    obtain ⟨kc14, ks15, g1, g2, h⟩ := h
    refine z_calli (z_runV (rest := []) [va_rf (Q a12 1)] pk_X4_requestStart (met_X4_requestStart co o (Q a12 1) kc14 ks15 _ h) X hB hB.2.2.2.2.2.2 q2824 kc_X4 (by decide) (z_fo hB ho (by decide)) rfl hl.1 (Nat.le_of_ble_eq_true rfl) dX4_request_21 (z_k1 hK1 g1) (z_k1 hK2 g2) (by decide) (by decide)) hB (fun _ h => h) (fun r13 T16 I17 Q18 H locs h9 hF hB => ?_)
    replace h := h9
    clear h9
    replace h := h hF
    replace hK1 := z_k2 hK1 g1
    replace hK2 := z_k2 hK2 g2
    refine lv_goto (tgt := 41) hx hb dX4_request_24 (by decide) ?_
    exact ww_X4_request_41 X ho  hB hK1 hK2 (lv_sub hl [] rfl) h
theorem pk_X4_request : z_PV RX4 yX4_request cX4_request 1 (some .int) 0 := ⟨q2817, q2818, q130, q2819, by decide +kernel⟩
theorem met_X4_request {l : Launch} {G : z_E} {T : z_T} {I : z_I} {Q : z_Q} (co : Nat) (o : Nat) (kc : Nat) (ks : Nat) (Qk : Int32 → z_T → z_I → z_Q → Prop) (h : wp_X4_request co T I Q o kc ks Qk) : z_GM l G yX4_request (ws_ yX4_request cX4_request 1 (some .int)) 20 387 kc ks [.ref o] (z_co co) T I Q (z_qi Qk) z_no := by
  obtain ⟨ho, h⟩ := h
  refine z_body (own := RX4) (nm := "request") (by decide +kernel) rfl rfl (Nat.le_of_ble_eq_true rfl) (fun p e R s m below meth c A ls X hB hl => ?_)
  exact ww_X4_request_0 X ho hB z_k0 z_k0 hl h
/-! X4_isGranted -/
theorem ww_X4_isGranted_40 {co : Nat} {o : Nat} {Qk : Int32 → z_T → z_I → z_Q → Prop} (X : z_X l G A p R s m args meth c cX4_isGranted 2 RX4 "isGranted" (some .boolean) mc ms 21 407) (ho : (T0 o).1 = 4) (hoc : (T0 o).2.2 = co) {cells slots : Nat} {T : z_T} {I : z_I} {Q : z_Q} {kc : Nat} {ks : Nat} {x1 : Int32} {s1 : Int32} {s2 : Int32} {H : Heap} {locs : List Loc} {ls : Array Slot} (hB : z_HB G (z_co co) A s.heap T0 I0 Q0 T I Q H locs) (hK1 : cells + kc ≤ mc) (hK2 : slots + ks ≤ ms) (hl : lv_has ls 2 [(1, .int x1)]) (h : wb_X4_isGranted_40 co o Qk T I Q kc ks x1 s1 s2) : W p l e R s m args below meth c H locs cells slots (z_MQ below G (z_co co) A T0 I0 Q0 (z_qz Qk) z_no args s mc ms) (F0 m 40 ls [.int s2, .int s1, .ref o]) := by
  obtain ⟨hx, hb, -⟩ := id X
  unfold wb_X4_isGranted_40 at h
  refine lv_iadd hx hb dX4_isGranted_40 ?_
  obtain ⟨I11, eI11⟩ : ∃ z, z = z_up I o 10 (s1 + s2) := ⟨_, rfl⟩
  replace h := h I11 eI11
  refine z_puti (x := (s1 + s2)) eI11 tyX4 X hB kc_X4 in_X4 tyX4_ok nmX4 (j := 10) (Nat.le_of_ble_eq_true rfl) q1199 (fun _ h => h) rfl rfl (by decide) (z_fo hB ho (by decide)) (z_foc hB ho (by decide) hoc) rfl (Or.inl rfl) dX4_isGranted_41 (fun H locs hB => ?_)
  refine lv_iload_n hx hb dX4_isGranted_44 rfl (lv_at hl 0 rfl) ?_
  obtain ⟨hz, h⟩ := h
  exact z_zret X hB hz ⟨_, rfl, hz, h⟩ (z_k3 hK1) (z_k3 hK2) dX4_isGranted_45
theorem ww_X4_isGranted_23 {co : Nat} {o : Nat} {Qk : Int32 → z_T → z_I → z_Q → Prop} (X : z_X l G A p R s m args meth c cX4_isGranted 2 RX4 "isGranted" (some .boolean) mc ms 21 407) (ho : (T0 o).1 = 4) (hoc : (T0 o).2.2 = co) {cells slots : Nat} {T : z_T} {I : z_I} {Q : z_Q} {kc : Nat} {ks : Nat} {x1 : Int32} {s1 : Int32} {H : Heap} {locs : List Loc} {ls : Array Slot} (hB : z_HB G (z_co co) A s.heap T0 I0 Q0 T I Q H locs) (hK1 : cells + kc ≤ mc) (hK2 : slots + ks ≤ ms) (hl : lv_has ls 2 [(0, .ref o), (1, .int x1)]) (h : wb_X4_isGranted_23 co o Qk T I Q kc ks x1 s1) : W p l e R s m args below meth c H locs cells slots (z_MQ below G (z_co co) A T0 I0 Q0 (z_qz Qk) z_no args s mc ms) (F0 m 23 ls [.int s1, .ref o]) := by
  obtain ⟨hx, hb, -⟩ := id X
  unfold wb_X4_isGranted_23 at h
  obtain ⟨hz, h⟩ := h
  obtain ⟨I9, eI9⟩ : ∃ z, z = z_up I o 12 s1 := ⟨_, rfl⟩
  replace h := h I9 eI9
  refine z_puti (x := s1) eI9 tyX4 X hB kc_X4 in_X4 tyX4_ok nmX4 (j := 12) (Nat.le_of_ble_eq_true rfl) q1203 (fun _ h => h) rfl rfl (by decide) (z_fo hB ho (by decide)) (z_foc hB ho (by decide) hoc) rfl (Or.inr ⟨rfl, hz⟩) dX4_isGranted_23 (fun H locs hB => ?_)
  refine lv_aload_n (x := o) hx hb dX4_isGranted_26 rfl (lv_at hl 0 rfl) ?_
  refine lv_dup hx hb dX4_isGranted_27 rfl ?_
  refine z_geti X hB.1 kc_X4 in_X4 (j := 10) (Nat.le_of_ble_eq_true rfl) q1199 (fun _ h => h) rfl (by decide) (z_fo hB ho (by decide)) dX4_isGranted_28 ?_
  refine lv_iload_n hx hb dX4_isGranted_31 rfl (lv_at hl 1 rfl) ?_
  refine lv_if_eq (tgt := 39) hx hb dX4_isGranted_32 (by decide) (fun c10 => ?_) (fun c10 => ?_)
  · replace h := h.1 c10
    refine lv_iconst (v := 1) hx hb dX4_isGranted_39 (by decide) ?_
    exact ww_X4_isGranted_40 X ho hoc  hB hK1 hK2 (lv_sub hl [1] rfl) h
  · replace h := h.2 c10
    refine lv_iconst (v := 0) hx hb dX4_isGranted_35 (by decide) ?_
    refine lv_goto (tgt := 40) hx hb dX4_isGranted_36 (by decide) ?_
    exact ww_X4_isGranted_40 X ho hoc  hB hK1 hK2 (lv_sub hl [1] rfl) h
theorem ww_X4_isGranted_12 {co : Nat} {o : Nat} {Qk : Int32 → z_T → z_I → z_Q → Prop} (X : z_X l G A p R s m args meth c cX4_isGranted 2 RX4 "isGranted" (some .boolean) mc ms 21 407) (ho : (T0 o).1 = 4) (hoc : (T0 o).2.2 = co) {cells slots : Nat} {T : z_T} {I : z_I} {Q : z_Q} {kc : Nat} {ks : Nat} {s0 : Int32} {H : Heap} {locs : List Loc} {ls : Array Slot} (hB : z_HB G (z_co co) A s.heap T0 I0 Q0 T I Q H locs) (hK1 : cells + kc ≤ mc) (hK2 : slots + ks ≤ ms) (hl : lv_has ls 2 [(0, .ref o)]) (h : wb_X4_isGranted_12 co o Qk T I Q kc ks s0) : W p l e R s m args below meth c H locs cells slots (z_MQ below G (z_co co) A T0 I0 Q0 (z_qz Qk) z_no args s mc ms) (F0 m 12 ls [.int s0]) := by
  obtain ⟨hx, hb, -⟩ := id X
  unfold wb_X4_isGranted_12 at h
  refine lv_istore_n (lv' := [(1, .int s0), (0, .ref o)]) hx hb dX4_isGranted_12 rfl hl (by decide) rfl (fun ls hl9 => ?_)
  replace hl := hl9
  clear hl9
  refine lv_aload_n (x := o) hx hb dX4_isGranted_13 rfl (lv_at hl 1 rfl) ?_
  refine lv_iload_n hx hb dX4_isGranted_14 rfl (lv_at hl 0 rfl) ?_
  refine lv_if_ne (tgt := 22) hx hb dX4_isGranted_15 (by decide) (fun c8 => ?_) (fun c8 => ?_)
  · replace h := h.1 c8
    refine lv_iconst (v := 0) hx hb dX4_isGranted_22 (by decide) ?_
    exact ww_X4_isGranted_23 X ho hoc  hB hK1 hK2 (lv_sub hl [1, 0] rfl) h
  · replace h := h.2 c8
    refine lv_iconst (v := 1) hx hb dX4_isGranted_18 (by decide) ?_
    refine lv_goto (tgt := 23) hx hb dX4_isGranted_19 (by decide) ?_
    exact ww_X4_isGranted_23 X ho hoc  hB hK1 hK2 (lv_sub hl [1, 0] rfl) h
theorem ww_X4_isGranted_0 {co : Nat} {o : Nat} {Qk : Int32 → z_T → z_I → z_Q → Prop} (X : z_X l G A p R s m args meth c cX4_isGranted 2 RX4 "isGranted" (some .boolean) mc ms 21 407) (ho : (T0 o).1 = 4) (hoc : (T0 o).2.2 = co) {cells slots : Nat} {T : z_T} {I : z_I} {Q : z_Q} {kc : Nat} {ks : Nat} {H : Heap} {locs : List Loc} {ls : Array Slot} (hB : z_HB G (z_co co) A s.heap T0 I0 Q0 T I Q H locs) (hK1 : cells + kc ≤ mc) (hK2 : slots + ks ≤ ms) (hl : lv_has ls 2 [(0, .ref o)]) (h : wb_X4_isGranted_0 co o Qk T I Q kc ks) : W p l e R s m args below meth c H locs cells slots (z_MQ below G (z_co co) A T0 I0 Q0 (z_qz Qk) z_no args s mc ms) (F0 m 0 ls []) := by
  obtain ⟨hx, hb, -⟩ := id X
  unfold wb_X4_isGranted_0 at h
  refine lv_aload_n (x := o) hx hb dX4_isGranted_0 rfl (lv_at hl 0 rfl) ?_
  obtain ⟨kc2, ks3, g1, g2, h⟩ := h
  refine z_calli (z_runV (rest := []) [] pk_X4_request (met_X4_request co o kc2 ks3 _ h) X hB hB.2.2.2.2.2.2 q2816 kc_X4 (by decide) (z_fo hB ho (by decide)) rfl hl.1 (Nat.le_of_ble_eq_true rfl) dX4_isGranted_1 (z_k1 hK1 g1) (z_k1 hK2 g2) (by decide) (by decide)) hB (fun _ h => h) (fun r1 T4 I5 Q6 H locs h9 hF hB => ?_)
  replace h := h9
  clear h9
  replace h := h hF
  replace hK1 := z_k2 hK1 g1
  replace hK2 := z_k2 hK2 g2
  refine lv_if_ne (tgt := 11) hx hb dX4_isGranted_4 (by decide) (fun c7 => ?_) (fun c7 => ?_)
  · replace h := h.1 c7
    refine lv_iconst (v := 0) hx hb dX4_isGranted_11 (by decide) ?_
    exact ww_X4_isGranted_12 X ho hoc  hB hK1 hK2 (lv_sub hl [0] rfl) h
  · replace h := h.2 c7
    refine lv_iconst (v := 1) hx hb dX4_isGranted_7 (by decide) ?_
    refine lv_goto (tgt := 12) hx hb dX4_isGranted_8 (by decide) ?_
    exact ww_X4_isGranted_12 X ho hoc  hB hK1 hK2 (lv_sub hl [0] rfl) h
theorem pk_X4_isGranted : z_PV RX4 yX4_isGranted cX4_isGranted 2 (some .boolean) 0 := ⟨q2814, qs25, q130, q2815, by decide +kernel⟩
theorem met_X4_isGranted {l : Launch} {G : z_E} {T : z_T} {I : z_I} {Q : z_Q} (co : Nat) (o : Nat) (kc : Nat) (ks : Nat) (Qk : Int32 → z_T → z_I → z_Q → Prop) (h : wp_X4_isGranted co T I Q o kc ks Qk) : z_GM l G yX4_isGranted (ws_ yX4_isGranted cX4_isGranted 2 (some .boolean)) 21 407 kc ks [.ref o] (z_co co) T I Q (z_qz Qk) z_no := by
  obtain ⟨ho, hoc, h⟩ := h
  refine z_body (own := RX4) (nm := "isGranted") (by decide +kernel) rfl rfl (Nat.le_of_ble_eq_true rfl) (fun p e R s m below meth c A ls X hB hl => ?_)
  exact ww_X4_isGranted_0 X ho hoc hB z_k0 z_k0 hl h
/-! X4_goOn -/
theorem ww_X4_goOn_82 {co : Nat} {o : Nat} {Qk : z_T → z_I → z_Q → Prop} (X : z_X l G A p R s m args meth c cX4_goOn 2 RX4 "goOn" none mc ms 22 428) (ho : (T0 o).1 = 4) (hoc : (T0 o).2.2 = co) {cells slots : Nat} {T : z_T} {I : z_I} {Q : z_Q} {kc : Nat} {ks : Nat} {H : Heap} {locs : List Loc} {ls : Array Slot} (hB : z_HB G (z_co co) A s.heap T0 I0 Q0 T I Q H locs) (hK1 : cells + kc ≤ mc) (hK2 : slots + ks ≤ ms) (hl : lv_has ls 2 []) (h : wb_X4_goOn_82 G.2.2 co o Qk T I Q kc ks) : W p l e R s m args below meth c H locs cells slots (z_MQ below G (z_co co) A T0 I0 Q0 (z_qv Qk) z_no args s mc ms) (F0 m 82 ls []) := by
  obtain ⟨hx, hb, -⟩ := id X
  unfold wb_X4_goOn_82 at h
  exact z_vret X hB ⟨rfl, h⟩ (z_k3 hK1) (z_k3 hK2) dX4_goOn_82
theorem ww_X4_goOn_47 {co : Nat} {o : Nat} {Qk : z_T → z_I → z_Q → Prop} (X : z_X l G A p R s m args meth c cX4_goOn 2 RX4 "goOn" none mc ms 22 428) (ho : (T0 o).1 = 4) (hoc : (T0 o).2.2 = co) {cells slots : Nat} {T : z_T} {I : z_I} {Q : z_Q} {kc : Nat} {ks : Nat} {x1 : Int32} {s1 : Int32} {s2 : Int32} {H : Heap} {locs : List Loc} {ls : Array Slot} (hB : z_HB G (z_co co) A s.heap T0 I0 Q0 T I Q H locs) (hK1 : cells + kc ≤ mc) (hK2 : slots + ks ≤ ms) (hl : lv_has ls 2 [(0, .ref o), (1, .int x1)]) (h : wb_X4_goOn_47 G.2.2 co o Qk T I Q kc ks x1 s1 s2) : W p l e R s m args below meth c H locs cells slots (z_MQ below G (z_co co) A T0 I0 Q0 (z_qv Qk) z_no args s mc ms) (F0 m 47 ls [.int s2, .int s1, .ref o]) := by
  obtain ⟨hx, hb, -⟩ := id X
  unfold wb_X4_goOn_47 at h
  refine lv_iadd hx hb dX4_goOn_47 ?_
  obtain ⟨I18, eI18⟩ : ∃ z, z = z_up I o 6 (s1 + s2) := ⟨_, rfl⟩
  replace h := h I18 eI18
  refine z_puti (x := (s1 + s2)) eI18 tyX4 X hB kc_X4 in_X4 tyX4_ok nmX4 (j := 6) (Nat.le_of_ble_eq_true rfl) q1191 (fun _ h => h) rfl rfl (by decide) (z_fo hB ho (by decide)) (z_foc hB ho (by decide) hoc) rfl (Or.inl rfl) dX4_goOn_48 (fun H locs hB => ?_)
  refine lv_aload_n (x := o) hx hb dX4_goOn_51 rfl (lv_at hl 0 rfl) ?_
  refine lv_iconst (v := 2) hx hb dX4_goOn_52 (by decide) ?_
  obtain ⟨I19, eI19⟩ : ∃ z, z = z_up I18 o 4 2 := ⟨_, rfl⟩
  replace h := h I19 eI19
  refine z_puti (x := 2) eI19 tyX4 X hB kc_X4 in_X4 tyX4_ok nmX4 (j := 4) (Nat.le_of_ble_eq_true rfl) q1187 (fun _ h => h) rfl rfl (by decide) (z_fo hB ho (by decide)) (z_foc hB ho (by decide) hoc) rfl (Or.inl rfl) dX4_goOn_53 (fun H locs hB => ?_)
  refine lv_aload_n (x := o) hx hb dX4_goOn_56 rfl (lv_at hl 0 rfl) ?_
  refine z_getq X hB.1 kc_X4 in_X4 (j := 13) (Nat.le_of_ble_eq_true rfl) q1204 (fun _ h => h) rfl (by decide) (z_fo hB ho (by decide)) dX4_goOn_57 ?_
  refine lv_aload_n (x := o) hx hb dX4_goOn_60 rfl (lv_at hl 0 rfl) ?_
  refine z_geti X hB.1 kc_X4 in_X4 (j := 0) (Nat.le_of_ble_eq_true rfl) q1178 (fun _ h => h) rfl (by decide) (z_fo hB ho (by decide)) dX4_goOn_61 ?_
  refine lv_iconst (v := 1) hx hb dX4_goOn_64 (by decide) ?_
  refine lv_iload_n hx hb dX4_goOn_65 rfl (lv_at hl 1 rfl) ?_
  obtain ⟨a20, ea20, h⟩ := h
  refine z_stk (st' := [.int x1, .int 1, .int (I19 o 0), .ref a20]) (by rw [ea20] <;> rfl) ?_
  obtain ⟨hk_a20, h⟩ := h
  obtain ⟨kc22, ks23, g1, g2, h⟩ := h
  refine z_callv (z_runV (rest := []) [.int (I19 o 0), .int 1, .int x1] pk_X2_note (met_X2_note co a20 (I19 o 0) 1 x1 kc22 ks23 _ h) X hB hB.2.2.2.2.2.2 q2853 kc_X2 (by decide) hk_a20 rfl hl.1 (Nat.le_of_ble_eq_true rfl) dX4_goOn_66 (z_k1 hK1 g1) (z_k1 hK2 g2) (by decide) (by decide)) hB (fun _ h => h) (fun T24 I25 Q26 H locs h9 hF hB => ?_)
  replace h := h9
  clear h9
  replace h := h hF
  replace hK1 := z_k2 hK1 g1
  replace hK2 := z_k2 hK2 g2
  refine lv_goto (tgt := 82) hx hb dX4_goOn_69 (by decide) ?_
  exact ww_X4_goOn_82 X ho hoc  hB hK1 hK2 (lv_sub hl [] rfl) h
theorem ww_X4_goOn_0 {co : Nat} {o : Nat} {Qk : z_T → z_I → z_Q → Prop} (X : z_X l G A p R s m args meth c cX4_goOn 2 RX4 "goOn" none mc ms 22 428) (ho : (T0 o).1 = 4) (hoc : (T0 o).2.2 = co) {cells slots : Nat} {T : z_T} {I : z_I} {Q : z_Q} {kc : Nat} {ks : Nat} {H : Heap} {locs : List Loc} {ls : Array Slot} (hB : z_HB G (z_co co) A s.heap T0 I0 Q0 T I Q H locs) (hK1 : cells + kc ≤ mc) (hK2 : slots + ks ≤ ms) (hl : lv_has ls 2 [(0, .ref o)]) (h : wb_X4_goOn_0 G.2.2 co o Qk T I Q kc ks) : W p l e R s m args below meth c H locs cells slots (z_MQ below G (z_co co) A T0 I0 Q0 (z_qv Qk) z_no args s mc ms) (F0 m 0 ls []) := by
  obtain ⟨hx, hb, -⟩ := id X
  unfold wb_X4_goOn_0 at h
  refine lv_aload_n (x := o) hx hb dX4_goOn_0 rfl (lv_at hl 0 rfl) ?_
  obtain ⟨kc2, ks3, g1, g2, h⟩ := h
  refine z_callz (z_runV (rest := []) [] pk_X4_isGranted (met_X4_isGranted co o kc2 ks3 _ h) X hB hB.2.2.2.2.2.2 q2812 kc_X4 (by decide) (z_fo hB ho (by decide)) rfl hl.1 (Nat.le_of_ble_eq_true rfl) dX4_goOn_1 (z_k1 hK1 g1) (z_k1 hK2 g2) (by decide) (by decide)) hB (fun _ h => h) (fun r1 T4 I5 Q6 H locs hz h9 hF hB => ?_)
  replace h := h9
  clear h9
  replace h := h hz hF
  replace hK1 := z_k2 hK1 g1
  replace hK2 := z_k2 hK2 g2
  refine lv_if_eq (tgt := 72) hx hb dX4_goOn_4 (by decide) (fun c7 => ?_) (fun c7 => ?_)
  · replace h := h.1 c7
    refine lv_aload_n (x := o) hx hb dX4_goOn_72 rfl (lv_at hl 0 rfl) ?_
    refine lv_iconst (v := 3) hx hb dX4_goOn_73 (by decide) ?_
    obtain ⟨I8, eI8⟩ : ∃ z, z = z_up I5 o 4 3 := ⟨_, rfl⟩
    replace h := h I8 eI8
    refine z_puti (x := 3) eI8 tyX4 X hB kc_X4 in_X4 tyX4_ok nmX4 (j := 4) (Nat.le_of_ble_eq_true rfl) q1187 (fun _ h => h) rfl rfl (by decide) (z_fo hB ho (by decide)) (z_foc hB ho (by decide) hoc) rfl (Or.inl rfl) dX4_goOn_74 (fun H locs hB => ?_)
    refine lv_aload_n (x := o) hx hb dX4_goOn_77 rfl (lv_at hl 0 rfl) ?_
    refine lv_iconst (v := 0) hx hb dX4_goOn_78 (by decide) ?_
    obtain ⟨I9, eI9⟩ : ∃ z, z = z_up I8 o 6 0 := ⟨_, rfl⟩
    replace h := h I9 eI9
    refine z_puti (x := 0) eI9 tyX4 X hB kc_X4 in_X4 tyX4_ok nmX4 (j := 6) (Nat.le_of_ble_eq_true rfl) q1191 (fun _ h => h) rfl rfl (by decide) (z_fo hB ho (by decide)) (z_foc hB ho (by decide) hoc) rfl (Or.inl rfl) dX4_goOn_79 (fun H locs hB => ?_)
    exact ww_X4_goOn_82 X ho hoc  hB hK1 hK2 (lv_sub hl [] rfl) h
  · replace h := h.2 c7
    refine lv_aload_n (x := o) hx hb dX4_goOn_7 rfl (lv_at hl 0 rfl) ?_
    refine z_callrp (z_runV (rest := []) [] pk_X4_order (met_X4_order o _ h) X hB (fun h => h) q1336 kc_X4 (by decide) (z_fo hB ho (by decide)) rfl hl.1 (Nat.le_of_ble_eq_true rfl) dX4_goOn_8 (z_k4 hK1) (z_k4 hK2) (by decide) (by decide)) hB (fun r10 H locs h9 hB => ?_)
    replace h := h9
    clear h9
    obtain ⟨a11, rfl, h⟩ := h
    obtain ⟨hk_a11, h⟩ := h
    refine z_getqN X hB.1 kc_X8 in_X8 (j := 2) (Nat.le_of_ble_eq_true rfl) q2648 (fun _ h => h) rfl (by decide) hk_a11 dX4_goOn_11 ?_
    refine lv_aload_n (x := o) hx hb dX4_goOn_14 rfl (lv_at hl 0 rfl) ?_
    refine z_geti X hB.1 kc_X4 in_X4 (j := 5) (Nat.le_of_ble_eq_true rfl) q1190 (fun _ h => h) rfl (by decide) (z_fo hB ho (by decide)) dX4_goOn_15 ?_
    refine lv_iconst (v := 1) hx hb dX4_goOn_18 (by decide) ?_
    refine lv_iadd hx hb dX4_goOn_19 ?_
    obtain ⟨a12, ea12, h⟩ := h
    refine z_stk (st' := [.int ((I5 o 5) + 1), .ref a12]) (by rw [ea12] <;> rfl) ?_
    obtain ⟨hk_a12, h⟩ := h
    obtain ⟨h1, h⟩ := h
    refine z_iald X hB.1 hk_a12 h1 dX4_goOn_20 ?_
    refine lv_topi (fun y13 ey13 => ?_)
    replace h := h y13 ey13
    refine lv_istore_n (lv' := [(1, .int y13), (0, .ref o)]) hx hb dX4_goOn_21 rfl hl (by decide) rfl (fun ls hl9 => ?_)
    replace hl := hl9
    clear hl9
    refine lv_aload_n (x := o) hx hb dX4_goOn_22 rfl (lv_at hl 1 rfl) ?_
    refine lv_iconst (v := 1) hx hb dX4_goOn_23 (by decide) ?_
    refine lv_aload_n (x := o) hx hb dX4_goOn_24 rfl (lv_at hl 1 rfl) ?_
    refine z_callrp (z_runV (rest := [.int 1, .ref o]) [] pk_X4_order (met_X4_order o _ h) X hB (fun h => h) q1336 kc_X4 (by decide) (z_fo hB ho (by decide)) rfl hl.1 (Nat.le_of_ble_eq_true rfl) dX4_goOn_25 (z_k4 hK1) (z_k4 hK2) (by decide) (by decide)) hB (fun r14 H locs h9 hB => ?_)
    replace h := h9
    clear h9
    obtain ⟨a15, rfl, h⟩ := h
    obtain ⟨hk_a15, h⟩ := h
    refine z_getiN X hB.1 kc_X8 in_X8 (j := 4) (Nat.le_of_ble_eq_true rfl) q2656 (fun _ h => h) rfl (by decide) hk_a15 dX4_goOn_28 ?_
    refine lv_iconst (v := 4) hx hb dX4_goOn_31 (by decide) ?_
    refine lv_idiv hx hb dX4_goOn_32 (by decide) ?_
    refine lv_iadd hx hb dX4_goOn_33 ?_
    refine lv_aload_n (x := o) hx hb dX4_goOn_34 rfl (lv_at hl 1 rfl) ?_
    refine lv_iload_n hx hb dX4_goOn_35 rfl (lv_at hl 0 rfl) ?_
    refine z_callzp (z_runV (rest := [.int (1 + ((I5 a15 4) / 4)), .ref o]) [.int y13] pk_X4_hasNeighbors (met_X4_hasNeighbors o y13 _ h) X hB (fun h => h) q2872 kc_X4 (by decide) (z_fo hB ho (by decide)) rfl hl.1 (Nat.le_of_ble_eq_true rfl) dX4_goOn_36 (z_k4 hK1) (z_k4 hK2) (by decide) (by decide)) hB (fun r16 H locs hz h9 hB => ?_)
    replace h := h9
    clear h9
    replace h := h hz
    refine lv_if_eq (tgt := 46) hx hb dX4_goOn_39 (by decide) (fun c17 => ?_) (fun c17 => ?_)
    · replace h := h.1 c17
      refine lv_iconst (v := 0) hx hb dX4_goOn_46 (by decide) ?_
      exact ww_X4_goOn_47 X ho hoc  hB hK1 hK2 (lv_sub hl [1, 0] rfl) h
    · replace h := h.2 c17
      refine lv_iconst (v := 1) hx hb dX4_goOn_42 (by decide) ?_
      refine lv_goto (tgt := 47) hx hb dX4_goOn_43 (by decide) ?_
      exact ww_X4_goOn_47 X ho hoc  hB hK1 hK2 (lv_sub hl [1, 0] rfl) h
theorem pk_X4_goOn : z_PV RX4 yX4_goOn cX4_goOn 2 none 0 := ⟨q2870, qs31, q130, q2871, by decide +kernel⟩
theorem met_X4_goOn {l : Launch} {G : z_E} {T : z_T} {I : z_I} {Q : z_Q} (co : Nat) (o : Nat) (kc : Nat) (ks : Nat) (Qk : z_T → z_I → z_Q → Prop) (h : wp_X4_goOn G.2.2 co T I Q o kc ks Qk) : z_GM l G yX4_goOn (ws_ yX4_goOn cX4_goOn 2 none) 22 428 kc ks [.ref o] (z_co co) T I Q (z_qv Qk) z_no := by
  obtain ⟨ho, hoc, h⟩ := h
  refine z_body (own := RX4) (nm := "goOn") (by decide +kernel) rfl rfl (Nat.le_of_ble_eq_true rfl) (fun p e R s m below meth c A ls X hB hl => ?_)
  exact ww_X4_goOn_0 X ho hoc hB z_k0 z_k0 hl h
/-! X4_hasNext -/
theorem ww_X4_hasNext_22 {T : z_T} {I : z_I} {Q : z_Q} {o : Nat} {Qk : Int32 → Prop} (X : z_X l G A p R s m args meth c cX4_hasNext 1 RX4 "hasNext" (some .boolean) 0 0 9 140) (ho : (T o).1 = 4) {s0 : Int32} {H : Heap} {locs : List Loc} {ls : Array Slot} (hB : z_HB G z_none A s.heap T I Q T I Q H locs) (hl : lv_has ls 1 []) (h : wb_X4_hasNext_22 T I Q o Qk s0) : W p l e R s m args below meth c H locs 0 0 (z_MQ below G z_none A T I Q (z_pz Qk T I Q) z_no args s 0 0) (F0 m 22 ls [.int s0]) := by
  obtain ⟨hx, hb, -⟩ := id X
  unfold wb_X4_hasNext_22 at h
  obtain ⟨hz, h⟩ := h
  exact z_zret X hB hz ⟨_, rfl, hz, h, rfl, rfl, rfl⟩ (Nat.le_refl 0) (Nat.le_refl 0) dX4_hasNext_22
theorem ww_X4_hasNext_0 {T : z_T} {I : z_I} {Q : z_Q} {o : Nat} {Qk : Int32 → Prop} (X : z_X l G A p R s m args meth c cX4_hasNext 1 RX4 "hasNext" (some .boolean) 0 0 9 140) (ho : (T o).1 = 4) {H : Heap} {locs : List Loc} {ls : Array Slot} (hB : z_HB G z_none A s.heap T I Q T I Q H locs) (hl : lv_has ls 1 [(0, .ref o)]) (h : wb_X4_hasNext_0 T I Q o Qk ) : W p l e R s m args below meth c H locs 0 0 (z_MQ below G z_none A T I Q (z_pz Qk T I Q) z_no args s 0 0) (F0 m 0 ls []) := by
  obtain ⟨hx, hb, -⟩ := id X
  unfold wb_X4_hasNext_0 at h
  refine lv_aload_n (x := o) hx hb dX4_hasNext_0 rfl (lv_at hl 0 rfl) ?_
  refine z_callip (z_runV (rest := []) [] pk_X4_reached (met_X4_reached o _ h) X hB (fun h => h) q2843 kc_X4 (by decide) ho rfl hl.1 (Nat.le_of_ble_eq_true rfl) dX4_hasNext_1 (Nat.le_refl 0) (Nat.le_refl 0) (by decide) (by decide)) hB (fun r1 H locs h9 hB => ?_)
  replace h := h9
  clear h9
  refine lv_iconst (v := 1) hx hb dX4_hasNext_4 (by decide) ?_
  refine lv_iadd hx hb dX4_hasNext_5 ?_
  refine lv_aload_n (x := o) hx hb dX4_hasNext_6 rfl (lv_at hl 0 rfl) ?_
  refine z_callrp (z_runV (rest := [.int (r1 + 1)]) [] pk_X4_order (met_X4_order o _ h) X hB (fun h => h) q1336 kc_X4 (by decide) ho rfl hl.1 (Nat.le_of_ble_eq_true rfl) dX4_hasNext_7 (Nat.le_refl 0) (Nat.le_refl 0) (by decide) (by decide)) hB (fun r2 H locs h9 hB => ?_)
  replace h := h9
  clear h9
  obtain ⟨a3, rfl, h⟩ := h
  obtain ⟨hk_a3, h⟩ := h
  refine z_getqN X hB.1 kc_X8 in_X8 (j := 2) (Nat.le_of_ble_eq_true rfl) q2648 (fun _ h => h) rfl (by decide) hk_a3 dX4_hasNext_10 ?_
  obtain ⟨a4, ea4, h⟩ := h
  refine z_stk (st' := [.ref a4, .int (r1 + 1)]) (by rw [ea4] <;> rfl) ?_
  obtain ⟨hk_a4, h⟩ := h
  refine z_alen (k := 0) X hB.1 (by decide) hk_a4 dX4_hasNext_13 ?_
  refine lv_icmp_ge (tgt := 21) hx hb dX4_hasNext_14 (by decide) (fun c5 => ?_) (fun c5 => ?_)
  · replace h := h.1 c5
    refine lv_iconst (v := 0) hx hb dX4_hasNext_21 (by decide) ?_
    exact ww_X4_hasNext_22 X ho  hB (lv_sub hl [] rfl) h
  · replace h := h.2 c5
    refine lv_iconst (v := 1) hx hb dX4_hasNext_17 (by decide) ?_
    refine lv_goto (tgt := 22) hx hb dX4_hasNext_18 (by decide) ?_
    exact ww_X4_hasNext_22 X ho  hB (lv_sub hl [] rfl) h
theorem pk_X4_hasNext : z_PV RX4 yX4_hasNext cX4_hasNext 1 (some .boolean) 0 := ⟨q2881, q2882, q130, q2883, by decide +kernel⟩
theorem met_X4_hasNext {l : Launch} {G : z_E} {T : z_T} {I : z_I} {Q : z_Q} (o : Nat) (Qk : Int32 → Prop) (h : wp_X4_hasNext T I Q o Qk) : z_GM l G yX4_hasNext (ws_ yX4_hasNext cX4_hasNext 1 (some .boolean)) 9 140 0 0 [.ref o] z_none T I Q (z_pz Qk T I Q) z_no := by
  obtain ⟨ho, h⟩ := h
  refine z_body (own := RX4) (nm := "hasNext") (by decide +kernel) rfl rfl (Nat.le_of_ble_eq_true rfl) (fun p e R s m below meth c A ls X hB hl => ?_)
  exact ww_X4_hasNext_0 X ho hB hl h
/-! X4_finishWork -/
theorem ww_X4_finishWork_18 {co : Nat} {o : Nat} {Qk : z_T → z_I → z_Q → Prop} (X : z_X l G A p R s m args meth c cX4_finishWork 1 RX4 "finishWork" none mc ms 23 449) (ho : (T0 o).1 = 4) {cells slots : Nat} {T : z_T} {I : z_I} {Q : z_Q} {kc : Nat} {ks : Nat} {H : Heap} {locs : List Loc} {ls : Array Slot} (hB : z_HB G (z_co co) A s.heap T0 I0 Q0 T I Q H locs) (hK1 : cells + kc ≤ mc) (hK2 : slots + ks ≤ ms) (hl : lv_has ls 1 []) (h : wb_X4_finishWork_18 G.2.2 co o Qk T I Q kc ks) : W p l e R s m args below meth c H locs cells slots (z_MQ below G (z_co co) A T0 I0 Q0 (z_qv Qk) z_no args s mc ms) (F0 m 18 ls []) := by
  obtain ⟨hx, hb, -⟩ := id X
  unfold wb_X4_finishWork_18 at h
  exact z_vret X hB ⟨rfl, h⟩ (z_k3 hK1) (z_k3 hK2) dX4_finishWork_18
theorem ww_X4_finishWork_0 {co : Nat} {o : Nat} {Qk : z_T → z_I → z_Q → Prop} (X : z_X l G A p R s m args meth c cX4_finishWork 1 RX4 "finishWork" none mc ms 23 449) (ho : (T0 o).1 = 4) {cells slots : Nat} {T : z_T} {I : z_I} {Q : z_Q} {kc : Nat} {ks : Nat} {H : Heap} {locs : List Loc} {ls : Array Slot} (hB : z_HB G (z_co co) A s.heap T0 I0 Q0 T I Q H locs) (hK1 : cells + kc ≤ mc) (hK2 : slots + ks ≤ ms) (hl : lv_has ls 1 [(0, .ref o)]) (h : wb_X4_finishWork_0 G.2.2 co o Qk T I Q kc ks) : W p l e R s m args below meth c H locs cells slots (z_MQ below G (z_co co) A T0 I0 Q0 (z_qv Qk) z_no args s mc ms) (F0 m 0 ls []) := by
  obtain ⟨hx, hb, -⟩ := id X
  unfold wb_X4_finishWork_0 at h
  refine lv_aload_n (x := o) hx hb dX4_finishWork_0 rfl (lv_at hl 0 rfl) ?_
  refine z_callzp (z_runV (rest := []) [] pk_X4_hasNext (met_X4_hasNext o _ h) X hB (fun h => h) q2880 kc_X4 (by decide) (z_fo hB ho (by decide)) rfl hl.1 (Nat.le_of_ble_eq_true rfl) dX4_finishWork_1 (z_k4 hK1) (z_k4 hK2) (by decide) (by decide)) hB (fun r1 H locs hz h9 hB => ?_)
  replace h := h9
  clear h9
  replace h := h hz
  refine lv_if_eq (tgt := 14) hx hb dX4_finishWork_4 (by decide) (fun c2 => ?_) (fun c2 => ?_)
  · replace h := h.1 c2
    refine lv_aload_n (x := o) hx hb dX4_finishWork_14 rfl (lv_at hl 0 rfl) ?_
    obtain ⟨kc4, ks5, g1, g2, h⟩ := h
    refine z_callv (z_runV (rest := []) [] pk_X4_end (met_X4_end co o kc4 ks5 _ h) X hB hB.2.2.2.2.2.2 q2884 kc_X4 (by decide) (z_fo hB ho (by decide)) rfl hl.1 (Nat.le_of_ble_eq_true rfl) dX4_finishWork_15 (z_k1 hK1 g1) (z_k1 hK2 g2) (by decide) (by decide)) hB (fun _ h => h) (fun T6 I7 Q8 H locs h9 hF hB => ?_)
    replace h := h9
    clear h9
    replace h := h hF
    replace hK1 := z_k2 hK1 g1
    replace hK2 := z_k2 hK2 g2
    exact ww_X4_finishWork_18 X ho  hB hK1 hK2 (lv_sub hl [] rfl) h
  · replace h := h.2 c2
    refine lv_aload_n (x := o) hx hb dX4_finishWork_7 rfl (lv_at hl 0 rfl) ?_
    obtain ⟨kc10, ks11, g1, g2, h⟩ := h
    refine z_callv (z_runV (rest := []) [] pk_X4_goOn (met_X4_goOn co o kc10 ks11 _ h) X hB hB.2.2.2.2.2.2 q2868 kc_X4 (by decide) (z_fo hB ho (by decide)) rfl hl.1 (Nat.le_of_ble_eq_true rfl) dX4_finishWork_8 (z_k1 hK1 g1) (z_k1 hK2 g2) (by decide) (by decide)) hB (fun _ h => h) (fun T12 I13 Q14 H locs h9 hF hB => ?_)
    replace h := h9
    clear h9
    replace h := h hF
    replace hK1 := z_k2 hK1 g1
    replace hK2 := z_k2 hK2 g2
    refine lv_goto (tgt := 18) hx hb dX4_finishWork_11 (by decide) ?_
    exact ww_X4_finishWork_18 X ho  hB hK1 hK2 (lv_sub hl [] rfl) h
theorem pk_X4_finishWork : z_PV RX4 yX4_finishWork cX4_finishWork 1 none 0 := ⟨q2878, qs33, q130, q2879, by decide +kernel⟩
theorem met_X4_finishWork {l : Launch} {G : z_E} {T : z_T} {I : z_I} {Q : z_Q} (co : Nat) (o : Nat) (kc : Nat) (ks : Nat) (Qk : z_T → z_I → z_Q → Prop) (h : wp_X4_finishWork G.2.2 co T I Q o kc ks Qk) : z_GM l G yX4_finishWork (ws_ yX4_finishWork cX4_finishWork 1 none) 23 449 kc ks [.ref o] (z_co co) T I Q (z_qv Qk) z_no := by
  obtain ⟨ho, h⟩ := h
  refine z_body (own := RX4) (nm := "finishWork") (by decide +kernel) rfl rfl (Nat.le_of_ble_eq_true rfl) (fun p e R s m below meth c A ls X hB hl => ?_)
  exact ww_X4_finishWork_0 X ho hB z_k0 z_k0 hl h
/-! X4_start -/
theorem ww_X4_start_106 {co : Nat} {o : Nat} {Qk : z_T → z_I → z_Q → Prop} (X : z_X l G A p R s m args meth c cX4_start 1 RX4 "start" none mc ms 13 238) (ho : (T0 o).1 = 4) (hoc : (T0 o).2.2 = co) {cells slots : Nat} {T : z_T} {I : z_I} {Q : z_Q} {kc : Nat} {ks : Nat} {H : Heap} {locs : List Loc} {ls : Array Slot} (hB : z_HB G (z_co co) A s.heap T0 I0 Q0 T I Q H locs) (hK1 : cells + kc ≤ mc) (hK2 : slots + ks ≤ ms) (hl : lv_has ls 1 [(0, .ref o)]) (h : wb_X4_start_106 G.2.2 co o Qk T I Q kc ks) : W p l e R s m args below meth c H locs cells slots (z_MQ below G (z_co co) A T0 I0 Q0 (z_qv Qk) z_no args s mc ms) (F0 m 106 ls []) := by
  obtain ⟨hx, hb, -⟩ := id X
  unfold wb_X4_start_106 at h
  refine lv_aload_n (x := o) hx hb dX4_start_106 rfl (lv_at hl 0 rfl) ?_
  refine lv_iconst (v := 0) hx hb dX4_start_107 (by decide) ?_
  obtain ⟨I28, eI28⟩ : ∃ z, z = z_up I o 5 0 := ⟨_, rfl⟩
  replace h := h I28 eI28
  refine z_puti (x := 0) eI28 tyX4 X hB kc_X4 in_X4 tyX4_ok nmX4 (j := 5) (Nat.le_of_ble_eq_true rfl) q1190 (fun _ h => h) rfl rfl (by decide) (z_fo hB ho (by decide)) (z_foc hB ho (by decide) hoc) rfl (Or.inl rfl) dX4_start_108 (fun H locs hB => ?_)
  refine lv_aload_n (x := o) hx hb dX4_start_111 rfl (lv_at hl 0 rfl) ?_
  refine z_callv (z_runV (rest := []) [] pk_X4_work (met_X4_work co o _ h) X hB hB.2.2.2.2.2.2 q2849 kc_X4 (by decide) (z_fo hB ho (by decide)) rfl hl.1 (Nat.le_of_ble_eq_true rfl) dX4_start_112 (z_k4 hK1) (z_k4 hK2) (by decide) (by decide)) hB (fun _ h => h) (fun T30 I31 Q32 H locs h9 hF hB => ?_)
  replace h := h9
  clear h9
  replace h := h hF
  refine lv_aload_n (x := o) hx hb dX4_start_115 rfl (lv_at hl 0 rfl) ?_
  refine z_getq X hB.1 kc_X4 in_X4 (j := 13) (Nat.le_of_ble_eq_true rfl) q1204 (fun _ h => h) rfl (by decide) (z_fo hB ho (by decide)) dX4_start_116 ?_
  refine lv_aload_n (x := o) hx hb dX4_start_119 rfl (lv_at hl 0 rfl) ?_
  refine z_geti X hB.1 kc_X4 in_X4 (j := 0) (Nat.le_of_ble_eq_true rfl) q1178 (fun _ h => h) rfl (by decide) (z_fo hB ho (by decide)) dX4_start_120 ?_
  refine lv_iconst (v := 0) hx hb dX4_start_123 (by decide) ?_
  refine lv_aload_n (x := o) hx hb dX4_start_124 rfl (lv_at hl 0 rfl) ?_
  refine z_callip (z_runV (rest := [.int 0, .int (I31 o 0), va_rf (Q32 o 13)]) [] pk_X4_zone (met_X4_zone o _ h) X hB (fun h => h) q2761 kc_X4 (by decide) (z_fo hB ho (by decide)) rfl hl.1 (by simp [z_cat, z_cati, z_catl, z_catf, z_catd, z_catq]) dX4_start_125 (z_k4 hK1) (z_k4 hK2) (by decide) (by decide)) hB (fun r33 H locs h9 hB => ?_)
  replace h := h9
  clear h9
  obtain ⟨a34, ea34, h⟩ := h
  refine z_stk (st' := [.int r33, .int 0, .int (I31 o 0), .ref a34]) (by rw [ea34] <;> rfl) ?_
  obtain ⟨hk_a34, h⟩ := h
  obtain ⟨kc36, ks37, g1, g2, h⟩ := h
  refine z_callv (z_runV (rest := []) [.int (I31 o 0), .int 0, .int r33] pk_X2_note (met_X2_note co a34 (I31 o 0) 0 r33 kc36 ks37 _ h) X hB hB.2.2.2.2.2.2 q2853 kc_X2 (by decide) hk_a34 rfl hl.1 (Nat.le_of_ble_eq_true rfl) dX4_start_128 (z_k1 hK1 g1) (z_k1 hK2 g2) (by decide) (by decide)) hB (fun _ h => h) (fun T38 I39 Q40 H locs h9 hF hB => ?_)
  replace h := h9
  clear h9
  replace h := h hF
  replace hK1 := z_k2 hK1 g1
  replace hK2 := z_k2 hK2 g2
  exact z_vret X hB ⟨rfl, h⟩ (z_k3 hK1) (z_k3 hK2) dX4_start_131
theorem ww_X4_start_71 {co : Nat} {o : Nat} {Qk : z_T → z_I → z_Q → Prop} (X : z_X l G A p R s m args meth c cX4_start 1 RX4 "start" none mc ms 13 238) (ho : (T0 o).1 = 4) (hoc : (T0 o).2.2 = co) {cells slots : Nat} {T : z_T} {I : z_I} {Q : z_Q} {kc : Nat} {ks : Nat} {H : Heap} {locs : List Loc} {ls : Array Slot} (hB : z_HB G (z_co co) A s.heap T0 I0 Q0 T I Q H locs) (hK1 : cells + kc ≤ mc) (hK2 : slots + ks ≤ ms) (hl : lv_has ls 1 [(0, .ref o)]) (h : wb_X4_start_71 G.2.2 co o Qk T I Q kc ks) : W p l e R s m args below meth c H locs cells slots (z_MQ below G (z_co co) A T0 I0 Q0 (z_qv Qk) z_no args s mc ms) (F0 m 71 ls []) := by
  obtain ⟨hx, hb, -⟩ := id X
  unfold wb_X4_start_71 at h
  refine lv_aload_n (x := o) hx hb dX4_start_71 rfl (lv_at hl 0 rfl) ?_
  refine z_callrp (z_runV (rest := []) [] pk_X4_order (met_X4_order o _ h) X hB (fun h => h) q1336 kc_X4 (by decide) (z_fo hB ho (by decide)) rfl hl.1 (Nat.le_of_ble_eq_true rfl) dX4_start_72 (z_k4 hK1) (z_k4 hK2) (by decide) (by decide)) hB (fun r19 H locs h9 hB => ?_)
  replace h := h9
  clear h9
  obtain ⟨a20, rfl, h⟩ := h
  obtain ⟨hk_a20, h⟩ := h
  refine z_getiN X hB.1 kc_X8 in_X8 (j := 6) (Nat.le_of_ble_eq_true rfl) q2661 (fun _ h => h) rfl (by decide) hk_a20 dX4_start_75 ?_
  refine lv_iconst (v := (-1)) hx hb dX4_start_78 (by decide) ?_
  refine lv_icmp_eq (tgt := 106) hx hb dX4_start_79 (by decide) (fun c21 => ?_) (fun c21 => ?_)
  · replace h := h.1 c21
    exact ww_X4_start_106 X ho hoc  hB hK1 hK2 (lv_sub hl [0] rfl) h
  · replace h := h.2 c21
    refine lv_aload_n (x := o) hx hb dX4_start_82 rfl (lv_at hl 0 rfl) ?_
    refine z_getq X hB.1 kc_X4 in_X4 (j := 13) (Nat.le_of_ble_eq_true rfl) q1204 (fun _ h => h) rfl (by decide) (z_fo hB ho (by decide)) dX4_start_83 ?_
    obtain ⟨a22, ea22, h⟩ := h
    refine z_stk (st' := [.ref a22]) (by rw [ea22] <;> rfl) ?_
    obtain ⟨hk_a22, h⟩ := h
    refine z_getqN X hB.1 kc_X2 in_X2 (j := 1) (Nat.le_of_ble_eq_true rfl) q1238 (fun _ h => h) rfl (by decide) hk_a22 dX4_start_86 ?_
    refine lv_aload_n (x := o) hx hb dX4_start_89 rfl (lv_at hl 0 rfl) ?_
    refine z_callrp (z_runV (rest := [va_rf (Q a22 1)]) [] pk_X4_order (met_X4_order o _ h) X hB (fun h => h) q1336 kc_X4 (by decide) (z_fo hB ho (by decide)) rfl hl.1 (by simp [z_cat, z_cati, z_catl, z_catf, z_catd, z_catq]) dX4_start_90 (z_k4 hK1) (z_k4 hK2) (by decide) (by decide)) hB (fun r23 H locs h9 hB => ?_)
    replace h := h9
    clear h9
    obtain ⟨a24, rfl, h⟩ := h
    obtain ⟨hk_a24, h⟩ := h
    refine z_getiN X hB.1 kc_X8 in_X8 (j := 6) (Nat.le_of_ble_eq_true rfl) q2661 (fun _ h => h) rfl (by decide) hk_a24 dX4_start_93 ?_
    obtain ⟨a25, ea25, h⟩ := h
    refine z_stk (st' := [.int (I a24 6), .ref a25]) (by rw [ea25] <;> rfl) ?_
    obtain ⟨hk_a25, h⟩ := h
    obtain ⟨h1, h⟩ := h
    refine z_aald (k := 3) X hB.1 (by decide) hk_a25 h1 dX4_start_96 ?_
    refine lv_dup hx hb dX4_start_97 z_cat ?_
    obtain ⟨a26, ea26, h⟩ := h
    refine z_stk (st' := [.ref a26, .ref a26]) (by rw [ea26] <;> rfl) ?_
    obtain ⟨hk_a26, h⟩ := h
    refine z_getiN X hB.1 kc_X3 in_X3 (j := 2) (Nat.le_of_ble_eq_true rfl) q1151 (fun _ h => h) rfl (by decide) hk_a26 dX4_start_98 ?_
    refine lv_iconst (v := 1) hx hb dX4_start_101 (by decide) ?_
    refine lv_iadd hx hb dX4_start_102 ?_
    obtain ⟨hc_a26, h⟩ := h
    obtain ⟨I27, eI27⟩ : ∃ z, z = z_up I a26 2 ((I a26 2) + 1) := ⟨_, rfl⟩
    replace h := h I27 eI27
    refine z_putiN (x := ((I a26 2) + 1)) eI27 tyX3 X hB kc_X3 in_X3 tyX3_ok nmX3 (j := 2) (Nat.le_of_ble_eq_true rfl) q1151 (fun _ h => h) rfl rfl (by decide) hk_a26 hc_a26 rfl (Or.inl rfl) dX4_start_103 (fun H locs hB => ?_)
    exact ww_X4_start_106 X ho hoc  hB hK1 hK2 (lv_sub hl [0] rfl) h
theorem ww_X4_start_0 {co : Nat} {o : Nat} {Qk : z_T → z_I → z_Q → Prop} (X : z_X l G A p R s m args meth c cX4_start 1 RX4 "start" none mc ms 13 238) (ho : (T0 o).1 = 4) (hoc : (T0 o).2.2 = co) {cells slots : Nat} {T : z_T} {I : z_I} {Q : z_Q} {kc : Nat} {ks : Nat} {H : Heap} {locs : List Loc} {ls : Array Slot} (hB : z_HB G (z_co co) A s.heap T0 I0 Q0 T I Q H locs) (hK1 : cells + kc ≤ mc) (hK2 : slots + ks ≤ ms) (hl : lv_has ls 1 [(0, .ref o)]) (h : wb_X4_start_0 G.2.2 co o Qk T I Q kc ks) : W p l e R s m args below meth c H locs cells slots (z_MQ below G (z_co co) A T0 I0 Q0 (z_qv Qk) z_no args s mc ms) (F0 m 0 ls []) := by
  obtain ⟨hx, hb, -⟩ := id X
  unfold wb_X4_start_0 at h
  refine lv_aload_n (x := o) hx hb dX4_start_0 rfl (lv_at hl 0 rfl) ?_
  refine lv_aload_n (x := o) hx hb dX4_start_1 rfl (lv_at hl 0 rfl) ?_
  refine z_getq X hB.1 kc_X4 in_X4 (j := 2) (Nat.le_of_ble_eq_true rfl) q1182 (fun _ h => h) rfl (by decide) (z_fo hB ho (by decide)) dX4_start_2 ?_
  obtain ⟨a1, ea1, h⟩ := h
  refine z_stk (st' := [.ref a1, .ref o]) (by rw [ea1] <;> rfl) ?_
  obtain ⟨hk_a1, h⟩ := h
  refine z_callr (z_runV (rest := [.ref o]) [] pk_J31_removeFirst (met_J31_removeFirst co a1 _ h) X hB hB.2.2.2.2.2.2 q2848 kc_J31 (by decide) hk_a1 rfl hl.1 (Nat.le_of_ble_eq_true rfl) dX4_start_5 (z_k4 hK1) (z_k4 hK2) (by decide) (by decide)) hB (fun _ h => h) (fun r2 T3 I4 Q5 H locs h9 hF hB => ?_)
  replace h := h9
  clear h9
  replace h := h hF
  obtain ⟨h2, h⟩ := h
  refine z_castR X hB.1 kc_X6 (by decide) h2 q2338 (Or.inl rfl) dX4_start_8 ?_
  obtain ⟨Q6, eQ6⟩ : ∃ z, z = z_up Q5 o 3 r2 := ⟨_, rfl⟩
  replace h := h Q6 eQ6
  refine z_putq (x := r2) eQ6 tyX4 X hB kc_X4 in_X4 tyX4_ok nmX4 (j := 3) (Nat.le_of_ble_eq_true rfl) q1185 (fun _ h => h) rfl rfl (by decide) (z_fo hB ho (by decide)) (z_foc hB ho (by decide) hoc) rfl (Or.inl ⟨_, rfl⟩) dX4_start_11 (fun H locs hB => ?_)
  refine lv_aload_n (x := o) hx hb dX4_start_14 rfl (lv_at hl 0 rfl) ?_
  refine z_getq X hB.1 kc_X4 in_X4 (j := 3) (Nat.le_of_ble_eq_true rfl) q1185 (fun _ h => h) rfl (by decide) (z_fo hB ho (by decide)) dX4_start_15 ?_
  refine lv_iconst (v := 1) hx hb dX4_start_18 (by decide) ?_
  obtain ⟨a7, ea7, h⟩ := h
  refine z_stk (st' := [.int 1, .ref a7]) (by rw [ea7] <;> rfl) ?_
  obtain ⟨hk_a7, h⟩ := h
  obtain ⟨hc_a7, h⟩ := h
  obtain ⟨I8, eI8⟩ : ∃ z, z = z_up I4 a7 2 1 := ⟨_, rfl⟩
  replace h := h I8 eI8
  refine z_putiN (x := 1) eI8 tyX6 X hB kc_X6 in_X6 tyX6_ok nmX6 (j := 2) (Nat.le_of_ble_eq_true rfl) q2292 (fun _ h => h) rfl rfl (by decide) hk_a7 hc_a7 rfl (Or.inl rfl) dX4_start_19 (fun H locs hB => ?_)
  refine lv_aload_n (x := o) hx hb dX4_start_22 rfl (lv_at hl 0 rfl) ?_
  refine z_getq X hB.1 kc_X4 in_X4 (j := 3) (Nat.le_of_ble_eq_true rfl) q1185 (fun _ h => h) rfl (by decide) (z_fo hB ho (by decide)) dX4_start_23 ?_
  refine z_stk (st' := [.ref a7]) (by rw [ea7] <;> rfl) ?_
  refine lv_aload_n (x := o) hx hb dX4_start_26 rfl (lv_at hl 0 rfl) ?_
  refine z_getq X hB.1 kc_X4 in_X4 (j := 13) (Nat.le_of_ble_eq_true rfl) q1204 (fun _ h => h) rfl (by decide) (z_fo hB ho (by decide)) dX4_start_27 ?_
  obtain ⟨a9, ea9, h⟩ := h
  refine z_stk (st' := [.ref a9, .ref a7]) (by rw [ea9] <;> rfl) ?_
  obtain ⟨hk_a9, h⟩ := h
  refine z_getiN X hB.1 kc_X2 in_X2 (j := 6) (Nat.le_of_ble_eq_true rfl) q1254 (fun _ h => h) rfl (by decide) hk_a9 dX4_start_30 ?_
  obtain ⟨I10, eI10⟩ : ∃ z, z = z_up I8 a7 3 (I8 a9 6) := ⟨_, rfl⟩
  replace h := h I10 eI10
  refine z_putiN (x := (I8 a9 6)) eI10 tyX6 X hB kc_X6 in_X6 tyX6_ok nmX6 (j := 3) (Nat.le_of_ble_eq_true rfl) q2295 (fun _ h => h) rfl rfl (by decide) hk_a7 hc_a7 rfl (Or.inl rfl) dX4_start_33 (fun H locs hB => ?_)
  refine lv_aload_n (x := o) hx hb dX4_start_36 rfl (lv_at hl 0 rfl) ?_
  refine z_callrp (z_runV (rest := []) [] pk_X4_order (met_X4_order o _ h) X hB (fun h => h) q1336 kc_X4 (by decide) (z_fo hB ho (by decide)) rfl hl.1 (Nat.le_of_ble_eq_true rfl) dX4_start_37 (z_k4 hK1) (z_k4 hK2) (by decide) (by decide)) hB (fun r11 H locs h9 hB => ?_)
  replace h := h9
  clear h9
  obtain ⟨a12, rfl, h⟩ := h
  obtain ⟨hk_a12, h⟩ := h
  refine z_getiN X hB.1 kc_X8 in_X8 (j := 5) (Nat.le_of_ble_eq_true rfl) q2658 (fun _ h => h) rfl (by decide) hk_a12 dX4_start_40 ?_
  refine lv_iconst (v := (-1)) hx hb dX4_start_43 (by decide) ?_
  refine lv_icmp_eq (tgt := 71) hx hb dX4_start_44 (by decide) (fun c13 => ?_) (fun c13 => ?_)
  · replace h := h.1 c13
    exact ww_X4_start_71 X ho hoc  hB hK1 hK2 (lv_sub hl [0] rfl) h
  · replace h := h.2 c13
    refine lv_aload_n (x := o) hx hb dX4_start_47 rfl (lv_at hl 0 rfl) ?_
    refine z_getq X hB.1 kc_X4 in_X4 (j := 13) (Nat.le_of_ble_eq_true rfl) q1204 (fun _ h => h) rfl (by decide) (z_fo hB ho (by decide)) dX4_start_48 ?_
    refine z_stk (st' := [.ref a9]) (by rw [ea9] <;> rfl) ?_
    refine z_getqN X hB.1 kc_X2 in_X2 (j := 1) (Nat.le_of_ble_eq_true rfl) q1238 (fun _ h => h) rfl (by decide) hk_a9 dX4_start_51 ?_
    refine lv_aload_n (x := o) hx hb dX4_start_54 rfl (lv_at hl 0 rfl) ?_
    refine z_callrp (z_runV (rest := [va_rf (Q6 a9 1)]) [] pk_X4_order (met_X4_order o _ h) X hB (fun h => h) q1336 kc_X4 (by decide) (z_fo hB ho (by decide)) rfl hl.1 (by simp [z_cat, z_cati, z_catl, z_catf, z_catd, z_catq]) dX4_start_55 (z_k4 hK1) (z_k4 hK2) (by decide) (by decide)) hB (fun r14 H locs h9 hB => ?_)
    replace h := h9
    clear h9
    obtain ⟨a15, rfl, h⟩ := h
    obtain ⟨hk_a15, h⟩ := h
    refine z_getiN X hB.1 kc_X8 in_X8 (j := 5) (Nat.le_of_ble_eq_true rfl) q2658 (fun _ h => h) rfl (by decide) hk_a15 dX4_start_58 ?_
    obtain ⟨a16, ea16, h⟩ := h
    refine z_stk (st' := [.int (I10 a15 5), .ref a16]) (by rw [ea16] <;> rfl) ?_
    obtain ⟨hk_a16, h⟩ := h
    obtain ⟨h1, h⟩ := h
    refine z_aald (k := 3) X hB.1 (by decide) hk_a16 h1 dX4_start_61 ?_
    refine lv_dup hx hb dX4_start_62 z_cat ?_
    obtain ⟨a17, ea17, h⟩ := h
    refine z_stk (st' := [.ref a17, .ref a17]) (by rw [ea17] <;> rfl) ?_
    obtain ⟨hk_a17, h⟩ := h
    refine z_getiN X hB.1 kc_X3 in_X3 (j := 3) (Nat.le_of_ble_eq_true rfl) q1154 (fun _ h => h) rfl (by decide) hk_a17 dX4_start_63 ?_
    refine lv_iconst (v := 1) hx hb dX4_start_66 (by decide) ?_
    refine lv_iadd hx hb dX4_start_67 ?_
    obtain ⟨hc_a17, h⟩ := h
    obtain ⟨I18, eI18⟩ : ∃ z, z = z_up I10 a17 3 ((I10 a17 3) + 1) := ⟨_, rfl⟩
    replace h := h I18 eI18
    refine z_putiN (x := ((I10 a17 3) + 1)) eI18 tyX3 X hB kc_X3 in_X3 tyX3_ok nmX3 (j := 3) (Nat.le_of_ble_eq_true rfl) q1154 (fun _ h => h) rfl rfl (by decide) hk_a17 hc_a17 rfl (Or.inl rfl) dX4_start_68 (fun H locs hB => ?_)
    exact ww_X4_start_71 X ho hoc  hB hK1 hK2 (lv_sub hl [0] rfl) h
theorem pk_X4_start : z_PV RX4 yX4_start cX4_start 1 none 0 := ⟨q2846, qs29, q130, q2847, by decide +kernel⟩
theorem met_X4_start {l : Launch} {G : z_E} {T : z_T} {I : z_I} {Q : z_Q} (co : Nat) (o : Nat) (kc : Nat) (ks : Nat) (Qk : z_T → z_I → z_Q → Prop) (h : wp_X4_start G.2.2 co T I Q o kc ks Qk) : z_GM l G yX4_start (ws_ yX4_start cX4_start 1 none) 13 238 kc ks [.ref o] (z_co co) T I Q (z_qv Qk) z_no := by
  obtain ⟨ho, hoc, h⟩ := h
  refine z_body (own := RX4) (nm := "start") (by decide +kernel) rfl rfl (Nat.le_of_ble_eq_true rfl) (fun p e R s m below meth c A ls X hB hl => ?_)
  exact ww_X4_start_0 X ho hoc hB z_k0 z_k0 hl h
/-! X4_act -/
theorem ww_X4_act_110 {co : Nat} {o : Nat} {Qk : z_T → z_I → z_Q → Prop} (X : z_X l G A p R s m args meth c cX4_act 1 RX4 "act" none mc ms 24 469) (ho : (T0 o).1 = 4) (hoc : (T0 o).2.2 = co) {cells slots : Nat} {T : z_T} {I : z_I} {Q : z_Q} {kc : Nat} {ks : Nat} {H : Heap} {locs : List Loc} {ls : Array Slot} (hB : z_HB G (z_co co) A s.heap T0 I0 Q0 T I Q H locs) (hK1 : cells + kc ≤ mc) (hK2 : slots + ks ≤ ms) (hl : lv_has ls 1 []) (h : wb_X4_act_110 G.2.2 co o Qk T I Q kc ks) : W p l e R s m args below meth c H locs cells slots (z_MQ below G (z_co co) A T0 I0 Q0 (z_qv Qk) z_no args s mc ms) (F0 m 110 ls []) := by
  obtain ⟨hx, hb, -⟩ := id X
  unfold wb_X4_act_110 at h
  exact z_vret X hB ⟨rfl, h⟩ (z_k3 hK1) (z_k3 hK2) dX4_act_110
theorem ww_X4_act_99 {co : Nat} {o : Nat} {Qk : z_T → z_I → z_Q → Prop} (X : z_X l G A p R s m args meth c cX4_act 1 RX4 "act" none mc ms 24 469) (ho : (T0 o).1 = 4) (hoc : (T0 o).2.2 = co) {cells slots : Nat} {T : z_T} {I : z_I} {Q : z_Q} {kc : Nat} {ks : Nat} {H : Heap} {locs : List Loc} {ls : Array Slot} (hB : z_HB G (z_co co) A s.heap T0 I0 Q0 T I Q H locs) (hK1 : cells + kc ≤ mc) (hK2 : slots + ks ≤ ms) (hl : lv_has ls 1 [(0, .ref o)]) (h : wb_X4_act_99 G.2.2 co o Qk T I Q kc ks) : W p l e R s m args below meth c H locs cells slots (z_MQ below G (z_co co) A T0 I0 Q0 (z_qv Qk) z_no args s mc ms) (F0 m 99 ls []) := by
  obtain ⟨hx, hb, -⟩ := id X
  unfold wb_X4_act_99 at h
  refine lv_aload_n (x := o) hx hb dX4_act_99 rfl (lv_at hl 0 rfl) ?_
  refine z_geti X hB.1 kc_X4 in_X4 (j := 6) (Nat.le_of_ble_eq_true rfl) q1191 (fun _ h => h) rfl (by decide) (z_fo hB ho (by decide)) dX4_act_100 ?_
  refine lv_if_ne (tgt := 110) hx hb dX4_act_103 (by decide) (fun c34 => ?_) (fun c34 => ?_)
  · replace h := h.1 c34
    exact ww_X4_act_110 X ho hoc  hB hK1 hK2 (lv_sub hl [] rfl) h
  · replace h := h.2 c34
    refine lv_aload_n (x := o) hx hb dX4_act_106 rfl (lv_at hl 0 rfl) ?_
    obtain ⟨kc36, ks37, g1, g2, h⟩ := h
    refine z_callv (z_runV (rest := []) [] pk_X4_arrive (met_X4_arrive co o kc36 ks37 _ h) X hB hB.2.2.2.2.2.2 q2896 kc_X4 (by decide) (z_fo hB ho (by decide)) rfl hl.1 (Nat.le_of_ble_eq_true rfl) dX4_act_107 (z_k1 hK1 g1) (z_k1 hK2 g2) (by decide) (by decide)) hB (fun _ h => h) (fun T38 I39 Q40 H locs h9 hF hB => ?_)
    replace h := h9
    clear h9
    replace h := h hF
    replace hK1 := z_k2 hK1 g1
    replace hK2 := z_k2 hK2 g2
    exact ww_X4_act_110 X ho hoc  hB hK1 hK2 (lv_sub hl [] rfl) h
theorem ww_X4_act_0 {co : Nat} {o : Nat} {Qk : z_T → z_I → z_Q → Prop} (X : z_X l G A p R s m args meth c cX4_act 1 RX4 "act" none mc ms 24 469) (ho : (T0 o).1 = 4) (hoc : (T0 o).2.2 = co) {cells slots : Nat} {T : z_T} {I : z_I} {Q : z_Q} {kc : Nat} {ks : Nat} {H : Heap} {locs : List Loc} {ls : Array Slot} (hB : z_HB G (z_co co) A s.heap T0 I0 Q0 T I Q H locs) (hK1 : cells + kc ≤ mc) (hK2 : slots + ks ≤ ms) (hl : lv_has ls 1 [(0, .ref o)]) (h : wb_X4_act_0 G.2.2 co o Qk T I Q kc ks) : W p l e R s m args below meth c H locs cells slots (z_MQ below G (z_co co) A T0 I0 Q0 (z_qv Qk) z_no args s mc ms) (F0 m 0 ls []) := by
  obtain ⟨hx, hb, -⟩ := id X
  unfold wb_X4_act_0 at h
  refine lv_aload_n (x := o) hx hb dX4_act_0 rfl (lv_at hl 0 rfl) ?_
  refine lv_iconst (v := 0) hx hb dX4_act_1 (by decide) ?_
  obtain ⟨I1, eI1⟩ : ∃ z, z = z_up I o 12 0 := ⟨_, rfl⟩
  replace h := h I1 eI1
  refine z_puti (x := 0) eI1 tyX4 X hB kc_X4 in_X4 tyX4_ok nmX4 (j := 12) (Nat.le_of_ble_eq_true rfl) q1203 (fun _ h => h) rfl rfl (by decide) (z_fo hB ho (by decide)) (z_foc hB ho (by decide) hoc) rfl (Or.inr ⟨rfl, Or.inl rfl⟩) dX4_act_2 (fun H locs hB => ?_)
  refine lv_aload_n (x := o) hx hb dX4_act_5 rfl (lv_at hl 0 rfl) ?_
  refine z_geti X hB.1 kc_X4 in_X4 (j := 4) (Nat.le_of_ble_eq_true rfl) q1187 (fun _ h => h) rfl (by decide) (z_fo hB ho (by decide)) dX4_act_6 ?_
  by_cases c2_0 : (I1 o 4) = 0
  · replace h := h.1 c2_0
    refine lv_lookup (off := 27) (tgt := 36) hx hb dX4_act_9 (by decide) (by rw [c2_0]; decide) (by decide) ?_
    refine lv_aload_n (x := o) hx hb dX4_act_36 rfl (lv_at hl 0 rfl) ?_
    refine z_getq X hB.1 kc_X4 in_X4 (j := 2) (Nat.le_of_ble_eq_true rfl) q1182 (fun _ h => h) rfl (by decide) (z_fo hB ho (by decide)) dX4_act_37 ?_
    obtain ⟨a3, ea3, h⟩ := h
    refine z_stk (st' := [.ref a3]) (by rw [ea3] <;> rfl) ?_
    obtain ⟨hk_a3, h⟩ := h
    refine z_callzp (z_runV (rest := []) [] pk_J31_isEmpty (met_J31_isEmpty a3 _ h) X hB (fun h => h) q2811 kc_J31 (by decide) hk_a3 rfl hl.1 (Nat.le_of_ble_eq_true rfl) dX4_act_40 (z_k4 hK1) (z_k4 hK2) (by decide) (by decide)) hB (fun r4 H locs hz h9 hB => ?_)
    replace h := h9
    clear h9
    replace h := h hz
    refine lv_if_ne (tgt := 110) hx hb dX4_act_43 (by decide) (fun c5 => ?_) (fun c5 => ?_)
    · replace h := h.1 c5
      exact ww_X4_act_110 X ho hoc  hB hK1 hK2 (lv_sub hl [] rfl) h
    · replace h := h.2 c5
      refine lv_aload_n (x := o) hx hb dX4_act_46 rfl (lv_at hl 0 rfl) ?_
      obtain ⟨kc7, ks8, g1, g2, h⟩ := h
      refine z_callz (z_runV (rest := []) [] pk_X4_isGranted (met_X4_isGranted co o kc7 ks8 _ h) X hB hB.2.2.2.2.2.2 q2812 kc_X4 (by decide) (z_fo hB ho (by decide)) rfl hl.1 (Nat.le_of_ble_eq_true rfl) dX4_act_47 (z_k1 hK1 g1) (z_k1 hK2 g2) (by decide) (by decide)) hB (fun _ h => h) (fun r6 T9 I10 Q11 H locs hz h9 hF hB => ?_)
      replace h := h9
      clear h9
      replace h := h hz hF
      replace hK1 := z_k2 hK1 g1
      replace hK2 := z_k2 hK2 g2
      refine lv_if_eq (tgt := 110) hx hb dX4_act_50 (by decide) (fun c12 => ?_) (fun c12 => ?_)
      · replace h := h.1 c12
        exact ww_X4_act_110 X ho hoc  hB hK1 hK2 (lv_sub hl [] rfl) h
      · replace h := h.2 c12
        refine lv_aload_n (x := o) hx hb dX4_act_53 rfl (lv_at hl 0 rfl) ?_
        obtain ⟨kc14, ks15, g1, g2, h⟩ := h
        refine z_callv (z_runV (rest := []) [] pk_X4_start (met_X4_start co o kc14 ks15 _ h) X hB hB.2.2.2.2.2.2 q2844 kc_X4 (by decide) (z_fo hB ho (by decide)) rfl hl.1 (Nat.le_of_ble_eq_true rfl) dX4_act_54 (z_k1 hK1 g1) (z_k1 hK2 g2) (by decide) (by decide)) hB (fun _ h => h) (fun T16 I17 Q18 H locs h9 hF hB => ?_)
        replace h := h9
        clear h9
        replace h := h hF
        replace hK1 := z_k2 hK1 g1
        replace hK2 := z_k2 hK2 g2
        refine lv_goto (tgt := 110) hx hb dX4_act_57 (by decide) ?_
        exact ww_X4_act_110 X ho hoc  hB hK1 hK2 (lv_sub hl [] rfl) h
  · by_cases c2_1 : (I1 o 4) = 3
    · replace h := h.2.1 c2_1
      refine lv_lookup (off := 51) (tgt := 60) hx hb dX4_act_9 (by decide) (by rw [c2_1]; decide) (by decide) ?_
      refine lv_aload_n (x := o) hx hb dX4_act_60 rfl (lv_at hl 0 rfl) ?_
      obtain ⟨kc20, ks21, g1, g2, h⟩ := h
      refine z_callv (z_runV (rest := []) [] pk_X4_goOn (met_X4_goOn co o kc20 ks21 _ h) X hB hB.2.2.2.2.2.2 q2868 kc_X4 (by decide) (z_fo hB ho (by decide)) rfl hl.1 (Nat.le_of_ble_eq_true rfl) dX4_act_61 (z_k1 hK1 g1) (z_k1 hK2 g2) (by decide) (by decide)) hB (fun _ h => h) (fun T22 I23 Q24 H locs h9 hF hB => ?_)
      replace h := h9
      clear h9
      replace h := h hF
      replace hK1 := z_k2 hK1 g1
      replace hK2 := z_k2 hK2 g2
      refine lv_goto (tgt := 110) hx hb dX4_act_64 (by decide) ?_
      exact ww_X4_act_110 X ho hoc  hB hK1 hK2 (lv_sub hl [] rfl) h
    · replace h := h.2.2 c2_0 c2_1
      refine lv_lookup (off := 58) (tgt := 67) hx hb dX4_act_9 (by decide) (by rw [lv_osw c2_0 (a := 0) (by decide), lv_osw c2_1 (a := 3) (by decide)]; rfl) (by decide) ?_
      refine lv_aload_n (x := o) hx hb dX4_act_67 rfl (lv_at hl 0 rfl) ?_
      refine lv_dup hx hb dX4_act_68 rfl ?_
      refine z_geti X hB.1 kc_X4 in_X4 (j := 6) (Nat.le_of_ble_eq_true rfl) q1191 (fun _ h => h) rfl (by decide) (z_fo hB ho (by decide)) dX4_act_69 ?_
      refine lv_iconst (v := 1) hx hb dX4_act_72 (by decide) ?_
      refine lv_isub hx hb dX4_act_73 ?_
      obtain ⟨I25, eI25⟩ : ∃ z, z = z_up I1 o 6 ((I1 o 6) - 1) := ⟨_, rfl⟩
      replace h := h I25 eI25
      refine z_puti (x := ((I1 o 6) - 1)) eI25 tyX4 X hB kc_X4 in_X4 tyX4_ok nmX4 (j := 6) (Nat.le_of_ble_eq_true rfl) q1191 (fun _ h => h) rfl rfl (by decide) (z_fo hB ho (by decide)) (z_foc hB ho (by decide) hoc) rfl (Or.inl rfl) dX4_act_74 (fun H locs hB => ?_)
      refine lv_aload_n (x := o) hx hb dX4_act_77 rfl (lv_at hl 0 rfl) ?_
      refine z_geti X hB.1 kc_X4 in_X4 (j := 6) (Nat.le_of_ble_eq_true rfl) q1191 (fun _ h => h) rfl (by decide) (z_fo hB ho (by decide)) dX4_act_78 ?_
      refine lv_if_ne (tgt := 99) hx hb dX4_act_81 (by decide) (fun c26 => ?_) (fun c26 => ?_)
      · replace h := h.1 c26
        exact ww_X4_act_99 X ho hoc  hB hK1 hK2 (lv_sub hl [0] rfl) h
      · replace h := h.2 c26
        refine lv_aload_n (x := o) hx hb dX4_act_84 rfl (lv_at hl 0 rfl) ?_
        refine z_geti X hB.1 kc_X4 in_X4 (j := 4) (Nat.le_of_ble_eq_true rfl) q1187 (fun _ h => h) rfl (by decide) (z_fo hB ho (by decide)) dX4_act_85 ?_
        refine lv_iconst (v := 1) hx hb dX4_act_88 (by decide) ?_
        refine lv_icmp_ne (tgt := 99) hx hb dX4_act_89 (by decide) (fun c27 => ?_) (fun c27 => ?_)
        · replace h := h.1 c27
          exact ww_X4_act_99 X ho hoc  hB hK1 hK2 (lv_sub hl [0] rfl) h
        · replace h := h.2 c27
          refine lv_aload_n (x := o) hx hb dX4_act_92 rfl (lv_at hl 0 rfl) ?_
          obtain ⟨kc29, ks30, g1, g2, h⟩ := h
          refine z_callv (z_runV (rest := []) [] pk_X4_finishWork (met_X4_finishWork co o kc29 ks30 _ h) X hB hB.2.2.2.2.2.2 q2876 kc_X4 (by decide) (z_fo hB ho (by decide)) rfl hl.1 (Nat.le_of_ble_eq_true rfl) dX4_act_93 (z_k1 hK1 g1) (z_k1 hK2 g2) (by decide) (by decide)) hB (fun _ h => h) (fun T31 I32 Q33 H locs h9 hF hB => ?_)
          replace h := h9
          clear h9
          replace h := h hF
          replace hK1 := z_k2 hK1 g1
          replace hK2 := z_k2 hK2 g2
          refine lv_goto (tgt := 110) hx hb dX4_act_96 (by decide) ?_
          exact ww_X4_act_110 X ho hoc  hB hK1 hK2 (lv_sub hl [] rfl) h
theorem pk_X4_act : z_PV RX4 yX4_act cX4_act 1 none 0 := ⟨q2808, q2809, q130, q2810, by decide +kernel⟩
theorem met_X4_act {l : Launch} {G : z_E} {T : z_T} {I : z_I} {Q : z_Q} (co : Nat) (o : Nat) (kc : Nat) (ks : Nat) (Qk : z_T → z_I → z_Q → Prop) (h : wp_X4_act G.2.2 co T I Q o kc ks Qk) : z_GM l G yX4_act (ws_ yX4_act cX4_act 1 none) 24 469 kc ks [.ref o] (z_co co) T I Q (z_qv Qk) z_no := by
  obtain ⟨ho, hoc, h⟩ := h
  refine z_body (own := RX4) (nm := "act") (by decide +kernel) rfl rfl (Nat.le_of_ble_eq_true rfl) (fun p e R s m below meth c A ls X hB hl => ?_)
  exact ww_X4_act_0 X ho hoc hB z_k0 z_k0 hl h
/-! X4_count -/
theorem ww_X4_count_76 {co : Nat} {o : Nat} {k44 : z_T → z_I → z_Q → Int32 → Prop} {Qk : z_T → z_I → z_Q → Prop} (X : z_X l G A p R s m args meth c cX4_count 2 RX4 "count" none 0 0 10 161) (ho : (T0 o).1 = 4) (hoc : (T0 o).2.2 = co) (hk44 : ∀ {T : z_T} {I : z_I} {Q : z_Q} {x1 : Int32} {H : Heap} {locs : List Loc} {ls : Array Slot}, z_HB G (z_co co) A s.heap T0 I0 Q0 T I Q H locs → lv_has ls 2 [(0, .ref o), (1, .int x1)] → k44 T I Q x1 → W p l e R s m args below meth c H locs 0 0 (z_MQ below G (z_co co) A T0 I0 Q0 (z_qv Qk) z_no args s 0 0) (F0 m 44 ls [])) {T : z_T} {I : z_I} {Q : z_Q} {x1 : Int32} {s0 : Option Nat} {s1 : Int32} {s2 : Int32} {s3 : Int32} {H : Heap} {locs : List Loc} {ls : Array Slot} (hB : z_HB G (z_co co) A s.heap T0 I0 Q0 T I Q H locs) (hl : lv_has ls 2 [(0, .ref o), (1, .int x1)]) (h : wb_X4_count_76 co o k44 Qk T I Q x1 s0 s1 s2 s3) : W p l e R s m args below meth c H locs 0 0 (z_MQ below G (z_co co) A T0 I0 Q0 (z_qv Qk) z_no args s 0 0) (F0 m 76 ls [.int s3, .int s2, .int s1, va_rf s0]) := by
  obtain ⟨hx, hb, -⟩ := id X
  unfold wb_X4_count_76 at h
  refine lv_iadd hx hb dX4_count_76 ?_
  obtain ⟨a11, rfl, h⟩ := h
  obtain ⟨hk_a11, h⟩ := h
  obtain ⟨hc_a11, h⟩ := h
  obtain ⟨h1, h⟩ := h
  obtain ⟨I12, eI12⟩ : ∃ z, z = z_up I a11 s1.toNatClampNeg (s2 + s3) := ⟨_, rfl⟩
  replace h := h I12 eI12
  refine z_iast (x := (s2 + s3)) X hB hk_a11 hc_a11 h1 dX4_count_77 (fun H locs hB => ?_)
  rw [← eI12] at hB
  obtain ⟨y13, ey13⟩ : ∃ z : Int32, z = x1 + 1 := ⟨_, rfl⟩
  replace h := h y13 ey13
  refine lv_iinc (v := y13) (lv' := [(1, .int y13), (0, .ref o)]) hx hb dX4_count_78 hl (k := 1) rfl (by rw [ey13]; rfl) (by decide) rfl (fun ls hl9 => ?_)
  replace hl := hl9
  clear hl9
  refine lv_goto (tgt := 44) hx hb dX4_count_81 (by decide) ?_
  exact hk44 hB (lv_sub hl [1, 0] rfl) h
theorem wv_X4_count_44 {co : Nat} {o : Nat} {Qk : z_T → z_I → z_Q → Prop} (X : z_X l G A p R s m args meth c cX4_count 2 RX4 "count" none 0 0 10 161) (ho : (T0 o).1 = 4) (hoc : (T0 o).2.2 = co) : ∀ (n : Nat) {T : z_T} {I : z_I} {Q : z_Q} {x1 : Int32} {H : Heap} {locs : List Loc} {ls : Array Slot}, z_HB G (z_co co) A s.heap T0 I0 Q0 T I Q H locs → lv_has ls 2 [(0, .ref o), (1, .int x1)] → wl_X4_count_44 co o Qk n T I Q x1 → W p l e R s m args below meth c H locs 0 0 (z_MQ below G (z_co co) A T0 I0 Q0 (z_qv Qk) z_no args s 0 0) (F0 m 44 ls []) := by
  intro n
  induction n with
  | zero =>
    intro T I Q x1 H locs ls hB hl h
    exact h.elim
  | succ n ih =>
    intro T I Q x1 H locs ls hB hl h
    obtain ⟨hx, hb, -⟩ := id X
    unfold wl_X4_count_44 at h
    refine lv_iload_n hx hb dX4_count_44 rfl (lv_at hl 1 rfl) ?_
    refine lv_bipush (v := 8) hx hb dX4_count_45 (by decide) ?_
    refine lv_icmp_ge (tgt := 84) hx hb dX4_count_47 (by decide) (fun c5 => ?_) (fun c5 => ?_)
    · replace h := h.1 c5
      exact z_vret X hB ⟨rfl, h⟩ (Nat.le_refl 0) (Nat.le_refl 0) dX4_count_84
    · replace h := h.2 c5
      refine lv_aload_n (x := o) hx hb dX4_count_50 rfl (lv_at hl 0 rfl) ?_
      refine z_getq X hB.1 kc_X4 in_X4 (j := 13) (Nat.le_of_ble_eq_true rfl) q1204 (fun _ h => h) rfl (by decide) (z_fo hB ho (by decide)) dX4_count_51 ?_
      obtain ⟨a6, ea6, h⟩ := h
      refine z_stk (st' := [.ref a6]) (by rw [ea6] <;> rfl) ?_
      obtain ⟨hk_a6, h⟩ := h
      refine z_getqN X hB.1 kc_X2 in_X2 (j := 5) (Nat.le_of_ble_eq_true rfl) q1252 (fun _ h => h) rfl (by decide) hk_a6 dX4_count_54 ?_
      refine lv_iload_n hx hb dX4_count_57 rfl (lv_at hl 1 rfl) ?_
      refine lv_dup2_11 hx hb dX4_count_58 rfl z_cat ?_
      obtain ⟨a7, ea7, h⟩ := h
      refine z_stk (st' := [.int x1, .ref a7, .int x1, .ref a7]) (by rw [ea7] <;> rfl) ?_
      obtain ⟨hk_a7, h⟩ := h
      obtain ⟨h1, h⟩ := h
      refine z_iald X hB.1 hk_a7 h1 dX4_count_59 ?_
      refine lv_aload_n (x := o) hx hb dX4_count_60 rfl (lv_at hl 0 rfl) ?_
      refine z_callip (z_runV (rest := [.int (I a7 x1.toNatClampNeg), .int x1, .ref a7]) [] pk_X4_held (met_X4_held o _ h) X hB (fun h => h) q2765 kc_X4 (by decide) (z_fo hB ho (by decide)) rfl hl.1 (Nat.le_of_ble_eq_true rfl) dX4_count_61 (Nat.le_refl 0) (Nat.le_refl 0) (by decide) (by decide)) hB (fun r8 H locs h9 hB => ?_)
      replace h := h9
      clear h9
      refine lv_iload_n hx hb dX4_count_64 rfl (lv_at hl 1 rfl) ?_
      refine z_callzp (z_runSN (rest := [.int (I a7 x1.toNatClampNeg), .int x1, .ref a7]) [.int r8, .int x1] pk_X1_contains (met_X1_contains r8 x1 _ h) X hB (fun h => h) q2904 rfl hl.1 (Nat.le_of_ble_eq_true rfl) dX4_count_65 (Nat.le_refl 0) (Nat.le_refl 0) (by decide) (by decide)) hB (fun r9 H locs hz h9 hB => ?_)
      replace h := h9
      clear h9
      replace h := h hz
      refine lv_if_eq (tgt := 75) hx hb dX4_count_68 (by decide) (fun c10 => ?_) (fun c10 => ?_)
      · replace h := h.1 c10
        refine lv_iconst (v := 0) hx hb dX4_count_75 (by decide) ?_
        exact ww_X4_count_76 X ho hoc (fun hB hl h => ih hB hl h) hB (lv_sub hl [0, 1] rfl) h
      · replace h := h.2 c10
        refine lv_iconst (v := 1) hx hb dX4_count_71 (by decide) ?_
        refine lv_goto (tgt := 76) hx hb dX4_count_72 (by decide) ?_
        exact ww_X4_count_76 X ho hoc (fun hB hl h => ih hB hl h) hB (lv_sub hl [0, 1] rfl) h
theorem ww_X4_count_38 {co : Nat} {o : Nat} {Qk : z_T → z_I → z_Q → Prop} (X : z_X l G A p R s m args meth c cX4_count 2 RX4 "count" none 0 0 10 161) (ho : (T0 o).1 = 4) (hoc : (T0 o).2.2 = co) {T : z_T} {I : z_I} {Q : z_Q} {s1 : Int32} {s2 : Int32} {H : Heap} {locs : List Loc} {ls : Array Slot} (hB : z_HB G (z_co co) A s.heap T0 I0 Q0 T I Q H locs) (hl : lv_has ls 2 [(0, .ref o)]) (h : wb_X4_count_38 co o Qk T I Q s1 s2) : W p l e R s m args below meth c H locs 0 0 (z_MQ below G (z_co co) A T0 I0 Q0 (z_qv Qk) z_no args s 0 0) (F0 m 38 ls [.int s2, .int s1, .ref o]) := by
  obtain ⟨hx, hb, -⟩ := id X
  unfold wb_X4_count_38 at h
  refine lv_iadd hx hb dX4_count_38 ?_
  obtain ⟨I4, eI4⟩ : ∃ z, z = z_up I o 11 (s1 + s2) := ⟨_, rfl⟩
  replace h := h I4 eI4
  refine z_puti (x := (s1 + s2)) eI4 tyX4 X hB kc_X4 in_X4 tyX4_ok nmX4 (j := 11) (Nat.le_of_ble_eq_true rfl) q1201 (fun _ h => h) rfl rfl (by decide) (z_fo hB ho (by decide)) (z_foc hB ho (by decide) hoc) rfl (Or.inl rfl) dX4_count_39 (fun H locs hB => ?_)
  refine lv_iconst (v := 0) hx hb dX4_count_42 (by decide) ?_
  refine lv_istore_n (lv' := [(1, .int 0), (0, .ref o)]) hx hb dX4_count_43 rfl hl (by decide) rfl (fun ls hl9 => ?_)
  replace hl := hl9
  clear hl9
  obtain ⟨w, h⟩ := h
  exact wv_X4_count_44 X ho hoc  w hB (lv_sub hl [1, 0] rfl) h
theorem ww_X4_count_18 {co : Nat} {o : Nat} {Qk : z_T → z_I → z_Q → Prop} (X : z_X l G A p R s m args meth c cX4_count 2 RX4 "count" none 0 0 10 161) (ho : (T0 o).1 = 4) (hoc : (T0 o).2.2 = co) {T : z_T} {I : z_I} {Q : z_Q} {s1 : Int32} {H : Heap} {locs : List Loc} {ls : Array Slot} (hB : z_HB G (z_co co) A s.heap T0 I0 Q0 T I Q H locs) (hl : lv_has ls 2 [(0, .ref o)]) (h : wb_X4_count_18 co o Qk T I Q s1) : W p l e R s m args below meth c H locs 0 0 (z_MQ below G (z_co co) A T0 I0 Q0 (z_qv Qk) z_no args s 0 0) (F0 m 18 ls [.int s1, .ref o]) := by
  obtain ⟨hx, hb, -⟩ := id X
  unfold wb_X4_count_18 at h
  obtain ⟨I2, eI2⟩ : ∃ z, z = z_up I o 7 s1 := ⟨_, rfl⟩
  replace h := h I2 eI2
  refine z_puti (x := s1) eI2 tyX4 X hB kc_X4 in_X4 tyX4_ok nmX4 (j := 7) (Nat.le_of_ble_eq_true rfl) q1192 (fun _ h => h) rfl rfl (by decide) (z_fo hB ho (by decide)) (z_foc hB ho (by decide) hoc) rfl (Or.inl rfl) dX4_count_18 (fun H locs hB => ?_)
  refine lv_aload_n (x := o) hx hb dX4_count_21 rfl (lv_at hl 0 rfl) ?_
  refine lv_dup hx hb dX4_count_22 rfl ?_
  refine z_geti X hB.1 kc_X4 in_X4 (j := 11) (Nat.le_of_ble_eq_true rfl) q1201 (fun _ h => h) rfl (by decide) (z_fo hB ho (by decide)) dX4_count_23 ?_
  refine lv_aload_n (x := o) hx hb dX4_count_26 rfl (lv_at hl 0 rfl) ?_
  refine z_geti X hB.1 kc_X4 in_X4 (j := 4) (Nat.le_of_ble_eq_true rfl) q1187 (fun _ h => h) rfl (by decide) (z_fo hB ho (by decide)) dX4_count_27 ?_
  refine lv_if_ne (tgt := 37) hx hb dX4_count_30 (by decide) (fun c3 => ?_) (fun c3 => ?_)
  · replace h := h.1 c3
    refine lv_iconst (v := 1) hx hb dX4_count_37 (by decide) ?_
    exact ww_X4_count_38 X ho hoc  hB (lv_sub hl [0] rfl) h
  · replace h := h.2 c3
    refine lv_iconst (v := 0) hx hb dX4_count_33 (by decide) ?_
    refine lv_goto (tgt := 38) hx hb dX4_count_34 (by decide) ?_
    exact ww_X4_count_38 X ho hoc  hB (lv_sub hl [0] rfl) h
theorem ww_X4_count_0 {co : Nat} {o : Nat} {Qk : z_T → z_I → z_Q → Prop} (X : z_X l G A p R s m args meth c cX4_count 2 RX4 "count" none 0 0 10 161) (ho : (T0 o).1 = 4) (hoc : (T0 o).2.2 = co) {T : z_T} {I : z_I} {Q : z_Q} {H : Heap} {locs : List Loc} {ls : Array Slot} (hB : z_HB G (z_co co) A s.heap T0 I0 Q0 T I Q H locs) (hl : lv_has ls 2 [(0, .ref o)]) (h : wb_X4_count_0 co o Qk T I Q) : W p l e R s m args below meth c H locs 0 0 (z_MQ below G (z_co co) A T0 I0 Q0 (z_qv Qk) z_no args s 0 0) (F0 m 0 ls []) := by
  obtain ⟨hx, hb, -⟩ := id X
  unfold wb_X4_count_0 at h
  refine lv_aload_n (x := o) hx hb dX4_count_0 rfl (lv_at hl 0 rfl) ?_
  refine lv_aload_n (x := o) hx hb dX4_count_1 rfl (lv_at hl 0 rfl) ?_
  refine z_geti X hB.1 kc_X4 in_X4 (j := 12) (Nat.le_of_ble_eq_true rfl) q1203 (fun _ h => h) rfl (by decide) (z_fo hB ho (by decide)) dX4_count_2 ?_
  refine lv_if_eq (tgt := 17) hx hb dX4_count_5 (by decide) (fun c1 => ?_) (fun c1 => ?_)
  · replace h := h.1 c1
    refine lv_iconst (v := 0) hx hb dX4_count_17 (by decide) ?_
    exact ww_X4_count_18 X ho hoc  hB (lv_sub hl [0] rfl) h
  · replace h := h.2 c1
    refine lv_aload_n (x := o) hx hb dX4_count_8 rfl (lv_at hl 0 rfl) ?_
    refine z_geti X hB.1 kc_X4 in_X4 (j := 7) (Nat.le_of_ble_eq_true rfl) q1192 (fun _ h => h) rfl (by decide) (z_fo hB ho (by decide)) dX4_count_9 ?_
    refine lv_iconst (v := 1) hx hb dX4_count_12 (by decide) ?_
    refine lv_iadd hx hb dX4_count_13 ?_
    refine lv_goto (tgt := 18) hx hb dX4_count_14 (by decide) ?_
    exact ww_X4_count_18 X ho hoc  hB (lv_sub hl [0] rfl) h
theorem pk_X4_count : z_PV RX4 yX4_count cX4_count 2 none 0 := ⟨q2901, q2902, q130, q2903, by decide +kernel⟩
theorem met_X4_count {l : Launch} {G : z_E} {T : z_T} {I : z_I} {Q : z_Q} (co : Nat) (o : Nat) (Qk : z_T → z_I → z_Q → Prop) (h : wp_X4_count co T I Q o Qk) : z_GM l G yX4_count (ws_ yX4_count cX4_count 2 none) 10 161 0 0 [.ref o] (z_co co) T I Q (z_qv Qk) z_no := by
  obtain ⟨ho, hoc, h⟩ := h
  refine z_body (own := RX4) (nm := "count") (by decide +kernel) rfl rfl (Nat.le_of_ble_eq_true rfl) (fun p e R s m below meth c A ls X hB hl => ?_)
  exact ww_X4_count_0 X ho hoc hB hl h
/-! X2_tick -/
theorem wv_X2_tick_49 {co : Nat} {o : Nat} {Qk : z_T → z_I → z_Q → Prop} (X : z_X l G A p R s m args meth c cX2_tick 5 RX2 "tick" none mc ms 25 489) (ho : (T0 o).1 = 3) (hoc : (T0 o).2.2 = co) : ∀ (n : Nat) {cells slots : Nat} {T : z_T} {I : z_I} {Q : z_Q} {kc : Nat} {ks : Nat} {x1 : Option Nat} {x2 : Int32} {x3 : Int32} {H : Heap} {locs : List Loc} {ls : Array Slot}, z_HB G (z_co co) A s.heap T0 I0 Q0 T I Q H locs → cells + kc ≤ mc → slots + ks ≤ ms → lv_has ls 5 [(1, va_rf x1), (2, .int x2), (3, .int x3)] → wl_X2_tick_49 G.2.2 co o Qk n T I Q kc ks x1 x2 x3 → W p l e R s m args below meth c H locs cells slots (z_MQ below G (z_co co) A T0 I0 Q0 (z_qv Qk) z_no args s mc ms) (F0 m 49 ls []) := by
  intro n
  induction n with
  | zero =>
    intro cells slots T I Q kc ks x1 x2 x3 H locs ls hB hK1 hK2 hl h
    exact h.elim
  | succ n ih =>
    intro cells slots T I Q kc ks x1 x2 x3 H locs ls hB hK1 hK2 hl h
    obtain ⟨hx, hb, -⟩ := id X
    unfold wl_X2_tick_49 at h
    refine lv_iload_n hx hb dX2_tick_49 rfl (lv_at hl 2 rfl) ?_
    refine lv_iload_n hx hb dX2_tick_50 rfl (lv_at hl 1 rfl) ?_
    refine lv_icmp_ge (tgt := 70) hx hb dX2_tick_51 (by decide) (fun c25 => ?_) (fun c25 => ?_)
    · replace h := h.1 c25
      exact z_vret X hB ⟨rfl, h⟩ (z_k3 hK1) (z_k3 hK2) dX2_tick_70
    · replace h := h.2 c25
      refine z_aload_n (x := x1) hx hb dX2_tick_54 rfl (lv_at hl 0 rfl) ?_
      refine lv_iload_n hx hb dX2_tick_55 rfl (lv_at hl 2 rfl) ?_
      obtain ⟨a26, rfl, h⟩ := h
      obtain ⟨hk_a26, h⟩ := h
      obtain ⟨h1, h⟩ := h
      refine z_aald (k := 4) X hB.1 (by decide) hk_a26 h1 dX2_tick_56 ?_
      obtain ⟨y27, ey27⟩ : ∃ z : Option Nat, z = (Q a26 x3.toNatClampNeg) := ⟨_, rfl⟩
      replace h := h y27 ey27
      refine z_stk (st' := [va_rf y27]) (by rw [ey27]) ?_
      refine z_astore (x := y27) (lv' := [(4, va_rf y27), (1, .ref a26), (2, .int x2), (3, .int x3)]) hx hb dX2_tick_57 hl (by decide) rfl (fun ls hl9 => ?_)
      replace hl := hl9
      clear hl9
      refine z_aload (x := y27) hx hb dX2_tick_59 (lv_at hl 0 rfl) ?_
      obtain ⟨a28, rfl, h⟩ := h
      obtain ⟨hk_a28, h⟩ := h
      refine z_callv (z_runV (rest := []) [] pk_X4_count (met_X4_count co a28 _ h) X hB hB.2.2.2.2.2.2 q2900 kc_X4 (by decide) hk_a28 rfl hl.1 (Nat.le_of_ble_eq_true rfl) dX2_tick_61 (z_k4 hK1) (z_k4 hK2) (by decide) (by decide)) hB (fun _ h => h) (fun T30 I31 Q32 H locs h9 hF hB => ?_)
      replace h := h9
      clear h9
      replace h := h hF
      have hk_a26 := z_tk hF hk_a26 (by decide)
      have hk_a28 := z_tk hF hk_a28 (by decide)
      obtain ⟨y33, ey33⟩ : ∃ z : Int32, z = x3 + 1 := ⟨_, rfl⟩
      replace h := h y33 ey33
      refine lv_iinc (v := y33) (lv' := [(3, .int y33), (4, .ref a28), (1, .ref a26), (2, .int x2)]) hx hb dX2_tick_64 hl (k := 3) rfl (by rw [ey33]; rfl) (by decide) rfl (fun ls hl9 => ?_)
      replace hl := hl9
      clear hl9
      refine lv_goto (tgt := 49) hx hb dX2_tick_67 (by decide) ?_
      exact ih hB hK1 hK2 (lv_sub hl [2, 3, 0] rfl) h
theorem wv_X2_tick_15 {co : Nat} {o : Nat} {Qk : z_T → z_I → z_Q → Prop} (X : z_X l G A p R s m args meth c cX2_tick 5 RX2 "tick" none mc ms 25 489) (ho : (T0 o).1 = 3) (hoc : (T0 o).2.2 = co) : ∀ (n : Nat) {cells slots : Nat} {T : z_T} {I : z_I} {Q : z_Q} {kc : Nat} {ks : Nat} {x1 : Option Nat} {H : Heap} {locs : List Loc} {ls : Array Slot}, z_HB G (z_co co) A s.heap T0 I0 Q0 T I Q H locs → cells + kc ≤ mc → slots + ks ≤ ms → lv_has ls 5 [(0, .ref o), (1, va_rf x1)] → wl_X2_tick_15 G.2.2 co o Qk n T I Q kc ks x1 → W p l e R s m args below meth c H locs cells slots (z_MQ below G (z_co co) A T0 I0 Q0 (z_qv Qk) z_no args s mc ms) (F0 m 15 ls []) := by
  intro n
  induction n with
  | zero =>
    intro cells slots T I Q kc ks x1 H locs ls hB hK1 hK2 hl h
    exact h.elim
  | succ n ih =>
    intro cells slots T I Q kc ks x1 H locs ls hB hK1 hK2 hl h
    obtain ⟨hx, hb, -⟩ := id X
    unfold wl_X2_tick_15 at h
    refine z_aload_n (x := x1) hx hb dX2_tick_15 rfl (lv_at hl 1 rfl) ?_
    obtain ⟨a8, rfl, h⟩ := h
    refine z_call5zp (z_run_itHas (rest := []) h X hB q1490 hl.1 (Nat.le_of_ble_eq_true rfl) dX2_tick_16 (z_k4 hK1) (z_k4 hK2) (by decide) (by decide)) hB (fun r9 H locs hz h9 hB => ?_)
    replace h := h9
    clear h9
    replace h := h hz
    refine lv_if_eq (tgt := 39) hx hb dX2_tick_21 (by decide) (fun c10 => ?_) (fun c10 => ?_)
    · replace h := h.1 c10
      refine lv_aload_n (x := o) hx hb dX2_tick_39 rfl (lv_at hl 0 rfl) ?_
      refine z_getq X hB.1 kc_X2 in_X2 (j := 2) (Nat.le_of_ble_eq_true rfl) q1240 (fun _ h => h) rfl (by decide) (z_fo hB ho (by decide)) dX2_tick_40 ?_
      obtain ⟨y11, ey11⟩ : ∃ z : Option Nat, z = (Q o 2) := ⟨_, rfl⟩
      replace h := h y11 ey11
      refine z_stk (st' := [va_rf y11]) (by rw [ey11]) ?_
      refine z_astore_n (x := y11) (lv' := [(1, va_rf y11), (0, .ref o)]) hx hb dX2_tick_43 rfl hl (by decide) rfl (fun ls hl9 => ?_)
      replace hl := hl9
      clear hl9
      refine z_aload_n (x := y11) hx hb dX2_tick_44 rfl (lv_at hl 0 rfl) ?_
      obtain ⟨a12, rfl, h⟩ := h
      obtain ⟨hk_a12, h⟩ := h
      refine z_alen (k := 4) X hB.1 (by decide) hk_a12 dX2_tick_45 ?_
      refine lv_topi (fun y13 ey13 => ?_)
      replace h := h y13 ey13
      refine lv_istore_n (lv' := [(2, .int y13), (1, .ref a12), (0, .ref o)]) hx hb dX2_tick_46 rfl hl (by decide) rfl (fun ls hl9 => ?_)
      replace hl := hl9
      clear hl9
      refine lv_iconst (v := 0) hx hb dX2_tick_47 (by decide) ?_
      refine lv_istore_n (lv' := [(3, .int 0), (2, .int y13), (1, .ref a12), (0, .ref o)]) hx hb dX2_tick_48 rfl hl (by decide) rfl (fun ls hl9 => ?_)
      replace hl := hl9
      clear hl9
      obtain ⟨w, h⟩ := h
      exact wv_X2_tick_49 X ho hoc  w hB hK1 hK2 (lv_sub hl [2, 1, 0] rfl) h
    · replace h := h.2 c10
      refine lv_aload_n (x := a8) hx hb dX2_tick_24 rfl (lv_at hl 1 rfl) ?_
      refine z_call5r (z_run_itNext (rest := []) h X hB hB.2.2.2.2.2.2 q1524 hl.1 (Nat.le_of_ble_eq_true rfl) dX2_tick_25 (z_k4 hK1) (z_k4 hK2) (by decide) (by decide)) hB (fun _ h => h) (fun r14 T15 I16 Q17 H locs h9 hF hB => ?_)
      replace h := h9
      clear h9
      replace h := h hF
      obtain ⟨h2, h⟩ := h
      refine z_castR X hB.1 kc_X4 (by decide) h2 q1090 (Or.inl rfl) dX2_tick_30 ?_
      obtain ⟨a18, rfl, h⟩ := h
      obtain ⟨hk_a18, h⟩ := h
      obtain ⟨kc20, ks21, g1, g2, h⟩ := h
      refine z_callv (z_runV (rest := []) [] pk_X4_act (met_X4_act co a18 kc20 ks21 _ h) X hB hB.2.2.2.2.2.2 q2807 kc_X4 (by decide) hk_a18 rfl hl.1 (Nat.le_of_ble_eq_true rfl) dX2_tick_33 (z_k1 hK1 g1) (z_k1 hK2 g2) (by decide) (by decide)) hB (fun _ h => h) (fun T22 I23 Q24 H locs h9 hF hB => ?_)
      replace h := h9
      clear h9
      replace h := h hF
      replace hK1 := z_k2 hK1 g1
      replace hK2 := z_k2 hK2 g2
      refine lv_goto (tgt := 15) hx hb dX2_tick_36 (by decide) ?_
      exact ih hB hK1 hK2 (lv_sub hl [0, 1] rfl) h
theorem ww_X2_tick_0 {co : Nat} {o : Nat} {Qk : z_T → z_I → z_Q → Prop} (X : z_X l G A p R s m args meth c cX2_tick 5 RX2 "tick" none mc ms 25 489) (ho : (T0 o).1 = 3) (hoc : (T0 o).2.2 = co) {cells slots : Nat} {T : z_T} {I : z_I} {Q : z_Q} {kc : Nat} {ks : Nat} {H : Heap} {locs : List Loc} {ls : Array Slot} (hB : z_HB G (z_co co) A s.heap T0 I0 Q0 T I Q H locs) (hK1 : cells + kc ≤ mc) (hK2 : slots + ks ≤ ms) (hl : lv_has ls 5 [(0, .ref o)]) (h : wb_X2_tick_0 G.2.2 co o Qk T I Q kc ks) : W p l e R s m args below meth c H locs cells slots (z_MQ below G (z_co co) A T0 I0 Q0 (z_qv Qk) z_no args s mc ms) (F0 m 0 ls []) := by
  obtain ⟨hx, hb, -⟩ := id X
  unfold wb_X2_tick_0 at h
  refine lv_aload_n (x := o) hx hb dX2_tick_0 rfl (lv_at hl 0 rfl) ?_
  refine lv_dup hx hb dX2_tick_1 rfl ?_
  refine z_geti X hB.1 kc_X2 in_X2 (j := 6) (Nat.le_of_ble_eq_true rfl) q1253 (fun _ h => h) rfl (by decide) (z_fo hB ho (by decide)) dX2_tick_2 ?_
  refine lv_iconst (v := 1) hx hb dX2_tick_5 (by decide) ?_
  refine lv_iadd hx hb dX2_tick_6 ?_
  obtain ⟨I1, eI1⟩ : ∃ z, z = z_up I o 6 ((I o 6) + 1) := ⟨_, rfl⟩
  replace h := h I1 eI1
  refine z_puti (x := ((I o 6) + 1)) eI1 tyX2 X hB kc_X2 in_X2 tyX2_ok nmX2 (j := 6) (Nat.le_of_ble_eq_true rfl) q1253 (fun _ h => h) rfl rfl (by decide) (z_fo hB ho (by decide)) (z_foc hB ho (by decide) hoc) rfl (Or.inl rfl) dX2_tick_7 (fun H locs hB => ?_)
  refine lv_aload_n (x := o) hx hb dX2_tick_10 rfl (lv_at hl 0 rfl) ?_
  obtain ⟨kc3, ks4, g1, g2, h⟩ := h
  refine z_callr (z_runV (rest := []) [] pk_X2_acting (met_X2_acting co o kc3 ks4 _ h) X hB hB.2.2.2.2.2.2 q2787 kc_X2 (by decide) (z_fo hB ho (by decide)) rfl hl.1 (Nat.le_of_ble_eq_true rfl) dX2_tick_11 (z_k1 hK1 g1) (z_k1 hK2 g2) (by decide) (by decide)) hB (fun _ h => h) (fun r2 T5 I6 Q7 H locs h9 hF hB => ?_)
  replace h := h9
  clear h9
  replace h := h hF
  replace hK1 := z_k2 hK1 g1
  replace hK2 := z_k2 hK2 g2
  refine z_astore_n (x := r2) (lv' := [(1, va_rf r2), (0, .ref o)]) hx hb dX2_tick_14 rfl hl (by decide) rfl (fun ls hl9 => ?_)
  replace hl := hl9
  clear hl9
  obtain ⟨w, h⟩ := h
  exact wv_X2_tick_15 X ho hoc  w hB hK1 hK2 (lv_sub hl [1, 0] rfl) h
theorem pk_X2_tick : z_PV RX2 yX2_tick cX2_tick 5 none 0 := ⟨q2784, q2785, q95, q2786, by decide +kernel⟩
theorem met_X2_tick {l : Launch} {G : z_E} {T : z_T} {I : z_I} {Q : z_Q} (co : Nat) (o : Nat) (kc : Nat) (ks : Nat) (Qk : z_T → z_I → z_Q → Prop) (h : wp_X2_tick G.2.2 co T I Q o kc ks Qk) : z_GM l G yX2_tick (ws_ yX2_tick cX2_tick 5 none) 25 489 kc ks [.ref o] (z_co co) T I Q (z_qv Qk) z_no := by
  obtain ⟨ho, hoc, h⟩ := h
  refine z_body (own := RX2) (nm := "tick") (by decide +kernel) rfl rfl (Nat.le_of_ble_eq_true rfl) (fun p e R s m below meth c A ls X hB hl => ?_)
  exact ww_X2_tick_0 X ho hoc hB z_k0 z_k0 hl h
/-! X1_tickIn -/
theorem wv_X1_tickIn_17 {Qk : Int32 → z_T → z_I → z_Q → Prop} {Xk : String → Nat → z_T → z_I → z_Q → Prop} (X : z_X l G A p R s m args meth c cX1_tickIn 4 RX1 "tickIn" (some .int) mc ms 26 513) : ∀ (n : Nat) {cells slots : Nat} {T : z_T} {I : z_I} {Q : z_Q} {kc : Nat} {ks : Nat} {x0 : Option Nat} {x1 : Int32} {x2 : Int32} {x3 : Int32} {H : Heap} {locs : List Loc} {ls : Array Slot}, z_HB G z_PR A s.heap T0 I0 Q0 T I Q H locs → cells + kc ≤ mc → slots + ks ≤ ms → lv_has ls 4 [(0, va_rf x0), (1, .int x1), (2, .int x2), (3, .int x3)] → wl_X1_tickIn_17 G.2.2 Qk Xk n T I Q kc ks x0 x1 x2 x3 → W p l e R s m args below meth c H locs cells slots (z_MQ below G z_PR A T0 I0 Q0 (z_qi Qk) Xk args s mc ms) (F0 m 17 ls []) := by
  intro n
  induction n with
  | zero =>
    intro cells slots T I Q kc ks x0 x1 x2 x3 H locs ls hB hK1 hK2 hl h
    exact h.elim
  | succ n ih =>
    intro cells slots T I Q kc ks x0 x1 x2 x3 H locs ls hB hK1 hK2 hl h
    obtain ⟨hx, hb, -⟩ := id X
    unfold wl_X1_tickIn_17 at h
    refine lv_iload_n hx hb dX1_tickIn_17 rfl (lv_at hl 3 rfl) ?_
    refine lv_iload_n hx hb dX1_tickIn_18 rfl (lv_at hl 1 rfl) ?_
    refine lv_icmp_ge (tgt := 32) hx hb dX1_tickIn_19 (by decide) (fun c10 => ?_) (fun c10 => ?_)
    · replace h := h.1 c10
      refine z_aload_n (x := x0) hx hb dX1_tickIn_32 rfl (lv_at hl 0 rfl) ?_
      obtain ⟨a11, rfl, h⟩ := h
      obtain ⟨hk_a11, h⟩ := h
      refine z_getiN X hB.1 kc_X2 in_X2 (j := 9) (Nat.le_of_ble_eq_true rfl) q1262 (fun _ h => h) rfl (by decide) hk_a11 dX1_tickIn_33 ?_
      refine lv_iload_n hx hb dX1_tickIn_36 rfl (lv_at hl 2 rfl) ?_
      refine lv_isub hx hb dX1_tickIn_37 ?_
      exact z_iret X hB ⟨_, rfl, h⟩ (z_k3 hK1) (z_k3 hK2) dX1_tickIn_38
    · replace h := h.2 c10
      refine z_aload_n (x := x0) hx hb dX1_tickIn_22 rfl (lv_at hl 0 rfl) ?_
      obtain ⟨a12, rfl, h⟩ := h
      obtain ⟨hk_a12, h⟩ := h
      obtain ⟨co14, hco14, h⟩ := h
      obtain ⟨kc15, ks16, g1, g2, h⟩ := h
      refine z_callv (z_runV (rest := []) [] pk_X2_tick (met_X2_tick co14 a12 kc15 ks16 _ h) X hB (z_coR0 hco14) q2783 kc_X2 (by decide) hk_a12 rfl hl.1 (Nat.le_of_ble_eq_true rfl) dX1_tickIn_23 (z_k1 hK1 g1) (z_k1 hK2 g2) (by decide) (by decide)) hB (z_coR hco14) (fun T17 I18 Q19 H locs h9 hF hB => ?_)
      replace h := h9
      clear h9
      replace h := h hF
      have hk_a12 := z_tk hF hk_a12 (by decide)
      replace hK1 := z_k2 hK1 g1
      replace hK2 := z_k2 hK2 g2
      obtain ⟨y20, ey20⟩ : ∃ z : Int32, z = x3 + 1 := ⟨_, rfl⟩
      replace h := h y20 ey20
      refine lv_iinc (v := y20) (lv' := [(3, .int y20), (0, .ref a12), (1, .int x1), (2, .int x2)]) hx hb dX1_tickIn_26 hl (k := 3) rfl (by rw [ey20]; rfl) (by decide) rfl (fun ls hl9 => ?_)
      replace hl := hl9
      clear hl9
      refine lv_goto (tgt := 17) hx hb dX1_tickIn_29 (by decide) ?_
      exact ih hB hK1 hK2 (lv_sub hl [1, 2, 3, 0] rfl) h
theorem ww_X1_tickIn_0 {Qk : Int32 → z_T → z_I → z_Q → Prop} {Xk : String → Nat → z_T → z_I → z_Q → Prop} (X : z_X l G A p R s m args meth c cX1_tickIn 4 RX1 "tickIn" (some .int) mc ms 26 513) {cells slots : Nat} {T : z_T} {I : z_I} {Q : z_Q} {kc : Nat} {ks : Nat} {x0 : Option Nat} {x1 : Int32} {H : Heap} {locs : List Loc} {ls : Array Slot} (hB : z_HB G z_PR A s.heap T0 I0 Q0 T I Q H locs) (hK1 : cells + kc ≤ mc) (hK2 : slots + ks ≤ ms) (hl : lv_has ls 4 [(0, va_rf x0), (1, .int x1)]) (h : wb_X1_tickIn_0 G.2.2 Qk Xk T I Q kc ks x0 x1) : W p l e R s m args below meth c H locs cells slots (z_MQ below G z_PR A T0 I0 Q0 (z_qi Qk) Xk args s mc ms) (F0 m 0 ls []) := by
  obtain ⟨hx, hb, -⟩ := id X
  unfold wb_X1_tickIn_0 at h
  refine lv_iload_n hx hb dX1_tickIn_0 rfl (lv_at hl 1 rfl) ?_
  refine lv_iconst (v := 1) hx hb dX1_tickIn_1 (by decide) ?_
  refine lv_bipush (v := 50) hx hb dX1_tickIn_2 (by decide) ?_
  refine z_callzp (z_runS (rest := []) [.int x1, .int 1, .int 50] pk_X1_inRange (met_X1_inRange x1 1 50 _ h) X hB (fun h => h) q2390 rfl hl.1 (Nat.le_of_ble_eq_true rfl) dX1_tickIn_4 (z_k4 hK1) (z_k4 hK2) (by decide) (by decide)) hB (fun r1 H locs hz h9 hB => ?_)
  replace h := h9
  clear h9
  replace h := h hz
  obtain ⟨kc3, ks4, g1, g2, h⟩ := h
  refine z_callXv (z_runS (rest := []) [.int r1] pk_X1_checkArgument (met_X1_checkArgument r1 kc3 ks4 _ _ h) X hB hB.2.2.2.2.2.2 q2408 rfl hl.1 (Nat.le_of_ble_eq_true rfl) dX1_tickIn_7 (z_k1 hK1 g1) (z_k1 hK2 g2) (by decide) (by decide)) hB (fun _ h => h) (z_on (by decide +kernel) X (z_k1 hK1 g1) (z_k1 hK2 g2)) (fun T5 I6 Q7 H locs h9 hF hB => ?_)
  replace h := h9
  clear h9
  replace h := h hF
  replace hK1 := z_k2 hK1 g1
  replace hK2 := z_k2 hK2 g2
  refine z_aload_n (x := x0) hx hb dX1_tickIn_10 rfl (lv_at hl 0 rfl) ?_
  obtain ⟨a8, rfl, h⟩ := h
  obtain ⟨hk_a8, h⟩ := h
  refine z_getiN X hB.1 kc_X2 in_X2 (j := 9) (Nat.le_of_ble_eq_true rfl) q1262 (fun _ h => h) rfl (by decide) hk_a8 dX1_tickIn_11 ?_
  refine lv_topi (fun y9 ey9 => ?_)
  replace h := h y9 ey9
  refine lv_istore_n (lv' := [(2, .int y9), (0, .ref a8), (1, .int x1)]) hx hb dX1_tickIn_14 rfl hl (by decide) rfl (fun ls hl9 => ?_)
  replace hl := hl9
  clear hl9
  refine lv_iconst (v := 0) hx hb dX1_tickIn_15 (by decide) ?_
  refine lv_istore_n (lv' := [(3, .int 0), (2, .int y9), (0, .ref a8), (1, .int x1)]) hx hb dX1_tickIn_16 rfl hl (by decide) rfl (fun ls hl9 => ?_)
  replace hl := hl9
  clear hl9
  obtain ⟨w, h⟩ := h
  exact wv_X1_tickIn_17 X  w hB hK1 hK2 (lv_sub hl [2, 3, 1, 0] rfl) h
theorem pk_X1_tickIn : z_PS yX1_tickIn cX1_tickIn 4 (some .int) 2 := ⟨q2781, q94, q2782, by decide +kernel⟩
theorem met_X1_tickIn {l : Launch} {G : z_E} {T : z_T} {I : z_I} {Q : z_Q} (x0 : Option Nat) (x1 : Int32) (kc : Nat) (ks : Nat) (Qk : Int32 → z_T → z_I → z_Q → Prop) (Xk : String → Nat → z_T → z_I → z_Q → Prop) (h : wp_X1_tickIn G.2.2 T I Q x0 x1 kc ks Qk Xk) : z_GM l G yX1_tickIn (ws_ yX1_tickIn cX1_tickIn 4 (some .int)) 26 513 kc ks [va_rf x0, .int x1] z_PR T I Q (z_qi Qk) Xk := by
  refine z_body (own := RX1) (nm := "tickIn") (by decide +kernel) rfl rfl (by cases x0 <;> exact Nat.le_of_ble_eq_true rfl) (fun p e R s m below meth c A ls X hB hl => ?_)
  replace hl : lv_has ls 4 [(0, va_rf x0), (1, .int x1)] := by cases x0 <;> exact hl
  exact ww_X1_tickIn_0 X hB z_k0 z_k0 hl h
/-! X16_perform -/
theorem ww_X16_perform_0 {o : Nat} {Qk : z_T → z_I → z_Q → Prop} {Xk : String → Nat → z_T → z_I → z_Q → Prop} (X : z_X l G A p R s m args meth c cX16_perform 3 RX16 "perform" none mc ms 27 536) (ho : (T0 o).1 = 14) {cells slots : Nat} {T : z_T} {I : z_I} {Q : z_Q} {kc : Nat} {ks : Nat} {x1 : Option Nat} {H : Heap} {locs : List Loc} {ls : Array Slot} (hB : z_HB G z_PR A s.heap T0 I0 Q0 T I Q H locs) (hK1 : cells + kc ≤ mc) (hK2 : slots + ks ≤ ms) (hl : lv_has ls 3 [(0, .ref o), (1, va_rf x1)]) (h : wb_X16_perform_0 G.2.2 o Qk Xk T I Q kc ks x1) : W p l e R s m args below meth c H locs cells slots (z_MQ below G z_PR A T0 I0 Q0 (z_qv Qk) Xk args s mc ms) (F0 m 0 ls []) := by
  obtain ⟨hx, hb, -⟩ := id X
  unfold wb_X16_perform_0 at h
  refine z_aload_n (x := x1) hx hb dX16_perform_0 rfl (lv_at hl 1 rfl) ?_
  refine lv_aload_n (x := o) hx hb dX16_perform_1 rfl (lv_at hl 0 rfl) ?_
  refine z_geti X hB.1 kc_X16 in_X16 (j := 0) (Nat.le_of_ble_eq_true rfl) q3135 (fun _ h => h) rfl (by decide) (z_fo hB ho (by decide)) dX16_perform_2 ?_
  obtain ⟨kc2, ks3, g1, g2, h⟩ := h
  refine z_callXi (z_runSN (rest := []) [va_rf x1, .int (I o 0)] pk_X1_tickIn (met_X1_tickIn x1 (I o 0) kc2 ks3 _ _ h) X hB hB.2.2.2.2.2.2 q3175 rfl hl.1 (Nat.le_of_ble_eq_true rfl) dX16_perform_5 (z_k1 hK1 g1) (z_k1 hK2 g2) (by decide) (by decide)) hB (fun _ h => h) (z_on (by decide +kernel) X (z_k1 hK1 g1) (z_k1 hK2 g2)) (fun r1 T4 I5 Q6 H locs h9 hF hB => ?_)
  replace h := h9
  clear h9
  replace h := h hF
  replace hK1 := z_k2 hK1 g1
  replace hK2 := z_k2 hK2 g2
  refine lv_istore_n (i := 2) (lv' := [(2, .int r1), (0, .ref o), (1, va_rf x1)]) hx hb dX16_perform_8 rfl hl (by decide) (by simp [z_cat, z_rfs, z_catq]) (fun ls hl9 => ?_)
  replace hl := hl9
  clear hl9
  exact z_vret X hB ⟨rfl, h⟩ (z_k3 hK1) (z_k3 hK2) dX16_perform_9
theorem met_X16_perform {l : Launch} {G : z_E} {T : z_T} {I : z_I} {Q : z_Q} (o : Nat) (x1 : Option Nat) (kc : Nat) (ks : Nat) (Qk : z_T → z_I → z_Q → Prop) (Xk : String → Nat → z_T → z_I → z_Q → Prop) (h : wp_X16_perform G.2.2 T I Q o x1 kc ks Qk Xk) : z_GM l G yX16_perform (ws_ yX16_perform cX16_perform 3 none) 27 536 kc ks [.ref o, va_rf x1] z_PR T I Q (z_qv Qk) Xk := by
  obtain ⟨ho, h⟩ := h
  refine z_body (own := RX16) (nm := "perform") (by decide +kernel) rfl rfl (by cases x1 <;> exact Nat.le_of_ble_eq_true rfl) (fun p e R s m below meth c A ls X hB hl => ?_)
  replace hl : lv_has ls 3 [(0, .ref o), (1, va_rf x1)] := by cases x1 <;> exact hl
  exact ww_X16_perform_0 X ho hB z_k0 z_k0 hl h
/-! X16_init -/
theorem ww_X16_init_0 {o : Nat} {Qk : z_T → z_I → z_Q → Prop} (X : z_X l G A p R s m args meth c cX16_init 3 RX16 "<init>" none 0 0 9 140) (ho : (T0 o).1 = 14) (hoc : 3 ≤ (T0 o).2.2) {T : z_T} {I : z_I} {Q : z_Q} {x1 : Option Nat} {x2 : Int32} {H : Heap} {locs : List Loc} {ls : Array Slot} (hB : z_HB G z_PR A s.heap T0 I0 Q0 T I Q H locs) (hl : lv_has ls 3 [(0, .ref o), (1, va_rf x1), (2, .int x2)]) (h : wb_X16_init_0 o Qk T I Q x1 x2) : W p l e R s m args below meth c H locs 0 0 (z_MQ below G z_PR A T0 I0 Q0 (z_qv Qk) z_no args s 0 0) (F0 m 0 ls []) := by
  obtain ⟨hx, hb, -⟩ := id X
  unfold wb_X16_init_0 at h
  refine lv_aload_n (x := o) hx hb dX16_init_0 rfl (lv_at hl 0 rfl) ?_
  refine z_aload_n (x := x1) hx hb dX16_init_1 rfl (lv_at hl 1 rfl) ?_
  obtain ⟨Q1, eQ1⟩ : ∃ z, z = z_up Q o 1 x1 := ⟨_, rfl⟩
  replace h := h Q1 eQ1
  refine z_putqF (x := x1) eQ1 tyX16 X hB kc_X16 in_X16 tyX16_ok nmX16 (j := 1) (Nat.le_of_ble_eq_true rfl) q3136 (fun _ h => h) rfl rfl rfl (by decide) (z_fo hB ho (by decide)) (z_foc hB ho (by decide) hoc) rfl (Or.inl ⟨_, rfl⟩) dX16_init_2 (fun H locs hB => ?_)
  refine lv_aload_n (x := o) hx hb dX16_init_5 rfl (lv_at hl 0 rfl) ?_
  refine lv_iload_n hx hb dX16_init_6 rfl (lv_at hl 2 rfl) ?_
  obtain ⟨I2, eI2⟩ : ∃ z, z = z_up I o 0 x2 := ⟨_, rfl⟩
  replace h := h I2 eI2
  refine z_putiF (x := x2) eI2 tyX16 X hB kc_X16 in_X16 tyX16_ok nmX16 (j := 0) (Nat.le_of_ble_eq_true rfl) q3135 (fun _ h => h) rfl rfl rfl (by decide) (z_fo hB ho (by decide)) (z_foc hB ho (by decide) hoc) rfl (Or.inl rfl) dX16_init_7 (fun H locs hB => ?_)
  refine lv_aload_n (x := o) hx hb dX16_init_10 rfl (lv_at hl 0 rfl) ?_
  refine z_callvp (z_runIN (rest := []) [] pk_X14_init (met_X14_init o _ h) X hB (fun h => h) q3134 rfl hl.1 (Nat.le_of_ble_eq_true rfl) dX16_init_11 (Nat.le_refl 0) (Nat.le_refl 0) (by decide) (by decide)) hB (fun H locs h9 hB => ?_)
  replace h := h9
  clear h9
  exact z_vret X hB ⟨rfl, h⟩ (Nat.le_refl 0) (Nat.le_refl 0) dX16_init_14
theorem pk_X16_init : z_PI yX16_init cX16_init 3 2 := ⟨q3132, q162, q3133, rfl, by decide +kernel⟩
theorem met_X16_init {l : Launch} {G : z_E} {T : z_T} {I : z_I} {Q : z_Q} (o : Nat) (x1 : Option Nat) (x2 : Int32) (Qk : z_T → z_I → z_Q → Prop) (h : wp_X16_init T I Q o x1 x2 Qk) : z_GM l G yX16_init (ws_ yX16_init cX16_init 3 none) 9 140 0 0 [.ref o, va_rf x1, .int x2] z_PR T I Q (z_qv Qk) z_no := by
  obtain ⟨ho, hoc, h⟩ := h
  refine z_body (own := RX16) (nm := "<init>") (by decide +kernel) rfl rfl (by cases x1 <;> exact Nat.le_of_ble_eq_true rfl) (fun p e R s m below meth c A ls X hB hl => ?_)
  replace hl : lv_has ls 3 [(0, .ref o), (1, va_rf x1), (2, .int x2)] := by cases x1 <;> exact hl
  exact ww_X16_init_0 X ho hoc hB hl h
/-! J15_newLength -/
theorem ww_J15_newLength_21 {Qk : Int32 → Prop} (X : z_X l G A p R s m args meth c cJ15_newLength 4 RJ15 "newLength" (some .int) 0 0 8 120) {x0 : Int32} {x1 : Int32} {H : Heap} {locs : List Loc} {ls : Array Slot} (hB : z_HB G z_none A s.heap T I Q T I Q H locs) (hl : lv_has ls 4 [(0, .int x0), (1, .int x1)]) (h : wb_J15_newLength_21 Qk x0 x1) : W p l e R s m args below meth c H locs 0 0 (z_MQ below G z_none A T I Q (z_pi Qk T I Q) z_no args s 0 0) (F0 m 21 ls []) := by
  obtain ⟨hx, hb, -⟩ := id X
  unfold wb_J15_newLength_21 at h
  refine lv_iload_n hx hb dJ15_newLength_21 rfl (lv_at hl 0 rfl) ?_
  refine lv_iload_n hx hb dJ15_newLength_22 rfl (lv_at hl 1 rfl) ?_
  exact h.elim
theorem ww_J15_newLength_0 {Qk : Int32 → Prop} (X : z_X l G A p R s m args meth c cJ15_newLength 4 RJ15 "newLength" (some .int) 0 0 8 120) {x0 : Int32} {x1 : Int32} {x2 : Int32} {H : Heap} {locs : List Loc} {ls : Array Slot} (hB : z_HB G z_none A s.heap T I Q T I Q H locs) (hl : lv_has ls 4 [(0, .int x0), (1, .int x1), (2, .int x2)]) (h : wb_J15_newLength_0 Qk x0 x1 x2) : W p l e R s m args below meth c H locs 0 0 (z_MQ below G z_none A T I Q (z_pi Qk T I Q) z_no args s 0 0) (F0 m 0 ls []) := by
  obtain ⟨hx, hb, -⟩ := id X
  unfold wb_J15_newLength_0 at h
  refine lv_iload_n hx hb dJ15_newLength_0 rfl (lv_at hl 0 rfl) ?_
  refine lv_iload_n hx hb dJ15_newLength_1 rfl (lv_at hl 1 rfl) ?_
  refine lv_iload_n hx hb dJ15_newLength_2 rfl (lv_at hl 2 rfl) ?_
  refine z_mmax (rest := [.int x0]) X hl.1 q309 (by decide) (Nat.le_of_ble_eq_true rfl) (Nat.le_refl 0) (Nat.le_refl 0) dJ15_newLength_3 ?_
  refine lv_iadd hx hb dJ15_newLength_6 ?_
  refine lv_topi (fun y1 ey1 => ?_)
  replace h := h y1 ey1
  refine lv_istore_n (lv' := [(3, .int y1), (0, .int x0), (1, .int x1), (2, .int x2)]) hx hb dJ15_newLength_7 rfl hl (by decide) rfl (fun ls hl9 => ?_)
  replace hl := hl9
  clear hl9
  refine lv_iconst (v := 0) hx hb dJ15_newLength_8 (by decide) ?_
  refine lv_iload_n hx hb dJ15_newLength_9 rfl (lv_at hl 0 rfl) ?_
  refine lv_icmp_ge (tgt := 21) hx hb dJ15_newLength_10 (by decide) (fun c2 => ?_) (fun c2 => ?_)
  · replace h := h.1 c2
    exact ww_J15_newLength_21 X  hB (lv_sub hl [1, 2] rfl) h
  · replace h := h.2 c2
    refine lv_iload_n hx hb dJ15_newLength_13 rfl (lv_at hl 0 rfl) ?_
    refine lv_ldc hx hb X.2.2.2.1 (X.2.2.2.2.1 _ q312) dJ15_newLength_14 ?_
    refine lv_icmp_gt (tgt := 21) hx hb dJ15_newLength_16 (by decide) (fun c3 => ?_) (fun c3 => ?_)
    · replace h := h.1 c3
      exact ww_J15_newLength_21 X  hB (lv_sub hl [1, 2] rfl) h
    · replace h := h.2 c3
      refine lv_iload_n hx hb dJ15_newLength_19 rfl (lv_at hl 0 rfl) ?_
      exact z_iret X hB ⟨_, rfl, h, rfl, rfl, rfl⟩ (Nat.le_refl 0) (Nat.le_refl 0) dJ15_newLength_20
theorem pk_J15_newLength : z_PS yJ15_newLength cJ15_newLength 4 (some .int) 3 := ⟨q307, q111, q308, by decide +kernel⟩
theorem met_J15_newLength {l : Launch} {G : z_E} {T : z_T} {I : z_I} {Q : z_Q} (x0 : Int32) (x1 : Int32) (x2 : Int32) (Qk : Int32 → Prop) (h : wp_J15_newLength x0 x1 x2 Qk) : z_GM l G yJ15_newLength (ws_ yJ15_newLength cJ15_newLength 4 (some .int)) 8 120 0 0 [.int x0, .int x1, .int x2] z_none T I Q (z_pi Qk T I Q) z_no := by
  refine z_body (own := RJ15) (nm := "newLength") (by decide +kernel) rfl rfl (Nat.le_of_ble_eq_true rfl) (fun p e R s m below meth c A ls X hB hl => ?_)
  exact ww_J15_newLength_0 X hB hl h
/-! J30_grow_2 -/
theorem ww_J30_grow_2_20 {co : Nat} {o : Nat} {Qk : Option Nat → z_T → z_I → z_Q → Prop} (X : z_X l G A p R s m args meth c cJ30_grow_2 4 RJ30 "grow" (some (.array (.object "java/lang/Object"))) mc ms 10 164) (ho : (T0 o).1 = 19) (hoc : (T0 o).2.2 = co) {cells slots : Nat} {T : z_T} {I : z_I} {Q : z_Q} {kc : Nat} {ks : Nat} {x1 : Int32} {x2 : Int32} {H : Heap} {locs : List Loc} {ls : Array Slot} (hB : z_HB G (z_co co) A s.heap T0 I0 Q0 T I Q H locs) (hK1 : cells + kc ≤ mc) (hK2 : slots + ks ≤ ms) (hl : lv_has ls 4 [(0, .ref o), (1, .int x1), (2, .int x2)]) (h : wb_J30_grow_2_20 G.2.2 co o Qk T I Q kc ks x1 x2) : W p l e R s m args below meth c H locs cells slots (z_MQ below G (z_co co) A T0 I0 Q0 (z_qr Qk) z_no args s mc ms) (F0 m 20 ls []) := by
  obtain ⟨hx, hb, -⟩ := id X
  unfold wb_J30_grow_2_20 at h
  refine lv_iload_n hx hb dJ30_grow_2_20 rfl (lv_at hl 2 rfl) ?_
  refine lv_iload_n hx hb dJ30_grow_2_21 rfl (lv_at hl 1 rfl) ?_
  refine lv_iload_n hx hb dJ30_grow_2_22 rfl (lv_at hl 2 rfl) ?_
  refine lv_isub hx hb dJ30_grow_2_23 ?_
  refine lv_iload_n hx hb dJ30_grow_2_24 rfl (lv_at hl 2 rfl) ?_
  refine lv_iconst (v := 1) hx hb dJ30_grow_2_25 (by decide) ?_
  refine lv_ishr hx hb dJ30_grow_2_26 ?_
  refine z_callip (z_runS (rest := []) [.int x2, .int (x1 - x2), .int (x2 >>> ((1 : Int32) &&& 31))] pk_J15_newLength (met_J15_newLength x2 (x1 - x2) (x2 >>> ((1 : Int32) &&& 31)) _ h) X hB (fun h => h) q2325 rfl hl.1 (Nat.le_of_ble_eq_true rfl) dJ30_grow_2_27 (z_k4 hK1) (z_k4 hK2) (by decide) (by decide)) hB (fun r10 H locs h9 hB => ?_)
  replace h := h9
  clear h9
  refine lv_istore_n (lv' := [(3, .int r10), (0, .ref o), (1, .int x1), (2, .int x2)]) hx hb dJ30_grow_2_30 rfl hl (by decide) rfl (fun ls hl9 => ?_)
  replace hl := hl9
  clear hl9
  refine lv_aload_n (x := o) hx hb dJ30_grow_2_31 rfl (lv_at hl 1 rfl) ?_
  refine lv_aload_n (x := o) hx hb dJ30_grow_2_32 rfl (lv_at hl 1 rfl) ?_
  refine z_getq X hB.1 kc_J30 in_J30 (j := 1) (Nat.le_of_ble_eq_true rfl) q1103 (fun _ h => h) rfl (by decide) (z_fo hB ho (by decide)) dJ30_grow_2_33 ?_
  refine lv_iload_n hx hb dJ30_grow_2_36 rfl (lv_at hl 0 rfl) ?_
  obtain ⟨kc12, ks13, g1, g2, h⟩ := h
  refine z_callr (z_runS (rest := [.ref o]) [va_rf (Q o 1), .int r10] pk_J17_copyOf_2 (met_J17_copyOf_2 co (Q o 1) r10 kc12 ks13 _ h) X hB hB.2.2.2.2.2.2 q2326 rfl hl.1 (Nat.le_of_ble_eq_true rfl) dJ30_grow_2_37 (z_k1 hK1 g1) (z_k1 hK2 g2) (by decide) (by decide)) hB (fun _ h => h) (fun r11 T14 I15 Q16 H locs h9 hF hB => ?_)
  replace h := h9
  clear h9
  replace h := h hF
  replace hK1 := z_k2 hK1 g1
  replace hK2 := z_k2 hK2 g2
  refine lv_dup_x1 hx hb dJ30_grow_2_40 z_cat rfl ?_
  obtain ⟨Q17, eQ17⟩ : ∃ z, z = z_up Q16 o 1 r11 := ⟨_, rfl⟩
  replace h := h Q17 eQ17
  refine z_putq (x := r11) eQ17 tyJ30 X hB kc_J30 in_J30 tyJ30_ok nmJ30 (j := 1) (Nat.le_of_ble_eq_true rfl) q1103 (fun _ h => h) rfl rfl (by decide) (z_fo hB ho (by decide)) (z_foc hB ho (by decide) hoc) rfl (Or.inr ⟨_, rfl⟩) dJ30_grow_2_41 (fun H locs hB => ?_)
  exact z_aret (v := r11) X (by first | exact Or.inl ⟨_, rfl⟩ | exact Or.inr ⟨_, rfl⟩) hB ⟨_, rfl, h⟩ (z_k3 hK1) (z_k3 hK2) dJ30_grow_2_44
theorem ww_J30_grow_2_0 {co : Nat} {o : Nat} {Qk : Option Nat → z_T → z_I → z_Q → Prop} (X : z_X l G A p R s m args meth c cJ30_grow_2 4 RJ30 "grow" (some (.array (.object "java/lang/Object"))) mc ms 10 164) (ho : (T0 o).1 = 19) (hoc : (T0 o).2.2 = co) {cells slots : Nat} {T : z_T} {I : z_I} {Q : z_Q} {kc : Nat} {ks : Nat} {x1 : Int32} {H : Heap} {locs : List Loc} {ls : Array Slot} (hB : z_HB G (z_co co) A s.heap T0 I0 Q0 T I Q H locs) (hK1 : cells + kc ≤ mc) (hK2 : slots + ks ≤ ms) (hl : lv_has ls 4 [(0, .ref o), (1, .int x1)]) (h : wb_J30_grow_2_0 G.2.2 co o Qk T I Q kc ks x1) : W p l e R s m args below meth c H locs cells slots (z_MQ below G (z_co co) A T0 I0 Q0 (z_qr Qk) z_no args s mc ms) (F0 m 0 ls []) := by
  obtain ⟨hx, hb, -⟩ := id X
  unfold wb_J30_grow_2_0 at h
  refine lv_aload_n (x := o) hx hb dJ30_grow_2_0 rfl (lv_at hl 0 rfl) ?_
  refine z_getq X hB.1 kc_J30 in_J30 (j := 1) (Nat.le_of_ble_eq_true rfl) q1103 (fun _ h => h) rfl (by decide) (z_fo hB ho (by decide)) dJ30_grow_2_1 ?_
  obtain ⟨a1, ea1, h⟩ := h
  refine z_stk (st' := [.ref a1]) (by rw [ea1] <;> rfl) ?_
  obtain ⟨hk_a1, h⟩ := h
  refine z_alen (k := 2) X hB.1 (by decide) hk_a1 dJ30_grow_2_4 ?_
  refine lv_topi (fun y2 ey2 => ?_)
  replace h := h y2 ey2
  refine lv_istore_n (lv' := [(2, .int y2), (0, .ref o), (1, .int x1)]) hx hb dJ30_grow_2_5 rfl hl (by decide) rfl (fun ls hl9 => ?_)
  replace hl := hl9
  clear hl9
  refine lv_iload_n hx hb dJ30_grow_2_6 rfl (lv_at hl 0 rfl) ?_
  refine lv_if_gt (tgt := 20) hx hb dJ30_grow_2_7 (by decide) (fun c3 => ?_) (fun c3 => ?_)
  · replace h := h.1 c3
    exact ww_J30_grow_2_20 X ho hoc  hB hK1 hK2 (lv_sub hl [1, 2, 0] rfl) h
  · replace h := h.2 c3
    refine lv_aload_n (x := o) hx hb dJ30_grow_2_10 rfl (lv_at hl 1 rfl) ?_
    refine z_getq X hB.1 kc_J30 in_J30 (j := 1) (Nat.le_of_ble_eq_true rfl) q1103 (fun _ h => h) rfl (by decide) (z_fo hB ho (by decide)) dJ30_grow_2_11 ?_
    refine z_stk (st' := [.ref a1]) (by rw [ea1] <;> rfl) ?_
    refine z_gete0 X hB q1101 dJ30_grow_2_14 ?_
    refine lv_acmp_eq (rx := (some a1)) (ry := (some G.2.2.1.1)) (tgt := 45) hx hb dJ30_grow_2_17 (by decide) (fun c4 => ?_) (fun c4 => ?_)
    · replace h := h.1 c4
      refine lv_aload_n (x := o) hx hb dJ30_grow_2_45 rfl (lv_at hl 1 rfl) ?_
      refine lv_bipush (v := 10) hx hb dJ30_grow_2_46 (by decide) ?_
      refine lv_iload_n hx hb dJ30_grow_2_48 rfl (lv_at hl 2 rfl) ?_
      refine z_mmax (rest := [.ref o]) X hl.1 q2327 (by decide) (Nat.le_of_ble_eq_true rfl) (z_k3 hK1) (z_k3 hK2) dJ30_grow_2_49 ?_
      obtain ⟨g3, g4, h⟩ := h
      obtain ⟨g1, g2, h⟩ := h
      refine z_newq (k := 2) (n := (if (10 : Int32) < x1 then x1 else (10 : Int32)).toNatClampNeg) (col := co) X hB (by decide) q2328 g3 rfl g4 rfl (z_k1 hK1 g1) (z_k1 hK2 g2) dJ30_grow_2_52 (fun a5 H hq hB => ?_)
      obtain ⟨T6, eT6⟩ : ∃ z, z = z_t T a5 (102, (if (10 : Int32) < x1 then x1 else (10 : Int32)).toNatClampNeg, co) := ⟨_, rfl⟩
      obtain ⟨I7, eI7⟩ : ∃ z, z = z_row I a5 (fun _ => 0) := ⟨_, rfl⟩
      obtain ⟨Q8, eQ8⟩ : ∃ z, z = z_row Q a5 (fun _ => none) := ⟨_, rfl⟩
      rw [← eT6, ← eI7, ← eQ8] at hB
      replace h := h a5 T6 I7 Q8 hq eT6 eI7 eQ8
      have hk_a5 := z_tq eT6
      have hc_a5 : (T6 a5).2.2 = co := by rw [z_tqc eT6]
      replace hK1 := z_k2 hK1 g1
      replace hK2 := z_k2 hK2 g2
      refine lv_dup_x1 hx hb dJ30_grow_2_55 rfl rfl ?_
      obtain ⟨Q9, eQ9⟩ : ∃ z, z = z_up Q8 o 1 (some a5) := ⟨_, rfl⟩
      replace h := h Q9 eQ9
      refine z_putq (x := (some a5)) eQ9 tyJ30 X hB kc_J30 in_J30 tyJ30_ok nmJ30 (j := 1) (Nat.le_of_ble_eq_true rfl) q1103 (fun _ h => h) rfl rfl (by decide) (z_fo hB ho (by decide)) (z_foc hB ho (by decide) hoc) rfl (Or.inr ⟨_, rfl⟩) dJ30_grow_2_56 (fun H locs hB => ?_)
      exact z_aret (v := (some a5)) X (by first | exact Or.inl ⟨_, rfl⟩ | exact Or.inr ⟨_, rfl⟩) hB ⟨_, rfl, h⟩ (z_k3 hK1) (z_k3 hK2) dJ30_grow_2_59
    · replace h := h.2 c4
      exact ww_J30_grow_2_20 X ho hoc  hB hK1 hK2 (lv_sub hl [1, 2, 0] rfl) h
theorem pk_J30_grow_2 : z_PV RJ30 yJ30_grow_2 cJ30_grow_2 4 (some (.array (.object "java/lang/Object"))) 1 := ⟨q2323, qs22, q127, q2324, by decide +kernel⟩
theorem met_J30_grow_2 {l : Launch} {G : z_E} {T : z_T} {I : z_I} {Q : z_Q} (co : Nat) (o : Nat) (x1 : Int32) (kc : Nat) (ks : Nat) (Qk : Option Nat → z_T → z_I → z_Q → Prop) (h : wp_J30_grow_2 G.2.2 co T I Q o x1 kc ks Qk) : z_GM l G yJ30_grow_2 (ws_ yJ30_grow_2 cJ30_grow_2 4 (some (.array (.object "java/lang/Object")))) 10 164 kc ks [.ref o, .int x1] (z_co co) T I Q (z_qr Qk) z_no := by
  obtain ⟨ho, hoc, h⟩ := h
  refine z_body (own := RJ30) (nm := "grow") (by decide +kernel) rfl rfl (Nat.le_of_ble_eq_true rfl) (fun p e R s m below meth c A ls X hB hl => ?_)
  exact ww_J30_grow_2_0 X ho hoc hB z_k0 z_k0 hl h
/-! J30_grow -/
theorem ww_J30_grow_0 {co : Nat} {o : Nat} {Qk : Option Nat → z_T → z_I → z_Q → Prop} (X : z_X l G A p R s m args meth c cJ30_grow 1 RJ30 "grow" (some (.array (.object "java/lang/Object"))) mc ms 11 187) (ho : (T0 o).1 = 19) {cells slots : Nat} {T : z_T} {I : z_I} {Q : z_Q} {kc : Nat} {ks : Nat} {H : Heap} {locs : List Loc} {ls : Array Slot} (hB : z_HB G (z_co co) A s.heap T0 I0 Q0 T I Q H locs) (hK1 : cells + kc ≤ mc) (hK2 : slots + ks ≤ ms) (hl : lv_has ls 1 [(0, .ref o)]) (h : wb_J30_grow_0 G.2.2 co o Qk T I Q kc ks) : W p l e R s m args below meth c H locs cells slots (z_MQ below G (z_co co) A T0 I0 Q0 (z_qr Qk) z_no args s mc ms) (F0 m 0 ls []) := by
  obtain ⟨hx, hb, -⟩ := id X
  unfold wb_J30_grow_0 at h
  refine lv_aload_n (x := o) hx hb dJ30_grow_0 rfl (lv_at hl 0 rfl) ?_
  refine lv_aload_n (x := o) hx hb dJ30_grow_1 rfl (lv_at hl 0 rfl) ?_
  refine z_geti X hB.1 kc_J30 in_J30 (j := 2) (Nat.le_of_ble_eq_true rfl) q1106 (fun _ h => h) rfl (by decide) (z_fo hB ho (by decide)) dJ30_grow_2 ?_
  refine lv_iconst (v := 1) hx hb dJ30_grow_5 (by decide) ?_
  refine lv_iadd hx hb dJ30_grow_6 ?_
  obtain ⟨kc2, ks3, g1, g2, h⟩ := h
  refine z_callr (z_runV (rest := []) [.int ((I o 2) + 1)] pk_J30_grow_2 (met_J30_grow_2 co o ((I o 2) + 1) kc2 ks3 _ h) X hB hB.2.2.2.2.2.2 q2321 kc_J30 (by decide) (z_fo hB ho (by decide)) rfl hl.1 (Nat.le_of_ble_eq_true rfl) dJ30_grow_7 (z_k1 hK1 g1) (z_k1 hK2 g2) (by decide) (by decide)) hB (fun _ h => h) (fun r1 T4 I5 Q6 H locs h9 hF hB => ?_)
  replace h := h9
  clear h9
  replace h := h hF
  replace hK1 := z_k2 hK1 g1
  replace hK2 := z_k2 hK2 g2
  exact z_aret (v := r1) X (by first | exact Or.inl ⟨_, rfl⟩ | exact Or.inr ⟨_, rfl⟩) hB ⟨_, rfl, h⟩ (z_k3 hK1) (z_k3 hK2) dJ30_grow_10
theorem pk_J30_grow : z_PV RJ30 yJ30_grow cJ30_grow 1 (some (.array (.object "java/lang/Object"))) 0 := ⟨q2319, qs21, q127, q2320, by decide +kernel⟩
theorem met_J30_grow {l : Launch} {G : z_E} {T : z_T} {I : z_I} {Q : z_Q} (co : Nat) (o : Nat) (kc : Nat) (ks : Nat) (Qk : Option Nat → z_T → z_I → z_Q → Prop) (h : wp_J30_grow G.2.2 co T I Q o kc ks Qk) : z_GM l G yJ30_grow (ws_ yJ30_grow cJ30_grow 1 (some (.array (.object "java/lang/Object")))) 11 187 kc ks [.ref o] (z_co co) T I Q (z_qr Qk) z_no := by
  obtain ⟨ho, h⟩ := h
  refine z_body (own := RJ30) (nm := "grow") (by decide +kernel) rfl rfl (Nat.le_of_ble_eq_true rfl) (fun p e R s m below meth c A ls X hB hl => ?_)
  exact ww_J30_grow_0 X ho hB z_k0 z_k0 hl h
/-! J30_add_2 -/
theorem ww_J30_add_2_11 {co : Nat} {o : Nat} {Qk : z_T → z_I → z_Q → Prop} (X : z_X l G A p R s m args meth c cJ30_add_2 4 RJ30 "add" none mc ms 12 207) (ho : (T0 o).1 = 19) (hoc : (T0 o).2.2 = co) {cells slots : Nat} {T : z_T} {I : z_I} {Q : z_Q} {kc : Nat} {ks : Nat} {x1 : Option Nat} {x2 : Option Nat} {x3 : Int32} {H : Heap} {locs : List Loc} {ls : Array Slot} (hB : z_HB G (z_co co) A s.heap T0 I0 Q0 T I Q H locs) (hK1 : cells + kc ≤ mc) (hK2 : slots + ks ≤ ms) (hl : lv_has ls 4 [(0, .ref o), (1, va_rf x1), (2, va_rf x2), (3, .int x3)]) (h : wb_J30_add_2_11 G.2.2 co o Qk T I Q kc ks x1 x2 x3) : W p l e R s m args below meth c H locs cells slots (z_MQ below G (z_co co) A T0 I0 Q0 (z_qv Qk) z_no args s mc ms) (F0 m 11 ls []) := by
  obtain ⟨hx, hb, -⟩ := id X
  unfold wb_J30_add_2_11 at h
  refine z_aload_n (x := x2) hx hb dJ30_add_2_11 rfl (lv_at hl 2 rfl) ?_
  refine lv_iload_n hx hb dJ30_add_2_12 rfl (lv_at hl 3 rfl) ?_
  refine z_aload_n (x := x1) hx hb dJ30_add_2_13 rfl (lv_at hl 1 rfl) ?_
  obtain ⟨a9, rfl, h⟩ := h
  obtain ⟨hk_a9, h⟩ := h
  obtain ⟨hc_a9, h⟩ := h
  obtain ⟨h1, h⟩ := h
  obtain ⟨h2, h⟩ := h
  obtain ⟨Q10, eQ10⟩ : ∃ z, z = z_up Q a9 x3.toNatClampNeg x1 := ⟨_, rfl⟩
  replace h := h Q10 eQ10
  refine z_aastX (k := 2) (x := x1) X hB (by decide) hk_a9 hc_a9 h1 h2 dJ30_add_2_14 (fun H locs hB => ?_)
  rw [← eQ10] at hB
  refine lv_aload_n (x := o) hx hb dJ30_add_2_15 rfl (lv_at hl 0 rfl) ?_
  refine lv_iload_n hx hb dJ30_add_2_16 rfl (lv_at hl 3 rfl) ?_
  refine lv_iconst (v := 1) hx hb dJ30_add_2_17 (by decide) ?_
  refine lv_iadd hx hb dJ30_add_2_18 ?_
  obtain ⟨I11, eI11⟩ : ∃ z, z = z_up I o 2 (x3 + 1) := ⟨_, rfl⟩
  replace h := h I11 eI11
  refine z_puti (x := (x3 + 1)) eI11 tyJ30 X hB kc_J30 in_J30 tyJ30_ok nmJ30 (j := 2) (Nat.le_of_ble_eq_true rfl) q1106 (fun _ h => h) rfl rfl (by decide) (z_fo hB ho (by decide)) (z_foc hB ho (by decide) hoc) rfl (Or.inl rfl) dJ30_add_2_19 (fun H locs hB => ?_)
  exact z_vret X hB ⟨rfl, h⟩ (z_k3 hK1) (z_k3 hK2) dJ30_add_2_22
theorem ww_J30_add_2_0 {co : Nat} {o : Nat} {Qk : z_T → z_I → z_Q → Prop} (X : z_X l G A p R s m args meth c cJ30_add_2 4 RJ30 "add" none mc ms 12 207) (ho : (T0 o).1 = 19) (hoc : (T0 o).2.2 = co) {cells slots : Nat} {T : z_T} {I : z_I} {Q : z_Q} {kc : Nat} {ks : Nat} {x1 : Option Nat} {x2 : Option Nat} {x3 : Int32} {H : Heap} {locs : List Loc} {ls : Array Slot} (hB : z_HB G (z_co co) A s.heap T0 I0 Q0 T I Q H locs) (hK1 : cells + kc ≤ mc) (hK2 : slots + ks ≤ ms) (hl : lv_has ls 4 [(0, .ref o), (1, va_rf x1), (2, va_rf x2), (3, .int x3)]) (h : wb_J30_add_2_0 G.2.2 co o Qk T I Q kc ks x1 x2 x3) : W p l e R s m args below meth c H locs cells slots (z_MQ below G (z_co co) A T0 I0 Q0 (z_qv Qk) z_no args s mc ms) (F0 m 0 ls []) := by
  obtain ⟨hx, hb, -⟩ := id X
  unfold wb_J30_add_2_0 at h
  refine lv_iload_n hx hb dJ30_add_2_0 rfl (lv_at hl 3 rfl) ?_
  refine z_aload_n (x := x2) hx hb dJ30_add_2_1 rfl (lv_at hl 2 rfl) ?_
  obtain ⟨a1, rfl, h⟩ := h
  obtain ⟨hk_a1, h⟩ := h
  refine z_alen (k := 2) X hB.1 (by decide) hk_a1 dJ30_add_2_2 ?_
  refine lv_icmp_ne (tgt := 11) hx hb dJ30_add_2_3 (by decide) (fun c2 => ?_) (fun c2 => ?_)
  · replace h := h.1 c2
    exact ww_J30_add_2_11 X ho hoc  hB hK1 hK2 (lv_sub hl [0, 1, 2, 3] rfl) h
  · replace h := h.2 c2
    refine lv_aload_n (x := o) hx hb dJ30_add_2_6 rfl (lv_at hl 0 rfl) ?_
    obtain ⟨kc4, ks5, g1, g2, h⟩ := h
    refine z_callr (z_runV (rest := []) [] pk_J30_grow (met_J30_grow co o kc4 ks5 _ h) X hB hB.2.2.2.2.2.2 q2317 kc_J30 (by decide) (z_fo hB ho (by decide)) rfl hl.1 (Nat.le_of_ble_eq_true rfl) dJ30_add_2_7 (z_k1 hK1 g1) (z_k1 hK2 g2) (by decide) (by decide)) hB (fun _ h => h) (fun r3 T6 I7 Q8 H locs h9 hF hB => ?_)
    replace h := h9
    clear h9
    replace h := h hF
    have hk_a1 := z_tk hF hk_a1 (by decide)
    replace hK1 := z_k2 hK1 g1
    replace hK2 := z_k2 hK2 g2
    refine z_astore_n (i := 2) (x := r3) (lv' := [(2, va_rf r3), (0, .ref o), (1, va_rf x1), (3, .int x3)]) hx hb dJ30_add_2_10 rfl hl (by decide) (by simp [z_cat, z_rfs, z_catq]) (fun ls hl9 => ?_)
    replace hl := hl9
    clear hl9
    exact ww_J30_add_2_11 X ho hoc  hB hK1 hK2 (lv_sub hl [1, 2, 0, 3] rfl) h
theorem pk_J30_add_2 : z_PV RJ30 yJ30_add_2 cJ30_add_2 4 none 3 := ⟨q2315, qs20, q127, q2316, by decide +kernel⟩
theorem met_J30_add_2 {l : Launch} {G : z_E} {T : z_T} {I : z_I} {Q : z_Q} (co : Nat) (o : Nat) (x1 : Option Nat) (x2 : Option Nat) (x3 : Int32) (kc : Nat) (ks : Nat) (Qk : z_T → z_I → z_Q → Prop) (h : wp_J30_add_2 G.2.2 co T I Q o x1 x2 x3 kc ks Qk) : z_GM l G yJ30_add_2 (ws_ yJ30_add_2 cJ30_add_2 4 none) 12 207 kc ks [.ref o, va_rf x1, va_rf x2, .int x3] (z_co co) T I Q (z_qv Qk) z_no := by
  obtain ⟨ho, hoc, h⟩ := h
  refine z_body (own := RJ30) (nm := "add") (by decide +kernel) rfl rfl (by cases x1 <;> cases x2 <;> exact Nat.le_of_ble_eq_true rfl) (fun p e R s m below meth c A ls X hB hl => ?_)
  replace hl : lv_has ls 4 [(0, .ref o), (1, va_rf x1), (2, va_rf x2), (3, .int x3)] := by cases x1 <;> cases x2 <;> exact hl
  exact ww_J30_add_2_0 X ho hoc hB z_k0 z_k0 hl h
/-! J30_add -/
theorem ww_J30_add_0 {co : Nat} {o : Nat} {Qk : Int32 → z_T → z_I → z_Q → Prop} (X : z_X l G A p R s m args meth c cJ30_add 2 RJ30 "add" (some .boolean) mc ms 13 230) (ho : (T0 o).1 = 19) (hoc : (T0 o).2.2 = co) {cells slots : Nat} {T : z_T} {I : z_I} {Q : z_Q} {kc : Nat} {ks : Nat} {x1 : Option Nat} {H : Heap} {locs : List Loc} {ls : Array Slot} (hB : z_HB G (z_co co) A s.heap T0 I0 Q0 T I Q H locs) (hK1 : cells + kc ≤ mc) (hK2 : slots + ks ≤ ms) (hl : lv_has ls 2 [(0, .ref o), (1, va_rf x1)]) (h : wb_J30_add_0 G.2.2 co o Qk T I Q kc ks x1) : W p l e R s m args below meth c H locs cells slots (z_MQ below G (z_co co) A T0 I0 Q0 (z_qz Qk) z_no args s mc ms) (F0 m 0 ls []) := by
  obtain ⟨hx, hb, -⟩ := id X
  unfold wb_J30_add_0 at h
  refine lv_aload_n (x := o) hx hb dJ30_add_0 rfl (lv_at hl 0 rfl) ?_
  refine lv_dup hx hb dJ30_add_1 rfl ?_
  refine z_geti X hB.1 kc_J30 in_J30 (j := 0) (Nat.le_of_ble_eq_true rfl) q1110 (z_same X q1109) rfl (by decide) (z_fo hB ho (by decide)) dJ30_add_2 ?_
  refine lv_iconst (v := 1) hx hb dJ30_add_5 (by decide) ?_
  refine lv_iadd hx hb dJ30_add_6 ?_
  obtain ⟨I1, eI1⟩ : ∃ z, z = z_up I o 0 ((I o 0) + 1) := ⟨_, rfl⟩
  replace h := h I1 eI1
  refine z_puti (x := ((I o 0) + 1)) eI1 tyJ30 X hB kc_J30 in_J30 tyJ30_ok nmJ30 (j := 0) (Nat.le_of_ble_eq_true rfl) q1110 (z_same X q1109) rfl rfl (by decide) (z_fo hB ho (by decide)) (z_foc hB ho (by decide) hoc) rfl (Or.inl rfl) dJ30_add_7 (fun H locs hB => ?_)
  refine lv_aload_n (x := o) hx hb dJ30_add_10 rfl (lv_at hl 0 rfl) ?_
  refine z_aload_n (x := x1) hx hb dJ30_add_11 rfl (lv_at hl 1 rfl) ?_
  refine lv_aload_n (x := o) hx hb dJ30_add_12 rfl (lv_at hl 0 rfl) ?_
  refine z_getq X hB.1 kc_J30 in_J30 (j := 1) (Nat.le_of_ble_eq_true rfl) q1103 (fun _ h => h) rfl (by decide) (z_fo hB ho (by decide)) dJ30_add_13 ?_
  refine lv_aload_n (x := o) hx hb dJ30_add_16 rfl (lv_at hl 0 rfl) ?_
  refine z_geti X hB.1 kc_J30 in_J30 (j := 2) (Nat.le_of_ble_eq_true rfl) q1106 (fun _ h => h) rfl (by decide) (z_fo hB ho (by decide)) dJ30_add_17 ?_
  obtain ⟨kc3, ks4, g1, g2, h⟩ := h
  refine z_callv (z_runV (rest := []) [va_rf x1, va_rf (Q o 1), .int (I1 o 2)] pk_J30_add_2 (met_J30_add_2 co o x1 (Q o 1) (I1 o 2) kc3 ks4 _ h) X hB hB.2.2.2.2.2.2 q2313 kc_J30 (by decide) (z_fo hB ho (by decide)) rfl hl.1 (Nat.le_of_ble_eq_true rfl) dJ30_add_20 (z_k1 hK1 g1) (z_k1 hK2 g2) (by decide) (by decide)) hB (fun _ h => h) (fun T5 I6 Q7 H locs h9 hF hB => ?_)
  replace h := h9
  clear h9
  replace h := h hF
  replace hK1 := z_k2 hK1 g1
  replace hK2 := z_k2 hK2 g2
  refine lv_iconst (v := 1) hx hb dJ30_add_23 (by decide) ?_
  exact z_zret X hB (Or.inr rfl) ⟨_, rfl, (Or.inr rfl), h⟩ (z_k3 hK1) (z_k3 hK2) dJ30_add_24
theorem pk_J30_add : z_PV RJ30 yJ30_add cJ30_add 2 (some .boolean) 1 := ⟨q2310, q2311, q127, q2312, by decide +kernel⟩
theorem met_J30_add {l : Launch} {G : z_E} {T : z_T} {I : z_I} {Q : z_Q} (co : Nat) (o : Nat) (x1 : Option Nat) (kc : Nat) (ks : Nat) (Qk : Int32 → z_T → z_I → z_Q → Prop) (h : wp_J30_add G.2.2 co T I Q o x1 kc ks Qk) : z_GM l G yJ30_add (ws_ yJ30_add cJ30_add 2 (some .boolean)) 13 230 kc ks [.ref o, va_rf x1] (z_co co) T I Q (z_qz Qk) z_no := by
  obtain ⟨ho, hoc, h⟩ := h
  refine z_body (own := RJ30) (nm := "add") (by decide +kernel) rfl rfl (by cases x1 <;> exact Nat.le_of_ble_eq_true rfl) (fun p e R s m below meth c A ls X hB hl => ?_)
  replace hl : lv_has ls 2 [(0, .ref o), (1, va_rf x1)] := by cases x1 <;> exact hl
  exact ww_J30_add_0 X ho hoc hB z_k0 z_k0 hl h
/-! J30_size -/
theorem ww_J30_size_0 {T : z_T} {I : z_I} {Q : z_Q} {o : Nat} {Qk : Int32 → Prop} (X : z_X l G A p R s m args meth c cJ30_size 1 RJ30 "size" (some .int) 0 0 8 120) (ho : (T o).1 = 19) {H : Heap} {locs : List Loc} {ls : Array Slot} (hB : z_HB G z_none A s.heap T I Q T I Q H locs) (hl : lv_has ls 1 [(0, .ref o)]) (h : wb_J30_size_0 T I Q o Qk ) : W p l e R s m args below meth c H locs 0 0 (z_MQ below G z_none A T I Q (z_pi Qk T I Q) z_no args s 0 0) (F0 m 0 ls []) := by
  obtain ⟨hx, hb, -⟩ := id X
  unfold wb_J30_size_0 at h
  refine lv_aload_n (x := o) hx hb dJ30_size_0 rfl (lv_at hl 0 rfl) ?_
  refine z_geti X hB.1 kc_J30 in_J30 (j := 2) (Nat.le_of_ble_eq_true rfl) q1106 (fun _ h => h) rfl (by decide) ho dJ30_size_1 ?_
  exact z_iret X hB ⟨_, rfl, h, rfl, rfl, rfl⟩ (Nat.le_refl 0) (Nat.le_refl 0) dJ30_size_4
theorem pk_J30_size : z_PV RJ30 yJ30_size cJ30_size 1 (some .int) 0 := ⟨q2705, q2706, q127, q2707, by decide +kernel⟩
theorem met_J30_size {l : Launch} {G : z_E} {T : z_T} {I : z_I} {Q : z_Q} (o : Nat) (Qk : Int32 → Prop) (h : wp_J30_size T I Q o Qk) : z_GM l G yJ30_size (ws_ yJ30_size cJ30_size 1 (some .int)) 8 120 0 0 [.ref o] z_none T I Q (z_pi Qk T I Q) z_no := by
  obtain ⟨ho, h⟩ := h
  refine z_body (own := RJ30) (nm := "size") (by decide +kernel) rfl rfl (Nat.le_of_ble_eq_true rfl) (fun p e R s m below meth c A ls X hB hl => ?_)
  exact ww_J30_size_0 X ho hB hl h
/-! X1_checkBuffer -/
theorem ww_X1_checkBuffer_10 {Qk : z_T → z_I → z_Q → Prop} {Xk : String → Nat → z_T → z_I → z_Q → Prop} (X : z_X l G A p R s m args meth c cX1_checkBuffer 1 RX1 "checkBuffer" none mc ms 10 163) {cells slots : Nat} {T : z_T} {I : z_I} {Q : z_Q} {kc : Nat} {ks : Nat} {s0 : Int32} {H : Heap} {locs : List Loc} {ls : Array Slot} (hB : z_HB G z_PR A s.heap T0 I0 Q0 T I Q H locs) (hK1 : cells + kc ≤ mc) (hK2 : slots + ks ≤ ms) (hl : lv_has ls 1 []) (h : wb_X1_checkBuffer_10 Qk Xk T I Q kc ks s0) : W p l e R s m args below meth c H locs cells slots (z_MQ below G z_PR A T0 I0 Q0 (z_qv Qk) Xk args s mc ms) (F0 m 10 ls [.int s0]) := by
  obtain ⟨hx, hb, -⟩ := id X
  unfold wb_X1_checkBuffer_10 at h
  refine lv_iconst (v := 3) hx hb dX1_checkBuffer_10 (by decide) ?_
  obtain ⟨kc3, ks4, g1, g2, h⟩ := h
  refine z_callXv (z_runS (rest := []) [.int s0, .int 3] pk_X1_checkIndex (met_X1_checkIndex s0 3 kc3 ks4 _ _ h) X hB hB.2.2.2.2.2.2 q2387 rfl hl.1 (Nat.le_of_ble_eq_true rfl) dX1_checkBuffer_11 (z_k1 hK1 g1) (z_k1 hK2 g2) (by decide) (by decide)) hB (fun _ h => h) (z_on (by decide +kernel) X (z_k1 hK1 g1) (z_k1 hK2 g2)) (fun T5 I6 Q7 H locs h9 hF hB => ?_)
  replace h := h9
  clear h9
  replace h := h hF
  replace hK1 := z_k2 hK1 g1
  replace hK2 := z_k2 hK2 g2
  exact z_vret X hB ⟨rfl, h⟩ (z_k3 hK1) (z_k3 hK2) dX1_checkBuffer_14
theorem ww_X1_checkBuffer_0 {Qk : z_T → z_I → z_Q → Prop} {Xk : String → Nat → z_T → z_I → z_Q → Prop} (X : z_X l G A p R s m args meth c cX1_checkBuffer 1 RX1 "checkBuffer" none mc ms 10 163) {cells slots : Nat} {T : z_T} {I : z_I} {Q : z_Q} {kc : Nat} {ks : Nat} {x0 : Int32} {H : Heap} {locs : List Loc} {ls : Array Slot} (hB : z_HB G z_PR A s.heap T0 I0 Q0 T I Q H locs) (hK1 : cells + kc ≤ mc) (hK2 : slots + ks ≤ ms) (hl : lv_has ls 1 [(0, .int x0)]) (h : wb_X1_checkBuffer_0 Qk Xk T I Q kc ks x0) : W p l e R s m args below meth c H locs cells slots (z_MQ below G z_PR A T0 I0 Q0 (z_qv Qk) Xk args s mc ms) (F0 m 0 ls []) := by
  obtain ⟨hx, hb, -⟩ := id X
  unfold wb_X1_checkBuffer_0 at h
  refine lv_iload_n hx hb dX1_checkBuffer_0 rfl (lv_at hl 0 rfl) ?_
  refine lv_iconst (v := (-1)) hx hb dX1_checkBuffer_1 (by decide) ?_
  refine lv_icmp_ne (tgt := 9) hx hb dX1_checkBuffer_2 (by decide) (fun c1 => ?_) (fun c1 => ?_)
  · replace h := h.1 c1
    refine lv_iload_n hx hb dX1_checkBuffer_9 rfl (lv_at hl 0 rfl) ?_
    exact ww_X1_checkBuffer_10 X  hB hK1 hK2 (lv_sub hl [] rfl) h
  · replace h := h.2 c1
    refine lv_iconst (v := 0) hx hb dX1_checkBuffer_5 (by decide) ?_
    refine lv_goto (tgt := 10) hx hb dX1_checkBuffer_6 (by decide) ?_
    exact ww_X1_checkBuffer_10 X  hB hK1 hK2 (lv_sub hl [] rfl) h
theorem pk_X1_checkBuffer : z_PS yX1_checkBuffer cX1_checkBuffer 1 none 1 := ⟨q2682, q94, q2683, by decide +kernel⟩
theorem met_X1_checkBuffer {l : Launch} {G : z_E} {T : z_T} {I : z_I} {Q : z_Q} (x0 : Int32) (kc : Nat) (ks : Nat) (Qk : z_T → z_I → z_Q → Prop) (Xk : String → Nat → z_T → z_I → z_Q → Prop) (h : wp_X1_checkBuffer T I Q x0 kc ks Qk Xk) : z_GM l G yX1_checkBuffer (ws_ yX1_checkBuffer cX1_checkBuffer 1 none) 10 163 kc ks [.int x0] z_PR T I Q (z_qv Qk) Xk := by
  refine z_body (own := RX1) (nm := "checkBuffer") (by decide +kernel) rfl rfl (Nat.le_of_ble_eq_true rfl) (fun p e R s m below meth c A ls X hB hl => ?_)
  exact ww_X1_checkBuffer_0 X hB z_k0 z_k0 hl h
/-! X6_init_2 -/
theorem ww_X6_init_2_0 {co : Nat} {o : Nat} {Qk : z_T → z_I → z_Q → Prop} (X : z_X l G A p R s m args meth c cX6_init_2 3 RX6 "<init>" none 0 0 8 120) (ho : (T0 o).1 = 6) (hoc : (T0 o).2.2 = co) {T : z_T} {I : z_I} {Q : z_Q} {x1 : Int32} {x2 : Option Nat} {H : Heap} {locs : List Loc} {ls : Array Slot} (hB : z_HB G (z_co co) A s.heap T0 I0 Q0 T I Q H locs) (hl : lv_has ls 3 [(0, .ref o), (1, .int x1), (2, va_rf x2)]) (h : wb_X6_init_2_0 co o Qk T I Q x1 x2) : W p l e R s m args below meth c H locs 0 0 (z_MQ below G (z_co co) A T0 I0 Q0 (z_qv Qk) z_no args s 0 0) (F0 m 0 ls []) := by
  obtain ⟨hx, hb, -⟩ := id X
  unfold wb_X6_init_2_0 at h
  refine lv_aload_n (x := o) hx hb dX6_init_2_0 rfl (lv_at hl 0 rfl) ?_
  refine z_objInit (rest := []) X q2285 hl.1 dX6_init_2_1 (by decide) (Nat.le_of_ble_eq_true rfl) ?_
  refine lv_aload_n (x := o) hx hb dX6_init_2_4 rfl (lv_at hl 0 rfl) ?_
  refine lv_iconst (v := (-1)) hx hb dX6_init_2_5 (by decide) ?_
  obtain ⟨I1, eI1⟩ : ∃ z, z = z_up I o 3 (-1) := ⟨_, rfl⟩
  replace h := h I1 eI1
  refine z_puti (x := (-1)) eI1 tyX6 X hB kc_X6 in_X6 tyX6_ok nmX6 (j := 3) (Nat.le_of_ble_eq_true rfl) q2294 (fun _ h => h) rfl rfl (by decide) (z_fo hB ho (by decide)) (z_foc hB ho (by decide) hoc) rfl (Or.inl rfl) dX6_init_2_6 (fun H locs hB => ?_)
  refine lv_aload_n (x := o) hx hb dX6_init_2_9 rfl (lv_at hl 0 rfl) ?_
  refine lv_iconst (v := (-1)) hx hb dX6_init_2_10 (by decide) ?_
  obtain ⟨I2, eI2⟩ : ∃ z, z = z_up I1 o 4 (-1) := ⟨_, rfl⟩
  replace h := h I2 eI2
  refine z_puti (x := (-1)) eI2 tyX6 X hB kc_X6 in_X6 tyX6_ok nmX6 (j := 4) (Nat.le_of_ble_eq_true rfl) q2296 (fun _ h => h) rfl rfl (by decide) (z_fo hB ho (by decide)) (z_foc hB ho (by decide) hoc) rfl (Or.inl rfl) dX6_init_2_11 (fun H locs hB => ?_)
  refine lv_aload_n (x := o) hx hb dX6_init_2_14 rfl (lv_at hl 0 rfl) ?_
  refine lv_iload_n hx hb dX6_init_2_15 rfl (lv_at hl 1 rfl) ?_
  obtain ⟨I3, eI3⟩ : ∃ z, z = z_up I2 o 0 x1 := ⟨_, rfl⟩
  replace h := h I3 eI3
  refine z_putiF (x := x1) eI3 tyX6 X hB kc_X6 in_X6 tyX6_ok nmX6 (j := 0) (Nat.le_of_ble_eq_true rfl) q2286 (fun _ h => h) rfl rfl rfl (by decide) (z_fo hB ho (by decide)) (z_foc hB ho (by decide) hoc) rfl (Or.inl rfl) dX6_init_2_16 (fun H locs hB => ?_)
  refine lv_aload_n (x := o) hx hb dX6_init_2_19 rfl (lv_at hl 0 rfl) ?_
  refine z_aload_n (x := x2) hx hb dX6_init_2_20 rfl (lv_at hl 2 rfl) ?_
  obtain ⟨Q4, eQ4⟩ : ∃ z, z = z_up Q o 1 x2 := ⟨_, rfl⟩
  replace h := h Q4 eQ4
  refine z_putqF (x := x2) eQ4 tyX6 X hB kc_X6 in_X6 tyX6_ok nmX6 (j := 1) (Nat.le_of_ble_eq_true rfl) q2289 (fun _ h => h) rfl rfl rfl (by decide) (z_fo hB ho (by decide)) (z_foc hB ho (by decide) hoc) rfl (Or.inl ⟨_, rfl⟩) dX6_init_2_21 (fun H locs hB => ?_)
  exact z_vret X hB ⟨rfl, h⟩ (Nat.le_refl 0) (Nat.le_refl 0) dX6_init_2_24
theorem pk_X6_init_2 : z_PI yX6_init_2 cX6_init_2 3 2 := ⟨q2283, q149, q2284, rfl, by decide +kernel⟩
theorem met_X6_init_2 {l : Launch} {G : z_E} {T : z_T} {I : z_I} {Q : z_Q} (co : Nat) (o : Nat) (x1 : Int32) (x2 : Option Nat) (Qk : z_T → z_I → z_Q → Prop) (h : wp_X6_init_2 co T I Q o x1 x2 Qk) : z_GM l G yX6_init_2 (ws_ yX6_init_2 cX6_init_2 3 none) 8 120 0 0 [.ref o, .int x1, va_rf x2] (z_co co) T I Q (z_qv Qk) z_no := by
  obtain ⟨ho, hoc, h⟩ := h
  refine z_body (own := RX6) (nm := "<init>") (by decide +kernel) rfl rfl (by cases x2 <;> exact Nat.le_of_ble_eq_true rfl) (fun p e R s m below meth c A ls X hB hl => ?_)
  replace hl : lv_has ls 3 [(0, .ref o), (1, .int x1), (2, va_rf x2)] := by cases x2 <;> exact hl
  exact ww_X6_init_2_0 X ho hoc hB hl h
/-! X8_isWithin -/
theorem wv_X8_isWithin_14 {T : z_T} {I : z_I} {Q : z_Q} {o : Nat} {Qk : Int32 → Prop} (X : z_X l G A p R s m args meth c cX8_isWithin 7 RX8 "isWithin" (some .boolean) 0 0 9 141) (ho : (T o).1 = 7) : ∀ (n : Nat) {x1 : Int32} {x2 : Int32} {x3 : Option Nat} {x4 : Int32} {x5 : Int32} {H : Heap} {locs : List Loc} {ls : Array Slot}, z_HB G z_none A s.heap T I Q T I Q H locs → lv_has ls 7 [(1, .int x1), (2, .int x2), (3, va_rf x3), (4, .int x4), (5, .int x5)] → wl_X8_isWithin_14 T I Q o Qk n x1 x2 x3 x4 x5 → W p l e R s m args below meth c H locs 0 0 (z_MQ below G z_none A T I Q (z_pz Qk T I Q) z_no args s 0 0) (F0 m 14 ls []) := by
  intro n
  induction n with
  | zero =>
    intro x1 x2 x3 x4 x5 H locs ls hB hl h
    exact h.elim
  | succ n ih =>
    intro x1 x2 x3 x4 x5 H locs ls hB hl h
    obtain ⟨hx, hb, -⟩ := id X
    unfold wl_X8_isWithin_14 at h
    refine lv_iload hx hb dX8_isWithin_14 (lv_at hl 4 rfl) ?_
    refine lv_iload hx hb dX8_isWithin_16 (lv_at hl 3 rfl) ?_
    refine lv_icmp_ge (tgt := 42) hx hb dX8_isWithin_18 (by decide) (fun c4 => ?_) (fun c4 => ?_)
    · replace h := h.1 c4
      refine lv_iload_n hx hb dX8_isWithin_42 rfl (lv_at hl 1 rfl) ?_
      obtain ⟨hz, h⟩ := h
      exact z_zret X hB hz ⟨_, rfl, hz, h, rfl, rfl, rfl⟩ (Nat.le_refl 0) (Nat.le_refl 0) dX8_isWithin_43
    · replace h := h.2 c4
      refine z_aload_n (x := x3) hx hb dX8_isWithin_21 rfl (lv_at hl 2 rfl) ?_
      refine lv_iload hx hb dX8_isWithin_22 (lv_at hl 4 rfl) ?_
      obtain ⟨a5, rfl, h⟩ := h
      obtain ⟨hk_a5, h⟩ := h
      obtain ⟨h1, h⟩ := h
      refine z_iald X hB.1 hk_a5 h1 dX8_isWithin_24 ?_
      refine lv_topi (fun y6 ey6 => ?_)
      replace h := h y6 ey6
      refine lv_istore (lv' := [(6, .int y6), (1, .int x1), (2, .int x2), (3, .ref a5), (4, .int x4), (5, .int x5)]) hx hb dX8_isWithin_25 hl (by decide) rfl (fun ls hl9 => ?_)
      replace hl := hl9
      clear hl9
      refine lv_iload_n hx hb dX8_isWithin_27 rfl (lv_at hl 2 rfl) ?_
      refine lv_iload_n hx hb dX8_isWithin_28 rfl (lv_at hl 1 rfl) ?_
      refine lv_iload hx hb dX8_isWithin_29 (lv_at hl 0 rfl) ?_
      refine z_callzp (z_runSN (rest := [.int x2]) [.int x1, .int y6] pk_X1_contains (met_X1_contains x1 y6 _ h) X hB (fun h => h) q2688 rfl hl.1 (Nat.le_of_ble_eq_true rfl) dX8_isWithin_31 (Nat.le_refl 0) (Nat.le_refl 0) (by decide) (by decide)) hB (fun r7 H locs hz h9 hB => ?_)
      replace h := h9
      clear h9
      replace h := h hz
      refine lv_iand hx hb dX8_isWithin_34 ?_
      refine lv_topi (fun y8 ey8 => ?_)
      replace h := h y8 ey8
      refine lv_istore_n (lv' := [(2, .int y8), (6, .int y6), (1, .int x1), (3, .ref a5), (4, .int x4), (5, .int x5)]) hx hb dX8_isWithin_35 rfl hl (by decide) rfl (fun ls hl9 => ?_)
      replace hl := hl9
      clear hl9
      obtain ⟨y9, ey9⟩ : ∃ z : Int32, z = x5 + 1 := ⟨_, rfl⟩
      replace h := h y9 ey9
      refine lv_iinc (v := y9) (lv' := [(5, .int y9), (2, .int y8), (6, .int y6), (1, .int x1), (3, .ref a5), (4, .int x4)]) hx hb dX8_isWithin_36 hl (k := 5) rfl (by rw [ey9]; rfl) (by decide) rfl (fun ls hl9 => ?_)
      replace hl := hl9
      clear hl9
      refine lv_goto (tgt := 14) hx hb dX8_isWithin_39 (by decide) ?_
      exact ih hB (lv_sub hl [3, 1, 4, 5, 0] rfl) h
theorem ww_X8_isWithin_0 {T : z_T} {I : z_I} {Q : z_Q} {o : Nat} {Qk : Int32 → Prop} (X : z_X l G A p R s m args meth c cX8_isWithin 7 RX8 "isWithin" (some .boolean) 0 0 9 141) (ho : (T o).1 = 7) {x1 : Int32} {H : Heap} {locs : List Loc} {ls : Array Slot} (hB : z_HB G z_none A s.heap T I Q T I Q H locs) (hl : lv_has ls 7 [(0, .ref o), (1, .int x1)]) (h : wb_X8_isWithin_0 T I Q o Qk x1) : W p l e R s m args below meth c H locs 0 0 (z_MQ below G z_none A T I Q (z_pz Qk T I Q) z_no args s 0 0) (F0 m 0 ls []) := by
  obtain ⟨hx, hb, -⟩ := id X
  unfold wb_X8_isWithin_0 at h
  refine lv_iconst (v := 1) hx hb dX8_isWithin_0 (by decide) ?_
  refine lv_istore_n (lv' := [(2, .int 1), (0, .ref o), (1, .int x1)]) hx hb dX8_isWithin_1 rfl hl (by decide) rfl (fun ls hl9 => ?_)
  replace hl := hl9
  clear hl9
  refine lv_aload_n (x := o) hx hb dX8_isWithin_2 rfl (lv_at hl 1 rfl) ?_
  refine z_getq X hB.1 kc_X8 in_X8 (j := 2) (Nat.le_of_ble_eq_true rfl) q2647 (fun _ h => h) rfl (by decide) ho dX8_isWithin_3 ?_
  obtain ⟨y1, ey1⟩ : ∃ z : Option Nat, z = (Q o 2) := ⟨_, rfl⟩
  replace h := h y1 ey1
  refine z_stk (st' := [va_rf y1]) (by rw [ey1]) ?_
  refine z_astore_n (x := y1) (lv' := [(3, va_rf y1), (2, .int 1), (0, .ref o), (1, .int x1)]) hx hb dX8_isWithin_6 rfl hl (by decide) rfl (fun ls hl9 => ?_)
  replace hl := hl9
  clear hl9
  refine z_aload_n (x := y1) hx hb dX8_isWithin_7 rfl (lv_at hl 0 rfl) ?_
  obtain ⟨a2, rfl, h⟩ := h
  obtain ⟨hk_a2, h⟩ := h
  refine z_alen (k := 0) X hB.1 (by decide) hk_a2 dX8_isWithin_8 ?_
  refine lv_topi (fun y3 ey3 => ?_)
  replace h := h y3 ey3
  refine lv_istore (lv' := [(4, .int y3), (3, .ref a2), (2, .int 1), (0, .ref o), (1, .int x1)]) hx hb dX8_isWithin_9 hl (by decide) rfl (fun ls hl9 => ?_)
  replace hl := hl9
  clear hl9
  refine lv_iconst (v := 0) hx hb dX8_isWithin_11 (by decide) ?_
  refine lv_istore (lv' := [(5, .int 0), (4, .int y3), (3, .ref a2), (2, .int 1), (0, .ref o), (1, .int x1)]) hx hb dX8_isWithin_12 hl (by decide) rfl (fun ls hl9 => ?_)
  replace hl := hl9
  clear hl9
  obtain ⟨w, h⟩ := h
  exact wv_X8_isWithin_14 X ho  w hB (lv_sub hl [5, 3, 2, 1, 0] rfl) h
theorem pk_X8_isWithin : z_PV RX8 yX8_isWithin cX8_isWithin 7 (some .boolean) 1 := ⟨q2685, q2686, q152, q2687, by decide +kernel⟩
theorem met_X8_isWithin {l : Launch} {G : z_E} {T : z_T} {I : z_I} {Q : z_Q} (o : Nat) (x1 : Int32) (Qk : Int32 → Prop) (h : wp_X8_isWithin T I Q o x1 Qk) : z_GM l G yX8_isWithin (ws_ yX8_isWithin cX8_isWithin 7 (some .boolean)) 9 141 0 0 [.ref o, .int x1] z_none T I Q (z_pz Qk T I Q) z_no := by
  obtain ⟨ho, h⟩ := h
  refine z_body (own := RX8) (nm := "isWithin") (by decide +kernel) rfl rfl (Nat.le_of_ble_eq_true rfl) (fun p e R s m below meth c A ls X hB hl => ?_)
  exact ww_X8_isWithin_0 X ho hB hl h
/-! X1_giveIn -/
theorem ww_X1_giveIn_110 {Qk : Int32 → z_T → z_I → z_Q → Prop} {Xk : String → Nat → z_T → z_I → z_Q → Prop} (X : z_X l G A p R s m args meth c cX1_giveIn 5 RX1 "giveIn" (some .int) mc ms 14 251) {cells slots : Nat} {T : z_T} {I : z_I} {Q : z_Q} {kc : Nat} {ks : Nat} {x0 : Option Nat} {x1 : Option Nat} {x2 : Int32} {s0 : Int32} {H : Heap} {locs : List Loc} {ls : Array Slot} (hB : z_HB G z_PR A s.heap T0 I0 Q0 T I Q H locs) (hK1 : cells + kc ≤ mc) (hK2 : slots + ks ≤ ms) (hl : lv_has ls 5 [(0, va_rf x0), (1, va_rf x1), (2, .int x2)]) (h : wb_X1_giveIn_110 G.2.2 Qk Xk T I Q kc ks x0 x1 x2 s0) : W p l e R s m args below meth c H locs cells slots (z_MQ below G z_PR A T0 I0 Q0 (z_qi Qk) Xk args s mc ms) (F0 m 110 ls [.int s0]) := by
  obtain ⟨hx, hb, -⟩ := id X
  unfold wb_X1_giveIn_110 at h
  obtain ⟨kc42, ks43, g1, g2, h⟩ := h
  refine z_callXv (z_runS (rest := []) [.int s0] pk_X1_checkState (met_X1_checkState s0 kc42 ks43 _ _ h) X hB hB.2.2.2.2.2.2 q2456 rfl hl.1 (Nat.le_of_ble_eq_true rfl) dX1_giveIn_110 (z_k1 hK1 g1) (z_k1 hK2 g2) (by decide) (by decide)) hB (fun _ h => h) (z_on (by decide +kernel) X (z_k1 hK1 g1) (z_k1 hK2 g2)) (fun T44 I45 Q46 H locs h9 hF hB => ?_)
  replace h := h9
  clear h9
  replace h := h hF
  replace hK1 := z_k2 hK1 g1
  replace hK2 := z_k2 hK2 g2
  obtain ⟨co47, hco47, h⟩ := h
  obtain ⟨g1, g2, h⟩ := h
  refine z_new (col := co47) tyX6 X hB kc_X6 in_X6 tyX6_ok q2708 q2278 q149 (by decide) (z_dvX6) hco47 (z_k1 hK1 g1) (z_k1 hK2 g2) dX1_giveIn_113 (fun a48 H hq hB => ?_)
  obtain ⟨T49, eT49⟩ : ∃ z, z = z_t T44 a48 (6, 0, co47) := ⟨_, rfl⟩
  obtain ⟨I50, eI50⟩ : ∃ z, z = z_row I45 a48 (fun _ => 0) := ⟨_, rfl⟩
  obtain ⟨Q51, eQ51⟩ : ∃ z, z = z_row Q46 a48 (fun _ => none) := ⟨_, rfl⟩
  rw [← eT49, ← eI50, ← eQ51] at hB
  replace h := h a48 T49 I50 Q51 hq eT49 eI50 eQ51
  have hk_a48 := z_tq eT49
  have hc_a48 : 3 ≤ (T49 a48).2.2 := by rw [z_tqc eT49]; exact hco47
  replace hK1 := z_k2 hK1 g1
  replace hK2 := z_k2 hK2 g2
  refine lv_dup hx hb dX1_giveIn_116 rfl ?_
  refine lv_iload_n hx hb dX1_giveIn_117 rfl (lv_at hl 2 rfl) ?_
  refine z_aload_n (x := x1) hx hb dX1_giveIn_118 rfl (lv_at hl 1 rfl) ?_
  obtain ⟨co53, hco53, h⟩ := h
  refine z_callv (z_runI (rest := [.ref a48]) [.int x2, va_rf x1] pk_X6_init_2 (met_X6_init_2 co53 a48 x2 x1 _ h) X hB (z_coR0 hco53) q2709 rfl hl.1 (Nat.le_of_ble_eq_true rfl) dX1_giveIn_119 (z_k4 hK1) (z_k4 hK2) (by decide) (by decide)) hB (z_coR hco53) (fun T54 I55 Q56 H locs h9 hF hB => ?_)
  replace h := h9
  clear h9
  replace h := h hF
  have hc_a48 : 3 ≤ (T54 a48).2.2 := by rw [z_te hF hk_a48 (by decide)]; exact hc_a48
  have hk_a48 := z_tk hF hk_a48 (by decide)
  refine lv_astore_n (x := a48) (lv' := [(3, .ref a48), (0, va_rf x0), (1, va_rf x1), (2, .int x2)]) hx hb dX1_giveIn_122 rfl hl (by decide) rfl (fun ls hl9 => ?_)
  replace hl := hl9
  clear hl9
  refine z_aload_n (x := x0) hx hb dX1_giveIn_123 rfl (lv_at hl 1 rfl) ?_
  obtain ⟨a57, rfl, h⟩ := h
  obtain ⟨hk_a57, h⟩ := h
  refine z_getqN X hB.1 kc_X2 in_X2 (j := 3) (Nat.le_of_ble_eq_true rfl) q1247 (fun _ h => h) rfl (by decide) hk_a57 dX1_giveIn_124 ?_
  refine lv_aload_n (x := a48) hx hb dX1_giveIn_127 rfl (lv_at hl 0 rfl) ?_
  obtain ⟨a58, ea58, h⟩ := h
  refine z_stk (st' := [.ref a48, .ref a58]) (by rw [ea58] <;> rfl) ?_
  obtain ⟨hk_a58, h⟩ := h
  obtain ⟨co60, hco60, h⟩ := h
  obtain ⟨kc61, ks62, g1, g2, h⟩ := h
  refine z_callz (z_runV (rest := []) [.ref a48] pk_J30_add (met_J30_add co60 a58 (some a48) kc61 ks62 _ h) X hB (z_coR0 hco60) q2710 kc_J30 (by decide) hk_a58 rfl hl.1 (Nat.le_of_ble_eq_true rfl) dX1_giveIn_128 (z_k1 hK1 g1) (z_k1 hK2 g2) (by decide) (by decide)) hB (z_coR hco60) (fun r59 T63 I64 Q65 H locs hz h9 hF hB => ?_)
  replace h := h9
  clear h9
  replace h := h hz hF
  have hc_a48 : 3 ≤ (T63 a48).2.2 := by rw [z_te hF hk_a48 (by decide)]; exact hc_a48
  have hk_a48 := z_tk hF hk_a48 (by decide)
  have hk_a57 := z_tk hF hk_a57 (by decide)
  replace hK1 := z_k2 hK1 g1
  replace hK2 := z_k2 hK2 g2
  refine lv_istore (lv' := [(4, .int r59), (3, .ref a48), (0, .ref a57), (1, va_rf x1), (2, .int x2)]) hx hb dX1_giveIn_131 hl (by decide) rfl (fun ls hl9 => ?_)
  replace hl := hl9
  clear hl9
  refine lv_aload_n (x := a57) hx hb dX1_giveIn_133 rfl (lv_at hl 2 rfl) ?_
  refine z_getqN X hB.1 kc_X2 in_X2 (j := 2) (Nat.le_of_ble_eq_true rfl) q1243 (fun _ h => h) rfl (by decide) hk_a57 dX1_giveIn_134 ?_
  refine z_aload_n (x := x1) hx hb dX1_giveIn_137 rfl (lv_at hl 3 rfl) ?_
  obtain ⟨a66, rfl, h⟩ := h
  obtain ⟨hk_a66, h⟩ := h
  refine z_getiN X hB.1 kc_X8 in_X8 (j := 0) (Nat.le_of_ble_eq_true rfl) q2645 (fun _ h => h) rfl (by decide) hk_a66 dX1_giveIn_138 ?_
  obtain ⟨a67, ea67, h⟩ := h
  refine z_stk (st' := [.int (I64 a66 0), .ref a67]) (by rw [ea67] <;> rfl) ?_
  obtain ⟨hk_a67, h⟩ := h
  obtain ⟨h1, h⟩ := h
  refine z_aald (k := 4) X hB.1 (by decide) hk_a67 h1 dX1_giveIn_141 ?_
  obtain ⟨a68, ea68, h⟩ := h
  refine z_stk (st' := [.ref a68]) (by rw [ea68] <;> rfl) ?_
  obtain ⟨hk_a68, h⟩ := h
  refine z_getqN X hB.1 kc_X4 in_X4 (j := 2) (Nat.le_of_ble_eq_true rfl) q1184 (fun _ h => h) rfl (by decide) hk_a68 dX1_giveIn_142 ?_
  refine lv_aload_n (x := a48) hx hb dX1_giveIn_145 rfl (lv_at hl 1 rfl) ?_
  obtain ⟨a69, ea69, h⟩ := h
  refine z_stk (st' := [.ref a48, .ref a69]) (by rw [ea69] <;> rfl) ?_
  obtain ⟨hk_a69, h⟩ := h
  obtain ⟨co71, hco71, h⟩ := h
  obtain ⟨kc72, ks73, g1, g2, h⟩ := h
  refine z_callv (z_runV (rest := []) [.ref a48] pk_J31_addLast (met_J31_addLast co71 a69 (some a48) kc72 ks73 _ h) X hB (z_coR0 hco71) q2513 kc_J31 (by decide) hk_a69 rfl hl.1 (Nat.le_of_ble_eq_true rfl) dX1_giveIn_146 (z_k1 hK1 g1) (z_k1 hK2 g2) (by decide) (by decide)) hB (z_coR hco71) (fun T74 I75 Q76 H locs h9 hF hB => ?_)
  replace h := h9
  clear h9
  replace h := h hF
  have hc_a48 : 3 ≤ (T74 a48).2.2 := by rw [z_te hF hk_a48 (by decide)]; exact hc_a48
  have hk_a48 := z_tk hF hk_a48 (by decide)
  have hk_a57 := z_tk hF hk_a57 (by decide)
  have hk_a66 := z_tk hF hk_a66 (by decide)
  replace hK1 := z_k2 hK1 g1
  replace hK2 := z_k2 hK2 g2
  refine lv_iload_n hx hb dX1_giveIn_149 rfl (lv_at hl 4 rfl) ?_
  exact z_iret X hB ⟨_, rfl, h⟩ (z_k3 hK1) (z_k3 hK2) dX1_giveIn_150
theorem ww_X1_giveIn_61 {Qk : Int32 → z_T → z_I → z_Q → Prop} {Xk : String → Nat → z_T → z_I → z_Q → Prop} (X : z_X l G A p R s m args meth c cX1_giveIn 5 RX1 "giveIn" (some .int) mc ms 14 251) {cells slots : Nat} {T : z_T} {I : z_I} {Q : z_Q} {kc : Nat} {ks : Nat} {x0 : Option Nat} {x1 : Option Nat} {s0 : Int32} {H : Heap} {locs : List Loc} {ls : Array Slot} (hB : z_HB G z_PR A s.heap T0 I0 Q0 T I Q H locs) (hK1 : cells + kc ≤ mc) (hK2 : slots + ks ≤ ms) (hl : lv_has ls 5 [(0, va_rf x0), (1, va_rf x1)]) (h : wb_X1_giveIn_61 G.2.2 Qk Xk T I Q kc ks x0 x1 s0) : W p l e R s m args below meth c H locs cells slots (z_MQ below G z_PR A T0 I0 Q0 (z_qi Qk) Xk args s mc ms) (F0 m 61 ls [.int s0]) := by
  obtain ⟨hx, hb, -⟩ := id X
  unfold wb_X1_giveIn_61 at h
  obtain ⟨kc27, ks28, g1, g2, h⟩ := h
  refine z_callXv (z_runS (rest := []) [.int s0] pk_X1_checkArgument (met_X1_checkArgument s0 kc27 ks28 _ _ h) X hB hB.2.2.2.2.2.2 q2408 rfl hl.1 (Nat.le_of_ble_eq_true rfl) dX1_giveIn_61 (z_k1 hK1 g1) (z_k1 hK2 g2) (by decide) (by decide)) hB (fun _ h => h) (z_on (by decide +kernel) X (z_k1 hK1 g1) (z_k1 hK2 g2)) (fun T29 I30 Q31 H locs h9 hF hB => ?_)
  replace h := h9
  clear h9
  replace h := h hF
  replace hK1 := z_k2 hK1 g1
  replace hK2 := z_k2 hK2 g2
  refine z_aload_n (x := x1) hx hb dX1_giveIn_64 rfl (lv_at hl 1 rfl) ?_
  refine z_aload_n (x := x0) hx hb dX1_giveIn_65 rfl (lv_at hl 0 rfl) ?_
  obtain ⟨a32, rfl, h⟩ := h
  obtain ⟨hk_a32, h⟩ := h
  refine z_getqN X hB.1 kc_X2 in_X2 (j := 2) (Nat.le_of_ble_eq_true rfl) q1243 (fun _ h => h) rfl (by decide) hk_a32 dX1_giveIn_66 ?_
  refine z_aload_n (x := x1) hx hb dX1_giveIn_69 rfl (lv_at hl 1 rfl) ?_
  obtain ⟨a33, rfl, h⟩ := h
  obtain ⟨hk_a33, h⟩ := h
  refine z_getiN X hB.1 kc_X8 in_X8 (j := 0) (Nat.le_of_ble_eq_true rfl) q2645 (fun _ h => h) rfl (by decide) hk_a33 dX1_giveIn_70 ?_
  obtain ⟨a34, ea34, h⟩ := h
  refine z_stk (st' := [.int (I30 a33 0), .ref a34, .ref a33]) (by rw [ea34] <;> rfl) ?_
  obtain ⟨hk_a34, h⟩ := h
  obtain ⟨h1, h⟩ := h
  refine z_aald (k := 4) X hB.1 (by decide) hk_a34 h1 dX1_giveIn_73 ?_
  obtain ⟨a35, ea35, h⟩ := h
  refine z_stk (st' := [.ref a35, .ref a33]) (by rw [ea35] <;> rfl) ?_
  obtain ⟨hk_a35, h⟩ := h
  refine z_getiN X hB.1 kc_X4 in_X4 (j := 1) (Nat.le_of_ble_eq_true rfl) q1181 (fun _ h => h) rfl (by decide) hk_a35 dX1_giveIn_74 ?_
  refine z_callzp (z_runV (rest := []) [.int (I30 a35 1)] pk_X8_isWithin (met_X8_isWithin a33 (I30 a35 1) _ h) X hB (fun h => h) q2684 kc_X8 (by decide) hk_a33 rfl hl.1 (Nat.le_of_ble_eq_true rfl) dX1_giveIn_77 (z_k4 hK1) (z_k4 hK2) (by decide) (by decide)) hB (fun r36 H locs hz h9 hB => ?_)
  replace h := h9
  clear h9
  replace h := h hz
  refine lv_if_ne (tgt := 91) hx hb dX1_giveIn_80 (by decide) (fun c37 => ?_) (fun c37 => ?_)
  · replace h := h.1 c37
    refine lv_aload_n (x := a32) hx hb dX1_giveIn_91 rfl (lv_at hl 0 rfl) ?_
    refine z_getqN X hB.1 kc_X2 in_X2 (j := 3) (Nat.le_of_ble_eq_true rfl) q1247 (fun _ h => h) rfl (by decide) hk_a32 dX1_giveIn_92 ?_
    obtain ⟨a38, ea38, h⟩ := h
    refine z_stk (st' := [.ref a38]) (by rw [ea38] <;> rfl) ?_
    obtain ⟨hk_a38, h⟩ := h
    refine z_callip (z_runV (rest := []) [] pk_J30_size (met_J30_size a38 _ h) X hB (fun h => h) q2704 kc_J30 (by decide) hk_a38 rfl hl.1 (Nat.le_of_ble_eq_true rfl) dX1_giveIn_95 (z_k4 hK1) (z_k4 hK2) (by decide) (by decide)) hB (fun r39 H locs h9 hB => ?_)
    replace h := h9
    clear h9
    refine lv_istore_n (lv' := [(2, .int r39), (0, .ref a32), (1, .ref a33)]) hx hb dX1_giveIn_98 rfl hl (by decide) rfl (fun ls hl9 => ?_)
    replace hl := hl9
    clear hl9
    refine lv_iload_n hx hb dX1_giveIn_99 rfl (lv_at hl 0 rfl) ?_
    refine lv_bipush (v := 30) hx hb dX1_giveIn_100 (by decide) ?_
    refine lv_icmp_ge (tgt := 109) hx hb dX1_giveIn_102 (by decide) (fun c40 => ?_) (fun c40 => ?_)
    · replace h := h.1 c40
      refine lv_iconst (v := 0) hx hb dX1_giveIn_109 (by decide) ?_
      exact ww_X1_giveIn_110 X  hB hK1 hK2 (lv_sub hl [1, 2, 0] rfl) h
    · replace h := h.2 c40
      refine lv_iconst (v := 1) hx hb dX1_giveIn_105 (by decide) ?_
      refine lv_goto (tgt := 110) hx hb dX1_giveIn_106 (by decide) ?_
      exact ww_X1_giveIn_110 X  hB hK1 hK2 (lv_sub hl [1, 2, 0] rfl) h
  · replace h := h.2 c37
    obtain ⟨g1, g2, h⟩ := h
    exact z_thr (cls := "java/lang/UnsupportedOperationException") (names := ["java/lang/RuntimeException", "java/lang/Exception"]) (by decide +kernel) X hB (by decide +kernel) (by decide +kernel) q2689 q153 thr_RobotCell_140 hl.1 dX1_giveIn_83 dX1_giveIn_86 dX1_giveIn_87 dX1_giveIn_90 (by decide) (by simp [Value.category]) (z_k1 hK1 g1) (z_k1 hK2 g2) h
theorem ww_X1_giveIn_60 {Qk : Int32 → z_T → z_I → z_Q → Prop} {Xk : String → Nat → z_T → z_I → z_Q → Prop} (X : z_X l G A p R s m args meth c cX1_giveIn 5 RX1 "giveIn" (some .int) mc ms 14 251) {cells slots : Nat} {T : z_T} {I : z_I} {Q : z_Q} {kc : Nat} {ks : Nat} {x0 : Option Nat} {x1 : Option Nat} {H : Heap} {locs : List Loc} {ls : Array Slot} (hB : z_HB G z_PR A s.heap T0 I0 Q0 T I Q H locs) (hK1 : cells + kc ≤ mc) (hK2 : slots + ks ≤ ms) (hl : lv_has ls 5 [(0, va_rf x0), (1, va_rf x1)]) (h : wb_X1_giveIn_60 G.2.2 Qk Xk T I Q kc ks x0 x1) : W p l e R s m args below meth c H locs cells slots (z_MQ below G z_PR A T0 I0 Q0 (z_qi Qk) Xk args s mc ms) (F0 m 60 ls []) := by
  obtain ⟨hx, hb, -⟩ := id X
  unfold wb_X1_giveIn_60 at h
  refine lv_iconst (v := 0) hx hb dX1_giveIn_60 (by decide) ?_
  exact ww_X1_giveIn_61 X  hB hK1 hK2 (lv_sub hl [0, 1] rfl) h
theorem ww_X1_giveIn_0 {Qk : Int32 → z_T → z_I → z_Q → Prop} {Xk : String → Nat → z_T → z_I → z_Q → Prop} (X : z_X l G A p R s m args meth c cX1_giveIn 5 RX1 "giveIn" (some .int) mc ms 14 251) {cells slots : Nat} {T : z_T} {I : z_I} {Q : z_Q} {kc : Nat} {ks : Nat} {x0 : Option Nat} {x1 : Option Nat} {H : Heap} {locs : List Loc} {ls : Array Slot} (hB : z_HB G z_PR A s.heap T0 I0 Q0 T I Q H locs) (hK1 : cells + kc ≤ mc) (hK2 : slots + ks ≤ ms) (hl : lv_has ls 5 [(0, va_rf x0), (1, va_rf x1)]) (h : wb_X1_giveIn_0 G.2.2 Qk Xk T I Q kc ks x0 x1) : W p l e R s m args below meth c H locs cells slots (z_MQ below G z_PR A T0 I0 Q0 (z_qi Qk) Xk args s mc ms) (F0 m 0 ls []) := by
  obtain ⟨hx, hb, -⟩ := id X
  unfold wb_X1_giveIn_0 at h
  refine z_aload_n (x := x1) hx hb dX1_giveIn_0 rfl (lv_at hl 1 rfl) ?_
  obtain ⟨a1, rfl, h⟩ := h
  obtain ⟨hk_a1, h⟩ := h
  refine z_getiN X hB.1 kc_X8 in_X8 (j := 0) (Nat.le_of_ble_eq_true rfl) q2645 (fun _ h => h) rfl (by decide) hk_a1 dX1_giveIn_1 ?_
  refine lv_iconst (v := 3) hx hb dX1_giveIn_4 (by decide) ?_
  obtain ⟨kc3, ks4, g1, g2, h⟩ := h
  refine z_callXv (z_runS (rest := []) [.int (I a1 0), .int 3] pk_X1_checkIndex (met_X1_checkIndex (I a1 0) 3 kc3 ks4 _ _ h) X hB hB.2.2.2.2.2.2 q2387 rfl hl.1 (Nat.le_of_ble_eq_true rfl) dX1_giveIn_5 (z_k1 hK1 g1) (z_k1 hK2 g2) (by decide) (by decide)) hB (fun _ h => h) (z_on (by decide +kernel) X (z_k1 hK1 g1) (z_k1 hK2 g2)) (fun T5 I6 Q7 H locs h9 hF hB => ?_)
  replace h := h9
  clear h9
  replace h := h hF
  have hk_a1 := z_tk hF hk_a1 (by decide)
  replace hK1 := z_k2 hK1 g1
  replace hK2 := z_k2 hK2 g2
  refine lv_aload_n (x := a1) hx hb dX1_giveIn_8 rfl (lv_at hl 1 rfl) ?_
  refine z_getiN X hB.1 kc_X8 in_X8 (j := 5) (Nat.le_of_ble_eq_true rfl) q2659 (fun _ h => h) rfl (by decide) hk_a1 dX1_giveIn_9 ?_
  obtain ⟨kc9, ks10, g1, g2, h⟩ := h
  refine z_callXv (z_runS (rest := []) [.int (I6 a1 5)] pk_X1_checkBuffer (met_X1_checkBuffer (I6 a1 5) kc9 ks10 _ _ h) X hB hB.2.2.2.2.2.2 q2681 rfl hl.1 (Nat.le_of_ble_eq_true rfl) dX1_giveIn_12 (z_k1 hK1 g1) (z_k1 hK2 g2) (by decide) (by decide)) hB (fun _ h => h) (z_on (by decide +kernel) X (z_k1 hK1 g1) (z_k1 hK2 g2)) (fun T11 I12 Q13 H locs h9 hF hB => ?_)
  replace h := h9
  clear h9
  replace h := h hF
  have hk_a1 := z_tk hF hk_a1 (by decide)
  replace hK1 := z_k2 hK1 g1
  replace hK2 := z_k2 hK2 g2
  refine lv_aload_n (x := a1) hx hb dX1_giveIn_15 rfl (lv_at hl 1 rfl) ?_
  refine z_getiN X hB.1 kc_X8 in_X8 (j := 6) (Nat.le_of_ble_eq_true rfl) q2662 (fun _ h => h) rfl (by decide) hk_a1 dX1_giveIn_16 ?_
  obtain ⟨kc15, ks16, g1, g2, h⟩ := h
  refine z_callXv (z_runS (rest := []) [.int (I12 a1 6)] pk_X1_checkBuffer (met_X1_checkBuffer (I12 a1 6) kc15 ks16 _ _ h) X hB hB.2.2.2.2.2.2 q2681 rfl hl.1 (Nat.le_of_ble_eq_true rfl) dX1_giveIn_19 (z_k1 hK1 g1) (z_k1 hK2 g2) (by decide) (by decide)) hB (fun _ h => h) (z_on (by decide +kernel) X (z_k1 hK1 g1) (z_k1 hK2 g2)) (fun T17 I18 Q19 H locs h9 hF hB => ?_)
  replace h := h9
  clear h9
  replace h := h hF
  have hk_a1 := z_tk hF hk_a1 (by decide)
  replace hK1 := z_k2 hK1 g1
  replace hK2 := z_k2 hK2 g2
  refine lv_aload_n (x := a1) hx hb dX1_giveIn_22 rfl (lv_at hl 1 rfl) ?_
  refine z_getqN X hB.1 kc_X8 in_X8 (j := 2) (Nat.le_of_ble_eq_true rfl) q2650 (fun _ h => h) rfl (by decide) hk_a1 dX1_giveIn_23 ?_
  obtain ⟨a20, ea20, h⟩ := h
  refine z_stk (st' := [.ref a20]) (by rw [ea20] <;> rfl) ?_
  obtain ⟨hk_a20, h⟩ := h
  refine z_alen (k := 0) X hB.1 (by decide) hk_a20 dX1_giveIn_26 ?_
  refine lv_if_le (tgt := 60) hx hb dX1_giveIn_27 (by decide) (fun c21 => ?_) (fun c21 => ?_)
  · replace h := h.1 c21
    exact ww_X1_giveIn_60 X  hB hK1 hK2 (lv_sub hl [0, 1] rfl) h
  · replace h := h.2 c21
    refine lv_aload_n (x := a1) hx hb dX1_giveIn_30 rfl (lv_at hl 1 rfl) ?_
    refine z_getiN X hB.1 kc_X8 in_X8 (j := 3) (Nat.le_of_ble_eq_true rfl) q2652 (fun _ h => h) rfl (by decide) hk_a1 dX1_giveIn_31 ?_
    refine lv_iconst (v := 1) hx hb dX1_giveIn_34 (by decide) ?_
    refine lv_bipush (v := 9) hx hb dX1_giveIn_35 (by decide) ?_
    refine z_callzp (z_runS (rest := []) [.int (I18 a1 3), .int 1, .int 9] pk_X1_inRange (met_X1_inRange (I18 a1 3) 1 9 _ h) X hB (fun h => h) q2390 rfl hl.1 (Nat.le_of_ble_eq_true rfl) dX1_giveIn_37 (z_k4 hK1) (z_k4 hK2) (by decide) (by decide)) hB (fun r22 H locs hz h9 hB => ?_)
    replace h := h9
    clear h9
    replace h := h hz
    refine lv_if_eq (tgt := 60) hx hb dX1_giveIn_40 (by decide) (fun c23 => ?_) (fun c23 => ?_)
    · replace h := h.1 c23
      exact ww_X1_giveIn_60 X  hB hK1 hK2 (lv_sub hl [0, 1] rfl) h
    · replace h := h.2 c23
      refine lv_aload_n (x := a1) hx hb dX1_giveIn_43 rfl (lv_at hl 1 rfl) ?_
      refine z_getiN X hB.1 kc_X8 in_X8 (j := 4) (Nat.le_of_ble_eq_true rfl) q2655 (fun _ h => h) rfl (by decide) hk_a1 dX1_giveIn_44 ?_
      refine lv_iconst (v := 0) hx hb dX1_giveIn_47 (by decide) ?_
      refine lv_bipush (v := 9) hx hb dX1_giveIn_48 (by decide) ?_
      refine z_callzp (z_runS (rest := []) [.int (I18 a1 4), .int 0, .int 9] pk_X1_inRange (met_X1_inRange (I18 a1 4) 0 9 _ h) X hB (fun h => h) q2390 rfl hl.1 (Nat.le_of_ble_eq_true rfl) dX1_giveIn_50 (z_k4 hK1) (z_k4 hK2) (by decide) (by decide)) hB (fun r24 H locs hz h9 hB => ?_)
      replace h := h9
      clear h9
      replace h := h hz
      refine lv_if_eq (tgt := 60) hx hb dX1_giveIn_53 (by decide) (fun c25 => ?_) (fun c25 => ?_)
      · replace h := h.1 c25
        exact ww_X1_giveIn_60 X  hB hK1 hK2 (lv_sub hl [0, 1] rfl) h
      · replace h := h.2 c25
        refine lv_iconst (v := 1) hx hb dX1_giveIn_56 (by decide) ?_
        refine lv_goto (tgt := 61) hx hb dX1_giveIn_57 (by decide) ?_
        exact ww_X1_giveIn_61 X  hB hK1 hK2 (lv_sub hl [0, 1] rfl) h
theorem pk_X1_giveIn : z_PS yX1_giveIn cX1_giveIn 5 (some .int) 2 := ⟨q2679, q94, q2680, by decide +kernel⟩
theorem met_X1_giveIn {l : Launch} {G : z_E} {T : z_T} {I : z_I} {Q : z_Q} (x0 : Option Nat) (x1 : Option Nat) (kc : Nat) (ks : Nat) (Qk : Int32 → z_T → z_I → z_Q → Prop) (Xk : String → Nat → z_T → z_I → z_Q → Prop) (h : wp_X1_giveIn G.2.2 T I Q x0 x1 kc ks Qk Xk) : z_GM l G yX1_giveIn (ws_ yX1_giveIn cX1_giveIn 5 (some .int)) 14 251 kc ks [va_rf x0, va_rf x1] z_PR T I Q (z_qi Qk) Xk := by
  refine z_body (own := RX1) (nm := "giveIn") (by decide +kernel) rfl rfl (by cases x0 <;> cases x1 <;> exact Nat.le_of_ble_eq_true rfl) (fun p e R s m below meth c A ls X hB hl => ?_)
  replace hl : lv_has ls 5 [(0, va_rf x0), (1, va_rf x1)] := by cases x0 <;> cases x1 <;> exact hl
  exact ww_X1_giveIn_0 X hB z_k0 z_k0 hl h
end
