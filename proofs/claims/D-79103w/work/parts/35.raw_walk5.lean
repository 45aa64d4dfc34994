/-! THE CODE: walks 5 -/
set_option maxRecDepth 100000
section
variable {p : Program} {l : Launch} {e : Env} {R : Room} {s : State} {m : MethodId} {args : Array Value} {below : List Frame} {meth : Method} {c : Code}
variable {G : z_E} {A : Nat → Prop} {T T0 : z_T} {I I0 : z_I} {Q Q0 : z_Q} {mc ms : Nat}
/-! X15_perform -/
theorem ww_X15_perform_0 {o : Nat} {Qk : z_T → z_I → z_Q → Prop} {Xk : String → Nat → z_T → z_I → z_Q → Prop} (X : z_X l G A p R s m args meth c cX15_perform 3 RX15 "perform" none mc ms 15 275) (ho : (T0 o).1 = 13) {cells slots : Nat} {T : z_T} {I : z_I} {Q : z_Q} {kc : Nat} {ks : Nat} {x1 : Option Nat} {H : Heap} {locs : List Loc} {ls : Array Slot} (hB : z_HB G z_PR A s.heap T0 I0 Q0 T I Q H locs) (hK1 : cells + kc ≤ mc) (hK2 : slots + ks ≤ ms) (hl : lv_has ls 3 [(0, .ref o), (1, va_rf x1)]) (h : wb_X15_perform_0 G.2.2 o Qk Xk T I Q kc ks x1) : W p l e R s m args below meth c H locs cells slots (z_MQ below G z_PR A T0 I0 Q0 (z_qv Qk) Xk args s mc ms) (F0 m 0 ls []) := by
  obtain ⟨hx, hb, -⟩ := id X
  unfold wb_X15_perform_0 at h
  refine z_aload_n (x := x1) hx hb dX15_perform_0 rfl (lv_at hl 1 rfl) ?_
  refine lv_aload_n (x := o) hx hb dX15_perform_1 rfl (lv_at hl 0 rfl) ?_
  refine z_getq X hB.1 kc_X15 in_X15 (j := 0) (Nat.le_of_ble_eq_true rfl) q3118 (fun _ h => h) rfl (by decide) (z_fo hB ho (by decide)) dX15_perform_2 ?_
  obtain ⟨kc2, ks3, g1, g2, h⟩ := h
  refine z_callXi (z_runSN (rest := []) [va_rf x1, va_rf (Q o 0)] pk_X1_giveIn (met_X1_giveIn x1 (Q o 0) kc2 ks3 _ _ h) X hB hB.2.2.2.2.2.2 q3171 rfl hl.1 (Nat.le_of_ble_eq_true rfl) dX15_perform_5 (z_k1 hK1 g1) (z_k1 hK2 g2) (by decide) (by decide)) hB (fun _ h => h) (z_on (by decide +kernel) X (z_k1 hK1 g1) (z_k1 hK2 g2)) (fun r1 T4 I5 Q6 H locs h9 hF hB => ?_)
  replace h := h9
  clear h9
  replace h := h hF
  replace hK1 := z_k2 hK1 g1
  replace hK2 := z_k2 hK2 g2
  refine lv_istore_n (i := 2) (lv' := [(2, .int r1), (0, .ref o), (1, va_rf x1)]) hx hb dX15_perform_8 rfl hl (by decide) (by simp [z_cat, z_rfs, z_catq]) (fun ls hl9 => ?_)
  replace hl := hl9
  clear hl9
  exact z_vret X hB ⟨rfl, h⟩ (z_k3 hK1) (z_k3 hK2) dX15_perform_9
theorem met_X15_perform {l : Launch} {G : z_E} {T : z_T} {I : z_I} {Q : z_Q} (o : Nat) (x1 : Option Nat) (kc : Nat) (ks : Nat) (Qk : z_T → z_I → z_Q → Prop) (Xk : String → Nat → z_T → z_I → z_Q → Prop) (h : wp_X15_perform G.2.2 T I Q o x1 kc ks Qk Xk) : z_GM l G yX15_perform (ws_ yX15_perform cX15_perform 3 none) 15 275 kc ks [.ref o, va_rf x1] z_PR T I Q (z_qv Qk) Xk := by
  obtain ⟨ho, h⟩ := h
  refine z_body (own := RX15) (nm := "perform") (by decide +kernel) rfl rfl (by cases x1 <;> exact Nat.le_of_ble_eq_true rfl) (fun p e R s m below meth c A ls X hB hl => ?_)
  replace hl : lv_has ls 3 [(0, .ref o), (1, va_rf x1)] := by cases x1 <;> exact hl
  exact ww_X15_perform_0 X ho hB z_k0 z_k0 hl h
/-! cmd -/
theorem pu_cmd_X15_perform : z_PU "RobotCell$Reader$1" "RobotCell$Command" ⟨"RobotCell$Command", "perform", "(LRobotCell$Cell;)V"⟩ yX15_perform cX15_perform 3 none 1 := ⟨q3167, q3168, q3169, q161, q3170, by decide +kernel⟩
theorem pu_cmd_X16_perform : z_PU "RobotCell$Reader$2" "RobotCell$Command" ⟨"RobotCell$Command", "perform", "(LRobotCell$Cell;)V"⟩ yX16_perform cX16_perform 3 none 1 := ⟨q3167, q3172, q3173, q162, q3174, by decide +kernel⟩
theorem pu_cmd_X17_perform : z_PU "RobotCell$Reader$3" "RobotCell$Command" ⟨"RobotCell$Command", "perform", "(LRobotCell$Cell;)V"⟩ yX17_perform cX17_perform 3 none 1 := ⟨q3167, q3176, q3177, q163, q3178, by decide +kernel⟩
theorem z_run_cmd {own nm : String} {ret : Option FieldType} {nL fr lo index count : Nat} {cc : ByteArray} {pc : Nat} {ls : Array Slot} {rest : List Value} {H : Heap} {locs : List Loc} {cells slots : Nat} {P : Nat → Prop} {a : Nat} {x1 : Option Nat} {kc ks : Nat} {Qk : z_T → z_I → z_Q → Prop} {Xk : String → Nat → z_T → z_I → z_Q → Prop} (h : wp_cmd G.2.2 T I Q a x1 kc ks Qk Xk) (X : z_X l G A p R s m args meth c cc nL own nm ret mc ms fr lo) (hB : z_HB G P A s.heap T0 I0 Q0 T I Q H locs) (hP : ¬ z_PR 0) (hlink : Cond.methodLink own index ⟨"RobotCell$Command", "perform", "(LRobotCell$Cell;)V"⟩ ∈ lw_all) (hsize : ls.size = nL) (hW : (rest.map fun v => v.category).sum ≤ 8) (hdg : decode cc pc = .ok (.invokevirtual index, 3)) (h1 : cells + kc ≤ mc) (h2 : slots + ks ≤ ms) (h3 : 28 ≤ fr) (h4 : 558 ≤ lo) :
    z_Run p l e R s m args below meth c H locs cells slots kc ks (F0 m pc ls (va_rf x1 :: .ref a :: rest)) rest G z_PR T I Q (z_qv Qk) Xk := by
  unfold wp_cmd at h
  rcases h with ⟨hk, h⟩ | ⟨hk, h⟩ | ⟨hk, h⟩
  · exact z_runA (rest := rest) [va_rf x1] pu_cmd_X15_perform q3166 (met_X15_perform a x1 kc ks _ _ h) X hB hP hlink kc_X15 (by decide) hk rfl hsize hW hdg h1 h2 (Nat.le_trans (by decide) h3) (Nat.le_trans (by decide) h4)
  · exact z_runA (rest := rest) [va_rf x1] pu_cmd_X16_perform q3166 (met_X16_perform a x1 kc ks _ _ h) X hB hP hlink kc_X16 (by decide) hk rfl hsize hW hdg h1 h2 (Nat.le_trans (by decide) h3) (Nat.le_trans (by decide) h4)
  · exact z_runA (rest := rest) [va_rf x1] pu_cmd_X17_perform q3166 (met_X17_perform a x1 kc ks _ _ h) X hB hP hlink kc_X17 (by decide) hk rfl hsize hW hdg h1 h2 (Nat.le_trans (by decide) h3) (Nat.le_trans (by decide) h4)
/-! X15_init -/
theorem ww_X15_init_0 {o : Nat} {Qk : z_T → z_I → z_Q → Prop} (X : z_X l G A p R s m args meth c cX15_init 3 RX15 "<init>" none 0 0 9 140) (ho : (T0 o).1 = 13) (hoc : 3 ≤ (T0 o).2.2) {T : z_T} {I : z_I} {Q : z_Q} {x1 : Option Nat} {x2 : Option Nat} {H : Heap} {locs : List Loc} {ls : Array Slot} (hB : z_HB G z_PR A s.heap T0 I0 Q0 T I Q H locs) (hl : lv_has ls 3 [(0, .ref o), (1, va_rf x1), (2, va_rf x2)]) (h : wb_X15_init_0 o Qk T I Q x1 x2) : W p l e R s m args below meth c H locs 0 0 (z_MQ below G z_PR A T0 I0 Q0 (z_qv Qk) z_no args s 0 0) (F0 m 0 ls []) := by
  obtain ⟨hx, hb, -⟩ := id X
  unfold wb_X15_init_0 at h
  refine lv_aload_n (x := o) hx hb dX15_init_0 rfl (lv_at hl 0 rfl) ?_
  refine z_aload_n (x := x1) hx hb dX15_init_1 rfl (lv_at hl 1 rfl) ?_
  obtain ⟨Q1, eQ1⟩ : ∃ z, z = z_up Q o 1 x1 := ⟨_, rfl⟩
  replace h := h Q1 eQ1
  refine z_putqF (x := x1) eQ1 tyX15 X hB kc_X15 in_X15 tyX15_ok nmX15 (j := 1) (Nat.le_of_ble_eq_true rfl) q3119 (fun _ h => h) rfl rfl rfl (by decide) (z_fo hB ho (by decide)) (z_foc hB ho (by decide) hoc) rfl (Or.inl ⟨_, rfl⟩) dX15_init_2 (fun H locs hB => ?_)
  refine lv_aload_n (x := o) hx hb dX15_init_5 rfl (lv_at hl 0 rfl) ?_
  refine z_aload_n (x := x2) hx hb dX15_init_6 rfl (lv_at hl 2 rfl) ?_
  obtain ⟨Q2, eQ2⟩ : ∃ z, z = z_up Q1 o 0 x2 := ⟨_, rfl⟩
  replace h := h Q2 eQ2
  refine z_putqF (x := x2) eQ2 tyX15 X hB kc_X15 in_X15 tyX15_ok nmX15 (j := 0) (Nat.le_of_ble_eq_true rfl) q3118 (fun _ h => h) rfl rfl rfl (by decide) (z_fo hB ho (by decide)) (z_foc hB ho (by decide) hoc) rfl (Or.inl ⟨_, rfl⟩) dX15_init_7 (fun H locs hB => ?_)
  refine lv_aload_n (x := o) hx hb dX15_init_10 rfl (lv_at hl 0 rfl) ?_
  refine z_callvp (z_runIN (rest := []) [] pk_X14_init (met_X14_init o _ h) X hB (fun h => h) q3114 rfl hl.1 (Nat.le_of_ble_eq_true rfl) dX15_init_11 (Nat.le_refl 0) (Nat.le_refl 0) (by decide) (by decide)) hB (fun H locs h9 hB => ?_)
  replace h := h9
  clear h9
  exact z_vret X hB ⟨rfl, h⟩ (Nat.le_refl 0) (Nat.le_refl 0) dX15_init_14
theorem pk_X15_init : z_PI yX15_init cX15_init 3 2 := ⟨q3112, q161, q3113, rfl, by decide +kernel⟩
theorem met_X15_init {l : Launch} {G : z_E} {T : z_T} {I : z_I} {Q : z_Q} (o : Nat) (x1 : Option Nat) (x2 : Option Nat) (Qk : z_T → z_I → z_Q → Prop) (h : wp_X15_init T I Q o x1 x2 Qk) : z_GM l G yX15_init (ws_ yX15_init cX15_init 3 none) 9 140 0 0 [.ref o, va_rf x1, va_rf x2] z_PR T I Q (z_qv Qk) z_no := by
  obtain ⟨ho, hoc, h⟩ := h
  refine z_body (own := RX15) (nm := "<init>") (by decide +kernel) rfl rfl (by cases x1 <;> cases x2 <;> exact Nat.le_of_ble_eq_true rfl) (fun p e R s m below meth c A ls X hB hl => ?_)
  replace hl : lv_has ls 3 [(0, .ref o), (1, va_rf x1), (2, va_rf x2)] := by cases x1 <;> cases x2 <;> exact hl
  exact ww_X15_init_0 X ho hoc hB hl h
/-! J7_init_4 -/
theorem ww_J7_init_4_60 {co : Nat} {o : Nat} {Qk : z_T → z_I → z_Q → Prop} (X : z_X l G A p R s m args meth c cJ7_init_4 5 RJ7 "<init>" none 0 0 8 120) (ho : (T0 o).1 = 16) (hoc : (T0 o).2.2 = co) {T : z_T} {I : z_I} {Q : z_Q} {H : Heap} {locs : List Loc} {ls : Array Slot} (hB : z_HB G (z_co co) A s.heap T0 I0 Q0 T I Q H locs) (hl : lv_has ls 5 []) (h : wb_J7_init_4_60 co o Qk T I Q) : W p l e R s m args below meth c H locs 0 0 (z_MQ below G (z_co co) A T0 I0 Q0 (z_qv Qk) z_no args s 0 0) (F0 m 60 ls []) := by
  obtain ⟨hx, hb, -⟩ := id X
  unfold wb_J7_init_4_60 at h
  exact z_vret X hB ⟨rfl, h⟩ (Nat.le_refl 0) (Nat.le_refl 0) dJ7_init_4_60
theorem ww_J7_init_4_41 {co : Nat} {o : Nat} {Qk : z_T → z_I → z_Q → Prop} (X : z_X l G A p R s m args meth c cJ7_init_4 5 RJ7 "<init>" none 0 0 8 120) (ho : (T0 o).1 = 16) (hoc : (T0 o).2.2 = co) {T : z_T} {I : z_I} {Q : z_Q} {x1 : Option Nat} {x2 : Option Nat} {x3 : Int32} {H : Heap} {locs : List Loc} {ls : Array Slot} (hB : z_HB G (z_co co) A s.heap T0 I0 Q0 T I Q H locs) (hl : lv_has ls 5 [(0, .ref o), (1, va_rf x1), (2, va_rf x2), (3, .int x3)]) (h : wb_J7_init_4_41 co o Qk T I Q x1 x2 x3) : W p l e R s m args below meth c H locs 0 0 (z_MQ below G (z_co co) A T0 I0 Q0 (z_qv Qk) z_no args s 0 0) (F0 m 41 ls []) := by
  obtain ⟨hx, hb, -⟩ := id X
  unfold wb_J7_init_4_41 at h
  refine lv_aload_n (x := o) hx hb dJ7_init_4_41 rfl (lv_at hl 0 rfl) ?_
  refine z_aload_n (x := x1) hx hb dJ7_init_4_42 rfl (lv_at hl 1 rfl) ?_
  obtain ⟨Q8, eQ8⟩ : ∃ z, z = z_up Q o 3 x1 := ⟨_, rfl⟩
  replace h := h Q8 eQ8
  refine z_putq (x := x1) eQ8 tyX13 X hB kc_X13 in_X13 tyX13_ok nmX13 (j := 3) (Nat.le_of_ble_eq_true rfl) q488 (fun _ h => h) rfl rfl (by decide) (z_fo hB ho (by decide)) (z_foc hB ho (by decide) hoc) rfl (Or.inl ⟨_, rfl⟩) dJ7_init_4_43 (fun H locs hB => ?_)
  refine lv_aload_n (x := o) hx hb dJ7_init_4_46 rfl (lv_at hl 0 rfl) ?_
  refine z_aload_n (x := x2) hx hb dJ7_init_4_47 rfl (lv_at hl 2 rfl) ?_
  obtain ⟨Q9, eQ9⟩ : ∃ z, z = z_up Q8 o 0 x2 := ⟨_, rfl⟩
  replace h := h Q9 eQ9
  refine z_putq (x := x2) eQ9 tyX13 X hB kc_X13 in_X13 tyX13_ok nmX13 (j := 0) (Nat.le_of_ble_eq_true rfl) q489 (fun _ h => h) rfl rfl (by decide) (z_fo hB ho (by decide)) (z_foc hB ho (by decide) hoc) rfl (Or.inl ⟨_, rfl⟩) dJ7_init_4_48 (fun H locs hB => ?_)
  refine lv_iload_n hx hb dJ7_init_4_51 rfl (lv_at hl 3 rfl) ?_
  refine lv_if_ne (tgt := 60) hx hb dJ7_init_4_52 (by decide) (fun c10 => ?_) (fun c10 => ?_)
  · replace h := h.1 c10
    exact ww_J7_init_4_60 X ho hoc  hB (lv_sub hl [] rfl) h
  · replace h := h.2 c10
    refine lv_aload_n (x := o) hx hb dJ7_init_4_55 rfl (lv_at hl 0 rfl) ?_
    refine lv_null hx hb dJ7_init_4_56 ?_
    refine z_stk (st' := [va_rf none, .ref o]) rfl ?_
    obtain ⟨Q11, eQ11⟩ : ∃ z, z = z_up Q9 o 2 none := ⟨_, rfl⟩
    replace h := h Q11 eQ11
    refine z_putq (x := none) eQ11 tyX13 X hB kc_X13 in_X13 tyX13_ok nmX13 (j := 2) (Nat.le_of_ble_eq_true rfl) q491 (fun _ h => h) rfl rfl (by decide) (z_fo hB ho (by decide)) (z_foc hB ho (by decide) hoc) rfl (Or.inl ⟨_, rfl⟩) dJ7_init_4_57 (fun H locs hB => ?_)
    exact ww_J7_init_4_60 X ho hoc  hB (lv_sub hl [] rfl) h
theorem ww_J7_init_4_0 {co : Nat} {o : Nat} {Qk : z_T → z_I → z_Q → Prop} (X : z_X l G A p R s m args meth c cJ7_init_4 5 RJ7 "<init>" none 0 0 8 120) (ho : (T0 o).1 = 16) (hoc : (T0 o).2.2 = co) {T : z_T} {I : z_I} {Q : z_Q} {x1 : Option Nat} {x2 : Option Nat} {x3 : Int32} {x4 : Int32} {H : Heap} {locs : List Loc} {ls : Array Slot} (hB : z_HB G (z_co co) A s.heap T0 I0 Q0 T I Q H locs) (hl : lv_has ls 5 [(0, .ref o), (1, va_rf x1), (2, va_rf x2), (3, .int x3), (4, .int x4)]) (h : wb_J7_init_4_0 co o Qk T I Q x1 x2 x3 x4) : W p l e R s m args below meth c H locs 0 0 (z_MQ below G (z_co co) A T0 I0 Q0 (z_qv Qk) z_no args s 0 0) (F0 m 0 ls []) := by
  obtain ⟨hx, hb, -⟩ := id X
  unfold wb_J7_init_4_0 at h
  refine lv_aload_n (x := o) hx hb dJ7_init_4_0 rfl (lv_at hl 0 rfl) ?_
  refine z_objInit (rest := []) X q231 hl.1 dJ7_init_4_1 (by decide) (Nat.le_of_ble_eq_true rfl) ?_
  refine lv_aload_n (x := o) hx hb dJ7_init_4_4 rfl (lv_at hl 0 rfl) ?_
  refine lv_aload_n (x := o) hx hb dJ7_init_4_5 rfl (lv_at hl 0 rfl) ?_
  obtain ⟨Q1, eQ1⟩ : ∃ z, z = z_up Q o 0 o := ⟨_, rfl⟩
  replace h := h Q1 eQ1
  refine z_putq (x := o) eQ1 tyX13 X hB kc_X13 in_X13 tyX13_ok nmX13 (j := 0) (Nat.le_of_ble_eq_true rfl) q489 (fun _ h => h) rfl rfl (by decide) (z_fo hB ho (by decide)) (z_foc hB ho (by decide) hoc) rfl (Or.inl ⟨_, rfl⟩) dJ7_init_4_6 (fun H locs hB => ?_)
  refine lv_aload_n (x := o) hx hb dJ7_init_4_9 rfl (lv_at hl 0 rfl) ?_
  refine z_getus (by simp) X hB q232 dJ7_init_4_10 (fun r2 => ?_)
  replace h := h r2
  obtain ⟨Q3, eQ3⟩ : ∃ z, z = z_up Q1 o 1 r2 := ⟨_, rfl⟩
  replace h := h Q3 eQ3
  refine z_putq (x := r2) eQ3 tyX13 X hB kc_X13 in_X13 tyX13_ok nmX13 (j := 1) (Nat.le_of_ble_eq_true rfl) q490 (fun _ h => h) rfl rfl (by decide) (z_fo hB ho (by decide)) (z_foc hB ho (by decide) hoc) rfl (Or.inr ⟨_, rfl⟩) dJ7_init_4_13 (fun H locs hB => ?_)
  refine lv_aload_n (x := o) hx hb dJ7_init_4_16 rfl (lv_at hl 0 rfl) ?_
  refine z_getus (by simp) X hB q234 dJ7_init_4_17 (fun r4 => ?_)
  replace h := h r4
  obtain ⟨Q5, eQ5⟩ : ∃ z, z = z_up Q3 o 2 r4 := ⟨_, rfl⟩
  replace h := h Q5 eQ5
  refine z_putq (x := r4) eQ5 tyX13 X hB kc_X13 in_X13 tyX13_ok nmX13 (j := 2) (Nat.le_of_ble_eq_true rfl) q491 (fun _ h => h) rfl rfl (by decide) (z_fo hB ho (by decide)) (z_foc hB ho (by decide) hoc) rfl (Or.inl ⟨_, rfl⟩) dJ7_init_4_20 (fun H locs hB => ?_)
  refine lv_iload hx hb dJ7_init_4_23 (lv_at hl 4 rfl) ?_
  refine lv_if_eq (tgt := 36) hx hb dJ7_init_4_25 (by decide) (fun c6 => ?_) (fun c6 => ?_)
  · replace h := h.1 c6
    refine lv_aload_n (x := o) hx hb dJ7_init_4_36 rfl (lv_at hl 0 rfl) ?_
    refine lv_null hx hb dJ7_init_4_37 ?_
    refine z_stk (st' := [va_rf none, .ref o]) rfl ?_
    obtain ⟨Q7, eQ7⟩ : ∃ z, z = z_up Q5 o 1 none := ⟨_, rfl⟩
    replace h := h Q7 eQ7
    refine z_putq (x := none) eQ7 tyX13 X hB kc_X13 in_X13 tyX13_ok nmX13 (j := 1) (Nat.le_of_ble_eq_true rfl) q490 (fun _ h => h) rfl rfl (by decide) (z_fo hB ho (by decide)) (z_foc hB ho (by decide) hoc) rfl (Or.inr ⟨_, rfl⟩) dJ7_init_4_38 (fun H locs hB => ?_)
    exact ww_J7_init_4_41 X ho hoc  hB (lv_sub hl [0, 1, 2, 3] rfl) h
  · replace h := h.2 c6
    refine lv_aload_n (x := o) hx hb dJ7_init_4_28 rfl (lv_at hl 0 rfl) ?_
    exact h.elim
theorem pk_J7_init_4 : z_PI yJ7_init_4 cJ7_init_4 5 4 := ⟨q3090, q103, q3091, rfl, by decide +kernel⟩
theorem met_J7_init_4 {l : Launch} {G : z_E} {T : z_T} {I : z_I} {Q : z_Q} (co : Nat) (o : Nat) (x1 : Option Nat) (x2 : Option Nat) (x3 : Int32) (x4 : Int32) (Qk : z_T → z_I → z_Q → Prop) (h : wp_J7_init_4 co T I Q o x1 x2 x3 x4 Qk) : z_GM l G yJ7_init_4 (ws_ yJ7_init_4 cJ7_init_4 5 none) 8 120 0 0 [.ref o, va_rf x1, va_rf x2, .int x3, .int x4] (z_co co) T I Q (z_qv Qk) z_no := by
  obtain ⟨ho, hoc, h⟩ := h
  refine z_body (own := RJ7) (nm := "<init>") (by decide +kernel) rfl rfl (by cases x1 <;> cases x2 <;> exact Nat.le_of_ble_eq_true rfl) (fun p e R s m below meth c A ls X hB hl => ?_)
  replace hl : lv_has ls 5 [(0, .ref o), (1, va_rf x1), (2, va_rf x2), (3, .int x3), (4, .int x4)] := by cases x1 <;> cases x2 <;> exact hl
  exact ww_J7_init_4_0 X ho hoc hB hl h
/-! J8_init_4 -/
theorem ww_J8_init_4_0 {co : Nat} {o : Nat} {Qk : z_T → z_I → z_Q → Prop} (X : z_X l G A p R s m args meth c cJ8_init_4 5 RJ8 "<init>" none 0 0 9 144) {T : z_T} {I : z_I} {Q : z_Q} {x1 : Option Nat} {x2 : Option Nat} {x3 : Int32} {x4 : Int32} {H : Heap} {locs : List Loc} {ls : Array Slot} (hB : z_HB G (z_co co) A s.heap T0 I0 Q0 T I Q H locs) (hl : lv_has ls 5 [(0, .ref o), (1, va_rf x1), (2, va_rf x2), (3, .int x3), (4, .int x4)]) (h : wb_J8_init_4_0 co o Qk T I Q x1 x2 x3 x4) : W p l e R s m args below meth c H locs 0 0 (z_MQ below G (z_co co) A T0 I0 Q0 (z_qv Qk) z_no args s 0 0) (F0 m 0 ls []) := by
  obtain ⟨hx, hb, -⟩ := id X
  unfold wb_J8_init_4_0 at h
  refine lv_aload_n (x := o) hx hb dJ8_init_4_0 rfl (lv_at hl 0 rfl) ?_
  refine z_aload_n (x := x1) hx hb dJ8_init_4_1 rfl (lv_at hl 1 rfl) ?_
  refine z_aload_n (x := x2) hx hb dJ8_init_4_2 rfl (lv_at hl 2 rfl) ?_
  refine lv_iload_n hx hb dJ8_init_4_3 rfl (lv_at hl 3 rfl) ?_
  refine lv_iload hx hb dJ8_init_4_4 (lv_at hl 4 rfl) ?_
  refine z_callv (z_runI (rest := []) [va_rf x1, va_rf x2, .int x3, .int x4] pk_J7_init_4 (met_J7_init_4 co o x1 x2 x3 x4 _ h) X hB hB.2.2.2.2.2.2 q3089 rfl hl.1 (Nat.le_of_ble_eq_true rfl) dJ8_init_4_6 (Nat.le_refl 0) (Nat.le_refl 0) (by decide) (by decide)) hB (fun _ h => h) (fun T2 I3 Q4 H locs h9 hF hB => ?_)
  replace h := h9
  clear h9
  replace h := h hF
  exact z_vret X hB ⟨rfl, h⟩ (Nat.le_refl 0) (Nat.le_refl 0) dJ8_init_4_9
theorem pk_J8_init_4 : z_PI yJ8_init_4 cJ8_init_4 5 4 := ⟨q3087, q104, q3088, rfl, by decide +kernel⟩
theorem met_J8_init_4 {l : Launch} {G : z_E} {T : z_T} {I : z_I} {Q : z_Q} (co : Nat) (o : Nat) (x1 : Option Nat) (x2 : Option Nat) (x3 : Int32) (x4 : Int32) (Qk : z_T → z_I → z_Q → Prop) (h : wp_J8_init_4 co T I Q o x1 x2 x3 x4 Qk) : z_GM l G yJ8_init_4 (ws_ yJ8_init_4 cJ8_init_4 5 none) 9 144 0 0 [.ref o, va_rf x1, va_rf x2, .int x3, .int x4] (z_co co) T I Q (z_qv Qk) z_no := by
  refine z_body (own := RJ8) (nm := "<init>") (by decide +kernel) rfl rfl (by cases x1 <;> cases x2 <;> exact Nat.le_of_ble_eq_true rfl) (fun p e R s m below meth c A ls X hB hl => ?_)
  replace hl : lv_has ls 5 [(0, .ref o), (1, va_rf x1), (2, va_rf x2), (3, .int x3), (4, .int x4)] := by cases x1 <;> cases x2 <;> exact hl
  exact ww_J8_init_4_0 X hB hl h
/-! X13_init -/
theorem ww_X13_init_0 {o : Nat} {Qk : z_T → z_I → z_Q → Prop} (X : z_X l G A p R s m args meth c cX13_init 2 RX13 "<init>" none 0 0 10 168) (ho : (T0 o).1 = 16) (hoc : 3 ≤ (T0 o).2.2) {T : z_T} {I : z_I} {Q : z_Q} {x1 : Int32} {H : Heap} {locs : List Loc} {ls : Array Slot} (hB : z_HB G z_PR A s.heap T0 I0 Q0 T I Q H locs) (hl : lv_has ls 2 [(0, .ref o), (1, .int x1)]) (h : wb_X13_init_0 o Qk T I Q x1) : W p l e R s m args below meth c H locs 0 0 (z_MQ below G z_PR A T0 I0 Q0 (z_qv Qk) z_no args s 0 0) (F0 m 0 ls []) := by
  obtain ⟨hx, hb, -⟩ := id X
  unfold wb_X13_init_0 at h
  refine lv_aload_n (x := o) hx hb dX13_init_0 rfl (lv_at hl 0 rfl) ?_
  refine lv_null hx hb dX13_init_1 ?_
  refine z_stk (st' := [va_rf none, .ref o]) rfl ?_
  refine lv_null hx hb dX13_init_2 ?_
  refine z_stk (st' := [va_rf none, va_rf none, .ref o]) rfl ?_
  refine lv_iconst (v := 0) hx hb dX13_init_3 (by decide) ?_
  refine lv_iconst (v := 0) hx hb dX13_init_4 (by decide) ?_
  obtain ⟨co2, hco2, h⟩ := h
  refine z_callv (z_runI (rest := []) [va_rf none, va_rf none, .int 0, .int 0] pk_J8_init_4 (met_J8_init_4 co2 o none none 0 0 _ h) X hB (z_coR0 hco2) q3086 rfl hl.1 (Nat.le_of_ble_eq_true rfl) dX13_init_5 (Nat.le_refl 0) (Nat.le_refl 0) (by decide) (by decide)) hB (z_coR hco2) (fun T3 I4 Q5 H locs h9 hF hB => ?_)
  replace h := h9
  clear h9
  replace h := h hF
  refine lv_aload_n (x := o) hx hb dX13_init_8 rfl (lv_at hl 0 rfl) ?_
  refine lv_iload_n hx hb dX13_init_9 rfl (lv_at hl 1 rfl) ?_
  obtain ⟨I6, eI6⟩ : ∃ z, z = z_up I4 o 6 x1 := ⟨_, rfl⟩
  replace h := h I6 eI6
  refine z_putiF (x := x1) eI6 tyX13 X hB kc_X13 in_X13 tyX13_ok nmX13 (j := 6) (Nat.le_of_ble_eq_true rfl) q3092 (fun _ h => h) rfl rfl rfl (by decide) (z_fo hB ho (by decide)) (z_foc hB ho (by decide) hoc) rfl (Or.inl rfl) dX13_init_10 (fun H locs hB => ?_)
  exact z_vret X hB ⟨rfl, h⟩ (Nat.le_refl 0) (Nat.le_refl 0) dX13_init_13
theorem pk_X13_init : z_PI yX13_init cX13_init 2 1 := ⟨q3084, q159, q3085, rfl, by decide +kernel⟩
theorem met_X13_init {l : Launch} {G : z_E} {T : z_T} {I : z_I} {Q : z_Q} (o : Nat) (x1 : Int32) (Qk : z_T → z_I → z_Q → Prop) (h : wp_X13_init T I Q o x1 Qk) : z_GM l G yX13_init (ws_ yX13_init cX13_init 2 none) 10 168 0 0 [.ref o, .int x1] z_PR T I Q (z_qv Qk) z_no := by
  obtain ⟨ho, hoc, h⟩ := h
  refine z_body (own := RX13) (nm := "<init>") (by decide +kernel) rfl rfl (Nat.le_of_ble_eq_true rfl) (fun p e R s m below meth c A ls X hB hl => ?_)
  exact ww_X13_init_0 X ho hoc hB hl h
/-! X12_isDigit -/
theorem ww_X12_isDigit_41 {T : z_T} {I : z_I} {Q : z_Q} {o : Nat} {Qk : Int32 → Prop} (X : z_X l G A p R s m args meth c cX12_isDigit 1 RX12 "isDigit" (some .boolean) 0 0 9 142) (ho : (T o).1 = 12) {s0 : Int32} {H : Heap} {locs : List Loc} {ls : Array Slot} (hB : z_HB G z_none A s.heap T I Q T I Q H locs) (hl : lv_has ls 1 []) (h : wb_X12_isDigit_41 T I Q o Qk s0) : W p l e R s m args below meth c H locs 0 0 (z_MQ below G z_none A T I Q (z_pz Qk T I Q) z_no args s 0 0) (F0 m 41 ls [.int s0]) := by
  obtain ⟨hx, hb, -⟩ := id X
  unfold wb_X12_isDigit_41 at h
  obtain ⟨hz, h⟩ := h
  exact z_zret X hB hz ⟨_, rfl, hz, h, rfl, rfl, rfl⟩ (Nat.le_refl 0) (Nat.le_refl 0) dX12_isDigit_41
theorem ww_X12_isDigit_40 {T : z_T} {I : z_I} {Q : z_Q} {o : Nat} {Qk : Int32 → Prop} (X : z_X l G A p R s m args meth c cX12_isDigit 1 RX12 "isDigit" (some .boolean) 0 0 9 142) (ho : (T o).1 = 12) {H : Heap} {locs : List Loc} {ls : Array Slot} (hB : z_HB G z_none A s.heap T I Q T I Q H locs) (hl : lv_has ls 1 []) (h : wb_X12_isDigit_40 T I Q o Qk ) : W p l e R s m args below meth c H locs 0 0 (z_MQ below G z_none A T I Q (z_pz Qk T I Q) z_no args s 0 0) (F0 m 40 ls []) := by
  obtain ⟨hx, hb, -⟩ := id X
  unfold wb_X12_isDigit_40 at h
  refine lv_iconst (v := 0) hx hb dX12_isDigit_40 (by decide) ?_
  exact ww_X12_isDigit_41 X ho  hB (lv_sub hl [] rfl) h
theorem ww_X12_isDigit_0 {T : z_T} {I : z_I} {Q : z_Q} {o : Nat} {Qk : Int32 → Prop} (X : z_X l G A p R s m args meth c cX12_isDigit 1 RX12 "isDigit" (some .boolean) 0 0 9 142) (ho : (T o).1 = 12) {H : Heap} {locs : List Loc} {ls : Array Slot} (hB : z_HB G z_none A s.heap T I Q T I Q H locs) (hl : lv_has ls 1 [(0, .ref o)]) (h : wb_X12_isDigit_0 T I Q o Qk ) : W p l e R s m args below meth c H locs 0 0 (z_MQ below G z_none A T I Q (z_pz Qk T I Q) z_no args s 0 0) (F0 m 0 ls []) := by
  obtain ⟨hx, hb, -⟩ := id X
  unfold wb_X12_isDigit_0 at h
  refine lv_aload_n (x := o) hx hb dX12_isDigit_0 rfl (lv_at hl 0 rfl) ?_
  refine z_geti X hB.1 kc_X12 in_X12 (j := 0) (Nat.le_of_ble_eq_true rfl) q3032 (fun _ h => h) rfl (by decide) ho dX12_isDigit_1 ?_
  refine lv_aload_n (x := o) hx hb dX12_isDigit_4 rfl (lv_at hl 0 rfl) ?_
  refine z_getq X hB.1 kc_X12 in_X12 (j := 1) (Nat.le_of_ble_eq_true rfl) q3033 (fun _ h => h) rfl (by decide) ho dX12_isDigit_5 ?_
  obtain ⟨a1, ea1, h⟩ := h
  refine z_stk (st' := [.ref a1, .int (I o 0)]) (by rw [ea1] <;> rfl) ?_
  obtain ⟨hk_a1, h⟩ := h
  refine z_getiN X hB.1 kc_X1 in_X1 (j := 4) (Nat.le_of_ble_eq_true rfl) q1301 (fun _ h => h) rfl (by decide) hk_a1 dX12_isDigit_8 ?_
  refine lv_icmp_ge (tgt := 40) hx hb dX12_isDigit_11 (by decide) (fun c2 => ?_) (fun c2 => ?_)
  · replace h := h.1 c2
    exact ww_X12_isDigit_40 X ho  hB (lv_sub hl [] rfl) h
  · replace h := h.2 c2
    refine lv_aload_n (x := o) hx hb dX12_isDigit_14 rfl (lv_at hl 0 rfl) ?_
    refine z_getq X hB.1 kc_X12 in_X12 (j := 1) (Nat.le_of_ble_eq_true rfl) q3033 (fun _ h => h) rfl (by decide) ho dX12_isDigit_15 ?_
    refine z_stk (st' := [.ref a1]) (by rw [ea1] <;> rfl) ?_
    refine z_getqN X hB.1 kc_X1 in_X1 (j := 3) (Nat.le_of_ble_eq_true rfl) q1299 (fun _ h => h) rfl (by decide) hk_a1 dX12_isDigit_18 ?_
    refine lv_aload_n (x := o) hx hb dX12_isDigit_21 rfl (lv_at hl 0 rfl) ?_
    refine z_geti X hB.1 kc_X12 in_X12 (j := 0) (Nat.le_of_ble_eq_true rfl) q3032 (fun _ h => h) rfl (by decide) ho dX12_isDigit_22 ?_
    obtain ⟨a3, ea3, h⟩ := h
    refine z_stk (st' := [.int (I o 0), .ref a3]) (by rw [ea3] <;> rfl) ?_
    obtain ⟨hk_a3, h⟩ := h
    obtain ⟨h1, h⟩ := h
    refine z_cald X hB.1 hk_a3 h1 dX12_isDigit_25 ?_
    refine lv_bipush (v := 48) hx hb dX12_isDigit_26 (by decide) ?_
    refine lv_bipush (v := 57) hx hb dX12_isDigit_28 (by decide) ?_
    refine z_callzp (z_runSN (rest := []) [.int (I a3 (I o 0).toNatClampNeg), .int 48, .int 57] pk_X1_inRange (met_X1_inRange (I a3 (I o 0).toNatClampNeg) 48 57 _ h) X hB (fun h => h) q3069 rfl hl.1 (Nat.le_of_ble_eq_true rfl) dX12_isDigit_30 (Nat.le_refl 0) (Nat.le_refl 0) (by decide) (by decide)) hB (fun r4 H locs hz h9 hB => ?_)
    replace h := h9
    clear h9
    replace h := h hz
    refine lv_if_eq (tgt := 40) hx hb dX12_isDigit_33 (by decide) (fun c5 => ?_) (fun c5 => ?_)
    · replace h := h.1 c5
      exact ww_X12_isDigit_40 X ho  hB (lv_sub hl [] rfl) h
    · replace h := h.2 c5
      refine lv_iconst (v := 1) hx hb dX12_isDigit_36 (by decide) ?_
      refine lv_goto (tgt := 41) hx hb dX12_isDigit_37 (by decide) ?_
      exact ww_X12_isDigit_41 X ho  hB (lv_sub hl [] rfl) h
theorem pk_X12_isDigit : z_PV RX12 yX12_isDigit cX12_isDigit 1 (some .boolean) 0 := ⟨q3067, qs41, q158, q3068, by decide +kernel⟩
theorem met_X12_isDigit {l : Launch} {G : z_E} {T : z_T} {I : z_I} {Q : z_Q} (o : Nat) (Qk : Int32 → Prop) (h : wp_X12_isDigit T I Q o Qk) : z_GM l G yX12_isDigit (ws_ yX12_isDigit cX12_isDigit 1 (some .boolean)) 9 142 0 0 [.ref o] z_none T I Q (z_pz Qk T I Q) z_no := by
  obtain ⟨ho, h⟩ := h
  refine z_body (own := RX12) (nm := "isDigit") (by decide +kernel) rfl rfl (Nat.le_of_ble_eq_true rfl) (fun p e R s m below meth c A ls X hB hl => ?_)
  exact ww_X12_isDigit_0 X ho hB hl h
/-! X12_need -/
theorem ww_X12_need_0 {o : Nat} {Qk : z_T → z_I → z_Q → Prop} {Xk : String → Nat → z_T → z_I → z_Q → Prop} (X : z_X l G A p R s m args meth c cX12_need 2 RX12 "need" none mc ms 11 189) (ho : (T0 o).1 = 12) {cells slots : Nat} {T : z_T} {I : z_I} {Q : z_Q} {kc : Nat} {ks : Nat} {x1 : Int32} {H : Heap} {locs : List Loc} {ls : Array Slot} (hB : z_HB G z_PR A s.heap T0 I0 Q0 T I Q H locs) (hK1 : cells + kc ≤ mc) (hK2 : slots + ks ≤ ms) (hl : lv_has ls 2 [(0, .ref o), (1, .int x1)]) (h : wb_X12_need_0 o Qk Xk T I Q kc ks x1) : W p l e R s m args below meth c H locs cells slots (z_MQ below G z_PR A T0 I0 Q0 (z_qv Qk) Xk args s mc ms) (F0 m 0 ls []) := by
  obtain ⟨hx, hb, -⟩ := id X
  unfold wb_X12_need_0 at h
  refine lv_iload_n hx hb dX12_need_0 rfl (lv_at hl 1 rfl) ?_
  refine lv_if_ne (tgt := 16) hx hb dX12_need_1 (by decide) (fun c1 => ?_) (fun c1 => ?_)
  · replace h := h.1 c1
    exact z_vret X hB ⟨rfl, h⟩ (z_k3 hK1) (z_k3 hK2) dX12_need_16
  · replace h := h.2 c1
    obtain ⟨co2, hco2, h⟩ := h
    obtain ⟨g1, g2, h⟩ := h
    refine z_new (col := co2) tyX13 X hB kc_X13 in_X13 tyX13_ok q3074 q3075 q159 (by decide) (z_dvX13) hco2 (z_k1 hK1 g1) (z_k1 hK2 g2) dX12_need_4 (fun a3 H hq hB => ?_)
    obtain ⟨T4, eT4⟩ : ∃ z, z = z_t T a3 (16, 0, co2) := ⟨_, rfl⟩
    obtain ⟨I5, eI5⟩ : ∃ z, z = z_row I a3 (fun _ => 0) := ⟨_, rfl⟩
    obtain ⟨Q6, eQ6⟩ : ∃ z, z = z_row Q a3 (fun _ => none) := ⟨_, rfl⟩
    rw [← eT4, ← eI5, ← eQ6] at hB
    replace h := h a3 T4 I5 Q6 hq eT4 eI5 eQ6
    have hk_a3 := z_tq eT4
    have hc_a3 : 3 ≤ (T4 a3).2.2 := by rw [z_tqc eT4]; exact hco2
    replace hK1 := z_k2 hK1 g1
    replace hK2 := z_k2 hK2 g2
    refine lv_dup hx hb dX12_need_7 rfl ?_
    refine lv_aload_n (x := o) hx hb dX12_need_8 rfl (lv_at hl 0 rfl) ?_
    refine z_geti X hB.1 kc_X12 in_X12 (j := 0) (Nat.le_of_ble_eq_true rfl) q3032 (fun _ h => h) rfl (by decide) (z_fo hB ho (by decide)) dX12_need_9 ?_
    refine z_callv (z_runI (rest := [.ref a3]) [.int (I5 o 0)] pk_X13_init (met_X13_init a3 (I5 o 0) _ h) X hB hB.2.2.2.2.2.2 q3083 rfl hl.1 (Nat.le_of_ble_eq_true rfl) dX12_need_12 (z_k4 hK1) (z_k4 hK2) (by decide) (by decide)) hB (fun _ h => h) (fun T8 I9 Q10 H locs h9 hF hB => ?_)
    replace h := h9
    clear h9
    replace h := h hF
    have hc_a3 : 3 ≤ (T8 a3).2.2 := by rw [z_te hF hk_a3 (by decide)]; exact hc_a3
    have hk_a3 := z_tk hF hk_a3 (by decide)
    exact z_athr (by decide +kernel) X hB kc_X13 (by decide) hk_a3 h (z_k3 hK1) (z_k3 hK2) dX12_need_15
theorem pk_X12_need : z_PV RX12 yX12_need cX12_need 2 none 1 := ⟨q3072, qs42, q158, q3073, by decide +kernel⟩
theorem met_X12_need {l : Launch} {G : z_E} {T : z_T} {I : z_I} {Q : z_Q} (o : Nat) (x1 : Int32) (kc : Nat) (ks : Nat) (Qk : z_T → z_I → z_Q → Prop) (Xk : String → Nat → z_T → z_I → z_Q → Prop) (h : wp_X12_need T I Q o x1 kc ks Qk Xk) : z_GM l G yX12_need (ws_ yX12_need cX12_need 2 none) 11 189 kc ks [.ref o, .int x1] z_PR T I Q (z_qv Qk) Xk := by
  obtain ⟨ho, h⟩ := h
  refine z_body (own := RX12) (nm := "need") (by decide +kernel) rfl rfl (Nat.le_of_ble_eq_true rfl) (fun p e R s m below meth c A ls X hB hl => ?_)
  exact ww_X12_need_0 X ho hB z_k0 z_k0 hl h
/-! X12_digit -/
theorem ww_X12_digit_0 {o : Nat} {Qk : Int32 → z_T → z_I → z_Q → Prop} {Xk : String → Nat → z_T → z_I → z_Q → Prop} (X : z_X l G A p R s m args meth c cX12_digit 1 RX12 "digit" (some .int) mc ms 12 210) (ho : (T0 o).1 = 12) (hoc : 3 ≤ (T0 o).2.2) {cells slots : Nat} {T : z_T} {I : z_I} {Q : z_Q} {kc : Nat} {ks : Nat} {H : Heap} {locs : List Loc} {ls : Array Slot} (hB : z_HB G z_PR A s.heap T0 I0 Q0 T I Q H locs) (hK1 : cells + kc ≤ mc) (hK2 : slots + ks ≤ ms) (hl : lv_has ls 1 [(0, .ref o)]) (h : wb_X12_digit_0 o Qk Xk T I Q kc ks) : W p l e R s m args below meth c H locs cells slots (z_MQ below G z_PR A T0 I0 Q0 (z_qi Qk) Xk args s mc ms) (F0 m 0 ls []) := by
  obtain ⟨hx, hb, -⟩ := id X
  unfold wb_X12_digit_0 at h
  refine lv_aload_n (x := o) hx hb dX12_digit_0 rfl (lv_at hl 0 rfl) ?_
  refine lv_aload_n (x := o) hx hb dX12_digit_1 rfl (lv_at hl 0 rfl) ?_
  refine z_callzp (z_runV (rest := [.ref o]) [] pk_X12_isDigit (met_X12_isDigit o _ h) X hB (fun h => h) q3065 kc_X12 (by decide) (z_fo hB ho (by decide)) rfl hl.1 (Nat.le_of_ble_eq_true rfl) dX12_digit_2 (z_k4 hK1) (z_k4 hK2) (by decide) (by decide)) hB (fun r1 H locs hz h9 hB => ?_)
  replace h := h9
  clear h9
  replace h := h hz
  obtain ⟨kc3, ks4, g1, g2, h⟩ := h
  refine z_callXv (z_runV (rest := []) [.int r1] pk_X12_need (met_X12_need o r1 kc3 ks4 _ _ h) X hB hB.2.2.2.2.2.2 q3070 kc_X12 (by decide) (z_fo hB ho (by decide)) rfl hl.1 (Nat.le_of_ble_eq_true rfl) dX12_digit_5 (z_k1 hK1 g1) (z_k1 hK2 g2) (by decide) (by decide)) hB (fun _ h => h) (z_on (by decide +kernel) X (z_k1 hK1 g1) (z_k1 hK2 g2)) (fun T5 I6 Q7 H locs h9 hF hB => ?_)
  replace h := h9
  clear h9
  replace h := h hF
  replace hK1 := z_k2 hK1 g1
  replace hK2 := z_k2 hK2 g2
  refine lv_aload_n (x := o) hx hb dX12_digit_8 rfl (lv_at hl 0 rfl) ?_
  refine lv_dup hx hb dX12_digit_9 rfl ?_
  refine z_geti X hB.1 kc_X12 in_X12 (j := 0) (Nat.le_of_ble_eq_true rfl) q3032 (fun _ h => h) rfl (by decide) (z_fo hB ho (by decide)) dX12_digit_10 ?_
  refine lv_iconst (v := 1) hx hb dX12_digit_13 (by decide) ?_
  refine lv_iadd hx hb dX12_digit_14 ?_
  obtain ⟨I8, eI8⟩ : ∃ z, z = z_up I6 o 0 ((I6 o 0) + 1) := ⟨_, rfl⟩
  replace h := h I8 eI8
  refine z_puti (x := ((I6 o 0) + 1)) eI8 tyX12 X hB kc_X12 in_X12 tyX12_ok nmX12 (j := 0) (Nat.le_of_ble_eq_true rfl) q3032 (fun _ h => h) rfl rfl (by decide) (z_fo hB ho (by decide)) (z_foc hB ho (by decide) hoc) rfl (Or.inl rfl) dX12_digit_15 (fun H locs hB => ?_)
  refine lv_aload_n (x := o) hx hb dX12_digit_18 rfl (lv_at hl 0 rfl) ?_
  refine z_getq X hB.1 kc_X12 in_X12 (j := 1) (Nat.le_of_ble_eq_true rfl) q3033 (fun _ h => h) rfl (by decide) (z_fo hB ho (by decide)) dX12_digit_19 ?_
  obtain ⟨a9, ea9, h⟩ := h
  refine z_stk (st' := [.ref a9]) (by rw [ea9] <;> rfl) ?_
  obtain ⟨hk_a9, h⟩ := h
  refine z_getqN X hB.1 kc_X1 in_X1 (j := 3) (Nat.le_of_ble_eq_true rfl) q1299 (fun _ h => h) rfl (by decide) hk_a9 dX12_digit_22 ?_
  refine lv_aload_n (x := o) hx hb dX12_digit_25 rfl (lv_at hl 0 rfl) ?_
  refine z_geti X hB.1 kc_X12 in_X12 (j := 0) (Nat.le_of_ble_eq_true rfl) q3032 (fun _ h => h) rfl (by decide) (z_fo hB ho (by decide)) dX12_digit_26 ?_
  refine lv_iconst (v := 1) hx hb dX12_digit_29 (by decide) ?_
  refine lv_isub hx hb dX12_digit_30 ?_
  obtain ⟨a10, ea10, h⟩ := h
  refine z_stk (st' := [.int ((I8 o 0) - 1), .ref a10]) (by rw [ea10] <;> rfl) ?_
  obtain ⟨hk_a10, h⟩ := h
  obtain ⟨h1, h⟩ := h
  refine z_cald X hB.1 hk_a10 h1 dX12_digit_31 ?_
  refine lv_bipush (v := 48) hx hb dX12_digit_32 (by decide) ?_
  refine lv_isub hx hb dX12_digit_34 ?_
  exact z_iret X hB ⟨_, rfl, h⟩ (z_k3 hK1) (z_k3 hK2) dX12_digit_35
theorem pk_X12_digit : z_PV RX12 yX12_digit cX12_digit 1 (some .int) 0 := ⟨q3063, qs40, q158, q3064, by decide +kernel⟩
theorem met_X12_digit {l : Launch} {G : z_E} {T : z_T} {I : z_I} {Q : z_Q} (o : Nat) (kc : Nat) (ks : Nat) (Qk : Int32 → z_T → z_I → z_Q → Prop) (Xk : String → Nat → z_T → z_I → z_Q → Prop) (h : wp_X12_digit T I Q o kc ks Qk Xk) : z_GM l G yX12_digit (ws_ yX12_digit cX12_digit 1 (some .int)) 12 210 kc ks [.ref o] z_PR T I Q (z_qi Qk) Xk := by
  obtain ⟨ho, hoc, h⟩ := h
  refine z_body (own := RX12) (nm := "digit") (by decide +kernel) rfl rfl (Nat.le_of_ble_eq_true rfl) (fun p e R s m below meth c A ls X hB hl => ?_)
  exact ww_X12_digit_0 X ho hoc hB z_k0 z_k0 hl h
/-! X12_interlock -/
theorem ww_X12_interlock_0 {o : Nat} {Qk : Option Nat → z_T → z_I → z_Q → Prop} {Xk : String → Nat → z_T → z_I → z_Q → Prop} (X : z_X l G A p R s m args meth c cX12_interlock 3 RX12 "interlock" (some (.object "RobotCell$Command")) mc ms 13 230) (ho : (T0 o).1 = 12) {cells slots : Nat} {T : z_T} {I : z_I} {Q : z_Q} {kc : Nat} {ks : Nat} {H : Heap} {locs : List Loc} {ls : Array Slot} (hB : z_HB G z_PR A s.heap T0 I0 Q0 T I Q H locs) (hK1 : cells + kc ≤ mc) (hK2 : slots + ks ≤ ms) (hl : lv_has ls 3 [(0, .ref o)]) (h : wb_X12_interlock_0 o Qk Xk T I Q kc ks) : W p l e R s m args below meth c H locs cells slots (z_MQ below G z_PR A T0 I0 Q0 (z_qr Qk) Xk args s mc ms) (F0 m 0 ls []) := by
  obtain ⟨hx, hb, -⟩ := id X
  unfold wb_X12_interlock_0 at h
  refine lv_aload_n (x := o) hx hb dX12_interlock_0 rfl (lv_at hl 0 rfl) ?_
  obtain ⟨kc2, ks3, g1, g2, h⟩ := h
  refine z_callXi (z_runV (rest := []) [] pk_X12_digit (met_X12_digit o kc2 ks3 _ _ h) X hB hB.2.2.2.2.2.2 q3061 kc_X12 (by decide) (z_fo hB ho (by decide)) rfl hl.1 (Nat.le_of_ble_eq_true rfl) dX12_interlock_1 (z_k1 hK1 g1) (z_k1 hK2 g2) (by decide) (by decide)) hB (fun _ h => h) (z_on (by decide +kernel) X (z_k1 hK1 g1) (z_k1 hK2 g2)) (fun r1 T4 I5 Q6 H locs h9 hF hB => ?_)
  replace h := h9
  clear h9
  replace h := h hF
  replace hK1 := z_k2 hK1 g1
  replace hK2 := z_k2 hK2 g2
  refine lv_istore_n (lv' := [(1, .int r1), (0, .ref o)]) hx hb dX12_interlock_4 rfl hl (by decide) rfl (fun ls hl9 => ?_)
  replace hl := hl9
  clear hl9
  refine lv_aload_n (x := o) hx hb dX12_interlock_5 rfl (lv_at hl 1 rfl) ?_
  obtain ⟨kc8, ks9, g1, g2, h⟩ := h
  refine z_callXi (z_runV (rest := []) [] pk_X12_digit (met_X12_digit o kc8 ks9 _ _ h) X hB hB.2.2.2.2.2.2 q3061 kc_X12 (by decide) (z_fo hB ho (by decide)) rfl hl.1 (Nat.le_of_ble_eq_true rfl) dX12_interlock_6 (z_k1 hK1 g1) (z_k1 hK2 g2) (by decide) (by decide)) hB (fun _ h => h) (z_on (by decide +kernel) X (z_k1 hK1 g1) (z_k1 hK2 g2)) (fun r7 T10 I11 Q12 H locs h9 hF hB => ?_)
  replace h := h9
  clear h9
  replace h := h hF
  replace hK1 := z_k2 hK1 g1
  replace hK2 := z_k2 hK2 g2
  refine lv_istore_n (lv' := [(2, .int r7), (1, .int r1), (0, .ref o)]) hx hb dX12_interlock_9 rfl hl (by decide) rfl (fun ls hl9 => ?_)
  replace hl := hl9
  clear hl9
  obtain ⟨co13, hco13, h⟩ := h
  obtain ⟨g1, g2, h⟩ := h
  refine z_new (col := co13) tyX17 X hB kc_X17 in_X17 tyX17_ok q3146 q3147 q163 (by decide) (z_dvX17) hco13 (z_k1 hK1 g1) (z_k1 hK2 g2) dX12_interlock_10 (fun a14 H hq hB => ?_)
  obtain ⟨T15, eT15⟩ : ∃ z, z = z_t T10 a14 (15, 0, co13) := ⟨_, rfl⟩
  obtain ⟨I16, eI16⟩ : ∃ z, z = z_row I11 a14 (fun _ => 0) := ⟨_, rfl⟩
  obtain ⟨Q17, eQ17⟩ : ∃ z, z = z_row Q12 a14 (fun _ => none) := ⟨_, rfl⟩
  rw [← eT15, ← eI16, ← eQ17] at hB
  replace h := h a14 T15 I16 Q17 hq eT15 eI16 eQ17
  have hk_a14 := z_tq eT15
  have hc_a14 : 3 ≤ (T15 a14).2.2 := by rw [z_tqc eT15]; exact hco13
  replace hK1 := z_k2 hK1 g1
  replace hK2 := z_k2 hK2 g2
  refine lv_dup hx hb dX12_interlock_13 rfl ?_
  refine lv_aload_n (x := o) hx hb dX12_interlock_14 rfl (lv_at hl 2 rfl) ?_
  refine lv_iload_n hx hb dX12_interlock_15 rfl (lv_at hl 1 rfl) ?_
  refine lv_iload_n hx hb dX12_interlock_16 rfl (lv_at hl 0 rfl) ?_
  refine z_callv (z_runI (rest := [.ref a14]) [.ref o, .int r1, .int r7] pk_X17_init (met_X17_init a14 o r1 r7 _ h) X hB hB.2.2.2.2.2.2 q3148 rfl hl.1 (Nat.le_of_ble_eq_true rfl) dX12_interlock_17 (z_k4 hK1) (z_k4 hK2) (by decide) (by decide)) hB (fun _ h => h) (fun T19 I20 Q21 H locs h9 hF hB => ?_)
  replace h := h9
  clear h9
  replace h := h hF
  have hc_a14 : 3 ≤ (T19 a14).2.2 := by rw [z_te hF hk_a14 (by decide)]; exact hc_a14
  have hk_a14 := z_tk hF hk_a14 (by decide)
  exact z_aret (v := (some a14)) X (by first | exact Or.inl ⟨_, rfl⟩ | exact Or.inr ⟨_, rfl⟩) hB ⟨_, rfl, h⟩ (z_k3 hK1) (z_k3 hK2) dX12_interlock_20
theorem pk_X12_interlock : z_PV RX12 yX12_interlock cX12_interlock 3 (some (.object "RobotCell$Command")) 0 := ⟨q3144, qs46, q158, q3145, by decide +kernel⟩
theorem met_X12_interlock {l : Launch} {G : z_E} {T : z_T} {I : z_I} {Q : z_Q} (o : Nat) (kc : Nat) (ks : Nat) (Qk : Option Nat → z_T → z_I → z_Q → Prop) (Xk : String → Nat → z_T → z_I → z_Q → Prop) (h : wp_X12_interlock T I Q o kc ks Qk Xk) : z_GM l G yX12_interlock (ws_ yX12_interlock cX12_interlock 3 (some (.object "RobotCell$Command"))) 13 230 kc ks [.ref o] z_PR T I Q (z_qr Qk) Xk := by
  obtain ⟨ho, h⟩ := h
  refine z_body (own := RX12) (nm := "interlock") (by decide +kernel) rfl rfl (Nat.le_of_ble_eq_true rfl) (fun p e R s m below meth c A ls X hB hl => ?_)
  exact ww_X12_interlock_0 X ho hB z_k0 z_k0 hl h
/-! X12_ticks -/
theorem ww_X12_ticks_25 {o : Nat} {Qk : Option Nat → z_T → z_I → z_Q → Prop} {Xk : String → Nat → z_T → z_I → z_Q → Prop} (X : z_X l G A p R s m args meth c cX12_ticks 3 RX12 "ticks" (some (.object "RobotCell$Command")) mc ms 13 230) (ho : (T0 o).1 = 12) {cells slots : Nat} {T : z_T} {I : z_I} {Q : z_Q} {kc : Nat} {ks : Nat} {s0 : Int32} {H : Heap} {locs : List Loc} {ls : Array Slot} (hB : z_HB G z_PR A s.heap T0 I0 Q0 T I Q H locs) (hK1 : cells + kc ≤ mc) (hK2 : slots + ks ≤ ms) (hl : lv_has ls 3 [(0, .ref o)]) (h : wb_X12_ticks_25 o Qk Xk T I Q kc ks s0) : W p l e R s m args below meth c H locs cells slots (z_MQ below G z_PR A T0 I0 Q0 (z_qr Qk) Xk args s mc ms) (F0 m 25 ls [.int s0]) := by
  obtain ⟨hx, hb, -⟩ := id X
  unfold wb_X12_ticks_25 at h
  refine lv_istore_n (lv' := [(2, .int s0), (0, .ref o)]) hx hb dX12_ticks_25 rfl hl (by decide) rfl (fun ls hl9 => ?_)
  replace hl := hl9
  clear hl9
  obtain ⟨co15, hco15, h⟩ := h
  obtain ⟨g1, g2, h⟩ := h
  refine z_new (col := co15) tyX16 X hB kc_X16 in_X16 tyX16_ok q3129 q3130 q162 (by decide) (z_dvX16) hco15 (z_k1 hK1 g1) (z_k1 hK2 g2) dX12_ticks_26 (fun a16 H hq hB => ?_)
  obtain ⟨T17, eT17⟩ : ∃ z, z = z_t T a16 (14, 0, co15) := ⟨_, rfl⟩
  obtain ⟨I18, eI18⟩ : ∃ z, z = z_row I a16 (fun _ => 0) := ⟨_, rfl⟩
  obtain ⟨Q19, eQ19⟩ : ∃ z, z = z_row Q a16 (fun _ => none) := ⟨_, rfl⟩
  rw [← eT17, ← eI18, ← eQ19] at hB
  replace h := h a16 T17 I18 Q19 hq eT17 eI18 eQ19
  have hk_a16 := z_tq eT17
  have hc_a16 : 3 ≤ (T17 a16).2.2 := by rw [z_tqc eT17]; exact hco15
  replace hK1 := z_k2 hK1 g1
  replace hK2 := z_k2 hK2 g2
  refine lv_dup hx hb dX12_ticks_29 rfl ?_
  refine lv_aload_n (x := o) hx hb dX12_ticks_30 rfl (lv_at hl 1 rfl) ?_
  refine lv_iload_n hx hb dX12_ticks_31 rfl (lv_at hl 0 rfl) ?_
  refine z_callv (z_runI (rest := [.ref a16]) [.ref o, .int s0] pk_X16_init (met_X16_init a16 o s0 _ h) X hB hB.2.2.2.2.2.2 q3131 rfl hl.1 (Nat.le_of_ble_eq_true rfl) dX12_ticks_32 (z_k4 hK1) (z_k4 hK2) (by decide) (by decide)) hB (fun _ h => h) (fun T21 I22 Q23 H locs h9 hF hB => ?_)
  replace h := h9
  clear h9
  replace h := h hF
  have hc_a16 : 3 ≤ (T21 a16).2.2 := by rw [z_te hF hk_a16 (by decide)]; exact hc_a16
  have hk_a16 := z_tk hF hk_a16 (by decide)
  exact z_aret (v := (some a16)) X (by first | exact Or.inl ⟨_, rfl⟩ | exact Or.inr ⟨_, rfl⟩) hB ⟨_, rfl, h⟩ (z_k3 hK1) (z_k3 hK2) dX12_ticks_35
theorem ww_X12_ticks_0 {o : Nat} {Qk : Option Nat → z_T → z_I → z_Q → Prop} {Xk : String → Nat → z_T → z_I → z_Q → Prop} (X : z_X l G A p R s m args meth c cX12_ticks 3 RX12 "ticks" (some (.object "RobotCell$Command")) mc ms 13 230) (ho : (T0 o).1 = 12) {cells slots : Nat} {T : z_T} {I : z_I} {Q : z_Q} {kc : Nat} {ks : Nat} {H : Heap} {locs : List Loc} {ls : Array Slot} (hB : z_HB G z_PR A s.heap T0 I0 Q0 T I Q H locs) (hK1 : cells + kc ≤ mc) (hK2 : slots + ks ≤ ms) (hl : lv_has ls 3 [(0, .ref o)]) (h : wb_X12_ticks_0 o Qk Xk T I Q kc ks) : W p l e R s m args below meth c H locs cells slots (z_MQ below G z_PR A T0 I0 Q0 (z_qr Qk) Xk args s mc ms) (F0 m 0 ls []) := by
  obtain ⟨hx, hb, -⟩ := id X
  unfold wb_X12_ticks_0 at h
  refine lv_aload_n (x := o) hx hb dX12_ticks_0 rfl (lv_at hl 0 rfl) ?_
  obtain ⟨kc2, ks3, g1, g2, h⟩ := h
  refine z_callXi (z_runV (rest := []) [] pk_X12_digit (met_X12_digit o kc2 ks3 _ _ h) X hB hB.2.2.2.2.2.2 q3061 kc_X12 (by decide) (z_fo hB ho (by decide)) rfl hl.1 (Nat.le_of_ble_eq_true rfl) dX12_ticks_1 (z_k1 hK1 g1) (z_k1 hK2 g2) (by decide) (by decide)) hB (fun _ h => h) (z_on (by decide +kernel) X (z_k1 hK1 g1) (z_k1 hK2 g2)) (fun r1 T4 I5 Q6 H locs h9 hF hB => ?_)
  replace h := h9
  clear h9
  replace h := h hF
  replace hK1 := z_k2 hK1 g1
  replace hK2 := z_k2 hK2 g2
  refine lv_istore_n (lv' := [(1, .int r1), (0, .ref o)]) hx hb dX12_ticks_4 rfl hl (by decide) rfl (fun ls hl9 => ?_)
  replace hl := hl9
  clear hl9
  refine lv_aload_n (x := o) hx hb dX12_ticks_5 rfl (lv_at hl 1 rfl) ?_
  refine z_callzp (z_runV (rest := []) [] pk_X12_isDigit (met_X12_isDigit o _ h) X hB (fun h => h) q3065 kc_X12 (by decide) (z_fo hB ho (by decide)) rfl hl.1 (Nat.le_of_ble_eq_true rfl) dX12_ticks_6 (z_k4 hK1) (z_k4 hK2) (by decide) (by decide)) hB (fun r7 H locs hz h9 hB => ?_)
  replace h := h9
  clear h9
  replace h := h hz
  refine lv_if_eq (tgt := 24) hx hb dX12_ticks_9 (by decide) (fun c8 => ?_) (fun c8 => ?_)
  · replace h := h.1 c8
    refine lv_iload_n hx hb dX12_ticks_24 rfl (lv_at hl 0 rfl) ?_
    exact ww_X12_ticks_25 X ho  hB hK1 hK2 (lv_sub hl [1] rfl) h
  · replace h := h.2 c8
    refine lv_bipush (v := 10) hx hb dX12_ticks_12 (by decide) ?_
    refine lv_iload_n hx hb dX12_ticks_14 rfl (lv_at hl 0 rfl) ?_
    refine lv_imul hx hb dX12_ticks_15 ?_
    refine lv_aload_n (x := o) hx hb dX12_ticks_16 rfl (lv_at hl 1 rfl) ?_
    obtain ⟨kc10, ks11, g1, g2, h⟩ := h
    refine z_callXi (z_runV (rest := [.int (10 * r1)]) [] pk_X12_digit (met_X12_digit o kc10 ks11 _ _ h) X hB hB.2.2.2.2.2.2 q3061 kc_X12 (by decide) (z_fo hB ho (by decide)) rfl hl.1 (Nat.le_of_ble_eq_true rfl) dX12_ticks_17 (z_k1 hK1 g1) (z_k1 hK2 g2) (by decide) (by decide)) hB (fun _ h => h) (z_on (by decide +kernel) X (z_k1 hK1 g1) (z_k1 hK2 g2)) (fun r9 T12 I13 Q14 H locs h9 hF hB => ?_)
    replace h := h9
    clear h9
    replace h := h hF
    replace hK1 := z_k2 hK1 g1
    replace hK2 := z_k2 hK2 g2
    refine lv_iadd hx hb dX12_ticks_20 ?_
    refine lv_goto (tgt := 25) hx hb dX12_ticks_21 (by decide) ?_
    exact ww_X12_ticks_25 X ho  hB hK1 hK2 (lv_sub hl [1] rfl) h
theorem pk_X12_ticks : z_PV RX12 yX12_ticks cX12_ticks 3 (some (.object "RobotCell$Command")) 0 := ⟨q3127, qs45, q158, q3128, by decide +kernel⟩
theorem met_X12_ticks {l : Launch} {G : z_E} {T : z_T} {I : z_I} {Q : z_Q} (o : Nat) (kc : Nat) (ks : Nat) (Qk : Option Nat → z_T → z_I → z_Q → Prop) (Xk : String → Nat → z_T → z_I → z_Q → Prop) (h : wp_X12_ticks T I Q o kc ks Qk Xk) : z_GM l G yX12_ticks (ws_ yX12_ticks cX12_ticks 3 (some (.object "RobotCell$Command"))) 13 230 kc ks [.ref o] z_PR T I Q (z_qr Qk) Xk := by
  obtain ⟨ho, h⟩ := h
  refine z_body (own := RX12) (nm := "ticks") (by decide +kernel) rfl rfl (Nat.le_of_ble_eq_true rfl) (fun p e R s m below meth c A ls X hB hl => ?_)
  exact ww_X12_ticks_0 X ho hB z_k0 z_k0 hl h
/-! X12_isNext -/
theorem ww_X12_isNext_35 {T : z_T} {I : z_I} {Q : z_Q} {o : Nat} {Qk : Int32 → Prop} (X : z_X l G A p R s m args meth c cX12_isNext 2 RX12 "isNext" (some .boolean) 0 0 8 120) (ho : (T o).1 = 12) {s0 : Int32} {H : Heap} {locs : List Loc} {ls : Array Slot} (hB : z_HB G z_none A s.heap T I Q T I Q H locs) (hl : lv_has ls 2 []) (h : wb_X12_isNext_35 T I Q o Qk s0) : W p l e R s m args below meth c H locs 0 0 (z_MQ below G z_none A T I Q (z_pz Qk T I Q) z_no args s 0 0) (F0 m 35 ls [.int s0]) := by
  obtain ⟨hx, hb, -⟩ := id X
  unfold wb_X12_isNext_35 at h
  obtain ⟨hz, h⟩ := h
  exact z_zret X hB hz ⟨_, rfl, hz, h, rfl, rfl, rfl⟩ (Nat.le_refl 0) (Nat.le_refl 0) dX12_isNext_35
theorem ww_X12_isNext_34 {T : z_T} {I : z_I} {Q : z_Q} {o : Nat} {Qk : Int32 → Prop} (X : z_X l G A p R s m args meth c cX12_isNext 2 RX12 "isNext" (some .boolean) 0 0 8 120) (ho : (T o).1 = 12) {H : Heap} {locs : List Loc} {ls : Array Slot} (hB : z_HB G z_none A s.heap T I Q T I Q H locs) (hl : lv_has ls 2 []) (h : wb_X12_isNext_34 T I Q o Qk ) : W p l e R s m args below meth c H locs 0 0 (z_MQ below G z_none A T I Q (z_pz Qk T I Q) z_no args s 0 0) (F0 m 34 ls []) := by
  obtain ⟨hx, hb, -⟩ := id X
  unfold wb_X12_isNext_34 at h
  refine lv_iconst (v := 0) hx hb dX12_isNext_34 (by decide) ?_
  exact ww_X12_isNext_35 X ho  hB (lv_sub hl [] rfl) h
theorem ww_X12_isNext_0 {T : z_T} {I : z_I} {Q : z_Q} {o : Nat} {Qk : Int32 → Prop} (X : z_X l G A p R s m args meth c cX12_isNext 2 RX12 "isNext" (some .boolean) 0 0 8 120) (ho : (T o).1 = 12) {x1 : Int32} {H : Heap} {locs : List Loc} {ls : Array Slot} (hB : z_HB G z_none A s.heap T I Q T I Q H locs) (hl : lv_has ls 2 [(0, .ref o), (1, .int x1)]) (h : wb_X12_isNext_0 T I Q o Qk x1) : W p l e R s m args below meth c H locs 0 0 (z_MQ below G z_none A T I Q (z_pz Qk T I Q) z_no args s 0 0) (F0 m 0 ls []) := by
  obtain ⟨hx, hb, -⟩ := id X
  unfold wb_X12_isNext_0 at h
  refine lv_aload_n (x := o) hx hb dX12_isNext_0 rfl (lv_at hl 0 rfl) ?_
  refine z_geti X hB.1 kc_X12 in_X12 (j := 0) (Nat.le_of_ble_eq_true rfl) q3032 (fun _ h => h) rfl (by decide) ho dX12_isNext_1 ?_
  refine lv_aload_n (x := o) hx hb dX12_isNext_4 rfl (lv_at hl 0 rfl) ?_
  refine z_getq X hB.1 kc_X12 in_X12 (j := 1) (Nat.le_of_ble_eq_true rfl) q3033 (fun _ h => h) rfl (by decide) ho dX12_isNext_5 ?_
  obtain ⟨a1, ea1, h⟩ := h
  refine z_stk (st' := [.ref a1, .int (I o 0)]) (by rw [ea1] <;> rfl) ?_
  obtain ⟨hk_a1, h⟩ := h
  refine z_getiN X hB.1 kc_X1 in_X1 (j := 4) (Nat.le_of_ble_eq_true rfl) q1301 (fun _ h => h) rfl (by decide) hk_a1 dX12_isNext_8 ?_
  refine lv_icmp_ge (tgt := 34) hx hb dX12_isNext_11 (by decide) (fun c2 => ?_) (fun c2 => ?_)
  · replace h := h.1 c2
    exact ww_X12_isNext_34 X ho  hB (lv_sub hl [] rfl) h
  · replace h := h.2 c2
    refine lv_aload_n (x := o) hx hb dX12_isNext_14 rfl (lv_at hl 0 rfl) ?_
    refine z_getq X hB.1 kc_X12 in_X12 (j := 1) (Nat.le_of_ble_eq_true rfl) q3033 (fun _ h => h) rfl (by decide) ho dX12_isNext_15 ?_
    refine z_stk (st' := [.ref a1]) (by rw [ea1] <;> rfl) ?_
    refine z_getqN X hB.1 kc_X1 in_X1 (j := 3) (Nat.le_of_ble_eq_true rfl) q1299 (fun _ h => h) rfl (by decide) hk_a1 dX12_isNext_18 ?_
    refine lv_aload_n (x := o) hx hb dX12_isNext_21 rfl (lv_at hl 0 rfl) ?_
    refine z_geti X hB.1 kc_X12 in_X12 (j := 0) (Nat.le_of_ble_eq_true rfl) q3032 (fun _ h => h) rfl (by decide) ho dX12_isNext_22 ?_
    obtain ⟨a3, ea3, h⟩ := h
    refine z_stk (st' := [.int (I o 0), .ref a3]) (by rw [ea3] <;> rfl) ?_
    obtain ⟨hk_a3, h⟩ := h
    obtain ⟨h1, h⟩ := h
    refine z_cald X hB.1 hk_a3 h1 dX12_isNext_25 ?_
    refine lv_iload_n hx hb dX12_isNext_26 rfl (lv_at hl 1 rfl) ?_
    refine lv_icmp_ne (tgt := 34) hx hb dX12_isNext_27 (by decide) (fun c4 => ?_) (fun c4 => ?_)
    · replace h := h.1 c4
      exact ww_X12_isNext_34 X ho  hB (lv_sub hl [] rfl) h
    · replace h := h.2 c4
      refine lv_iconst (v := 1) hx hb dX12_isNext_30 (by decide) ?_
      refine lv_goto (tgt := 35) hx hb dX12_isNext_31 (by decide) ?_
      exact ww_X12_isNext_35 X ho  hB (lv_sub hl [] rfl) h
theorem pk_X12_isNext : z_PV RX12 yX12_isNext cX12_isNext 2 (some .boolean) 1 := ⟨q3055, qs38, q158, q3056, by decide +kernel⟩
theorem met_X12_isNext {l : Launch} {G : z_E} {T : z_T} {I : z_I} {Q : z_Q} (o : Nat) (x1 : Int32) (Qk : Int32 → Prop) (h : wp_X12_isNext T I Q o x1 Qk) : z_GM l G yX12_isNext (ws_ yX12_isNext cX12_isNext 2 (some .boolean)) 8 120 0 0 [.ref o, .int x1] z_none T I Q (z_pz Qk T I Q) z_no := by
  obtain ⟨ho, h⟩ := h
  refine z_body (own := RX12) (nm := "isNext") (by decide +kernel) rfl rfl (Nat.le_of_ble_eq_true rfl) (fun p e R s m below meth c A ls X hB hl => ?_)
  exact ww_X12_isNext_0 X ho hB hl h
/-! X12_takes -/
theorem ww_X12_takes_20 {o : Nat} {Qk : Int32 → z_T → z_I → z_Q → Prop} (X : z_X l G A p R s m args meth c cX12_takes 3 RX12 "takes" (some .boolean) 0 0 9 141) (ho : (T0 o).1 = 12) (hoc : 3 ≤ (T0 o).2.2) {T : z_T} {I : z_I} {Q : z_Q} {x2 : Int32} {s1 : Int32} {s2 : Int32} {H : Heap} {locs : List Loc} {ls : Array Slot} (hB : z_HB G z_PR A s.heap T0 I0 Q0 T I Q H locs) (hl : lv_has ls 3 [(2, .int x2)]) (h : wb_X12_takes_20 o Qk T I Q x2 s1 s2) : W p l e R s m args below meth c H locs 0 0 (z_MQ below G z_PR A T0 I0 Q0 (z_qz Qk) z_no args s 0 0) (F0 m 20 ls [.int s2, .int s1, .ref o]) := by
  obtain ⟨hx, hb, -⟩ := id X
  unfold wb_X12_takes_20 at h
  refine lv_iadd hx hb dX12_takes_20 ?_
  obtain ⟨I3, eI3⟩ : ∃ z, z = z_up I o 0 (s1 + s2) := ⟨_, rfl⟩
  replace h := h I3 eI3
  refine z_puti (x := (s1 + s2)) eI3 tyX12 X hB kc_X12 in_X12 tyX12_ok nmX12 (j := 0) (Nat.le_of_ble_eq_true rfl) q3032 (fun _ h => h) rfl rfl (by decide) (z_fo hB ho (by decide)) (z_foc hB ho (by decide) hoc) rfl (Or.inl rfl) dX12_takes_21 (fun H locs hB => ?_)
  refine lv_iload_n hx hb dX12_takes_24 rfl (lv_at hl 0 rfl) ?_
  obtain ⟨hz, h⟩ := h
  exact z_zret X hB hz ⟨_, rfl, hz, h⟩ (Nat.le_refl 0) (Nat.le_refl 0) dX12_takes_25
theorem ww_X12_takes_0 {o : Nat} {Qk : Int32 → z_T → z_I → z_Q → Prop} (X : z_X l G A p R s m args meth c cX12_takes 3 RX12 "takes" (some .boolean) 0 0 9 141) (ho : (T0 o).1 = 12) (hoc : 3 ≤ (T0 o).2.2) {T : z_T} {I : z_I} {Q : z_Q} {x1 : Int32} {H : Heap} {locs : List Loc} {ls : Array Slot} (hB : z_HB G z_PR A s.heap T0 I0 Q0 T I Q H locs) (hl : lv_has ls 3 [(0, .ref o), (1, .int x1)]) (h : wb_X12_takes_0 o Qk T I Q x1) : W p l e R s m args below meth c H locs 0 0 (z_MQ below G z_PR A T0 I0 Q0 (z_qz Qk) z_no args s 0 0) (F0 m 0 ls []) := by
  obtain ⟨hx, hb, -⟩ := id X
  unfold wb_X12_takes_0 at h
  refine lv_aload_n (x := o) hx hb dX12_takes_0 rfl (lv_at hl 0 rfl) ?_
  refine lv_iload_n hx hb dX12_takes_1 rfl (lv_at hl 1 rfl) ?_
  refine z_callzp (z_runV (rest := []) [.int x1] pk_X12_isNext (met_X12_isNext o x1 _ h) X hB (fun h => h) q3053 kc_X12 (by decide) (z_fo hB ho (by decide)) rfl hl.1 (Nat.le_of_ble_eq_true rfl) dX12_takes_2 (Nat.le_refl 0) (Nat.le_refl 0) (by decide) (by decide)) hB (fun r1 H locs hz h9 hB => ?_)
  replace h := h9
  clear h9
  replace h := h hz
  refine lv_istore_n (lv' := [(2, .int r1), (0, .ref o), (1, .int x1)]) hx hb dX12_takes_5 rfl hl (by decide) rfl (fun ls hl9 => ?_)
  replace hl := hl9
  clear hl9
  refine lv_aload_n (x := o) hx hb dX12_takes_6 rfl (lv_at hl 1 rfl) ?_
  refine lv_dup hx hb dX12_takes_7 rfl ?_
  refine z_geti X hB.1 kc_X12 in_X12 (j := 0) (Nat.le_of_ble_eq_true rfl) q3032 (fun _ h => h) rfl (by decide) (z_fo hB ho (by decide)) dX12_takes_8 ?_
  refine lv_iload_n hx hb dX12_takes_11 rfl (lv_at hl 0 rfl) ?_
  refine lv_if_eq (tgt := 19) hx hb dX12_takes_12 (by decide) (fun c2 => ?_) (fun c2 => ?_)
  · replace h := h.1 c2
    refine lv_iconst (v := 0) hx hb dX12_takes_19 (by decide) ?_
    exact ww_X12_takes_20 X ho hoc  hB (lv_sub hl [0] rfl) h
  · replace h := h.2 c2
    refine lv_iconst (v := 1) hx hb dX12_takes_15 (by decide) ?_
    refine lv_goto (tgt := 20) hx hb dX12_takes_16 (by decide) ?_
    exact ww_X12_takes_20 X ho hoc  hB (lv_sub hl [0] rfl) h
theorem pk_X12_takes : z_PV RX12 yX12_takes cX12_takes 3 (some .boolean) 1 := ⟨q3051, qs37, q158, q3052, by decide +kernel⟩
theorem met_X12_takes {l : Launch} {G : z_E} {T : z_T} {I : z_I} {Q : z_Q} (o : Nat) (x1 : Int32) (Qk : Int32 → z_T → z_I → z_Q → Prop) (h : wp_X12_takes T I Q o x1 Qk) : z_GM l G yX12_takes (ws_ yX12_takes cX12_takes 3 (some .boolean)) 9 141 0 0 [.ref o, .int x1] z_PR T I Q (z_qz Qk) z_no := by
  obtain ⟨ho, hoc, h⟩ := h
  refine z_body (own := RX12) (nm := "takes") (by decide +kernel) rfl rfl (Nat.le_of_ble_eq_true rfl) (fun p e R s m below meth c A ls X hB hl => ?_)
  exact ww_X12_takes_0 X ho hoc hB hl h
/-! X12_buffer -/
theorem ww_X12_buffer_16 {o : Nat} {Qk : Int32 → z_T → z_I → z_Q → Prop} {Xk : String → Nat → z_T → z_I → z_Q → Prop} (X : z_X l G A p R s m args meth c cX12_buffer 2 RX12 "buffer" (some .int) mc ms 13 230) (ho : (T0 o).1 = 12) {cells slots : Nat} {T : z_T} {I : z_I} {Q : z_Q} {kc : Nat} {ks : Nat} {s0 : Int32} {H : Heap} {locs : List Loc} {ls : Array Slot} (hB : z_HB G z_PR A s.heap T0 I0 Q0 T I Q H locs) (hK1 : cells + kc ≤ mc) (hK2 : slots + ks ≤ ms) (hl : lv_has ls 2 []) (h : wb_X12_buffer_16 o Qk Xk T I Q kc ks s0) : W p l e R s m args below meth c H locs cells slots (z_MQ below G z_PR A T0 I0 Q0 (z_qi Qk) Xk args s mc ms) (F0 m 16 ls [.int s0]) := by
  obtain ⟨hx, hb, -⟩ := id X
  unfold wb_X12_buffer_16 at h
  exact z_iret X hB ⟨_, rfl, h⟩ (z_k3 hK1) (z_k3 hK2) dX12_buffer_16
theorem ww_X12_buffer_0 {o : Nat} {Qk : Int32 → z_T → z_I → z_Q → Prop} {Xk : String → Nat → z_T → z_I → z_Q → Prop} (X : z_X l G A p R s m args meth c cX12_buffer 2 RX12 "buffer" (some .int) mc ms 13 230) (ho : (T0 o).1 = 12) {cells slots : Nat} {T : z_T} {I : z_I} {Q : z_Q} {kc : Nat} {ks : Nat} {x1 : Int32} {H : Heap} {locs : List Loc} {ls : Array Slot} (hB : z_HB G z_PR A s.heap T0 I0 Q0 T I Q H locs) (hK1 : cells + kc ≤ mc) (hK2 : slots + ks ≤ ms) (hl : lv_has ls 2 [(0, .ref o), (1, .int x1)]) (h : wb_X12_buffer_0 o Qk Xk T I Q kc ks x1) : W p l e R s m args below meth c H locs cells slots (z_MQ below G z_PR A T0 I0 Q0 (z_qi Qk) Xk args s mc ms) (F0 m 0 ls []) := by
  obtain ⟨hx, hb, -⟩ := id X
  unfold wb_X12_buffer_0 at h
  refine lv_aload_n (x := o) hx hb dX12_buffer_0 rfl (lv_at hl 0 rfl) ?_
  refine lv_iload_n hx hb dX12_buffer_1 rfl (lv_at hl 1 rfl) ?_
  refine z_callz (z_runV (rest := []) [.int x1] pk_X12_takes (met_X12_takes o x1 _ h) X hB hB.2.2.2.2.2.2 q3049 kc_X12 (by decide) (z_fo hB ho (by decide)) rfl hl.1 (Nat.le_of_ble_eq_true rfl) dX12_buffer_2 (z_k4 hK1) (z_k4 hK2) (by decide) (by decide)) hB (fun _ h => h) (fun r1 T2 I3 Q4 H locs hz h9 hF hB => ?_)
  replace h := h9
  clear h9
  replace h := h hz hF
  refine lv_if_eq (tgt := 15) hx hb dX12_buffer_5 (by decide) (fun c5 => ?_) (fun c5 => ?_)
  · replace h := h.1 c5
    refine lv_iconst (v := (-1)) hx hb dX12_buffer_15 (by decide) ?_
    exact ww_X12_buffer_16 X ho  hB hK1 hK2 (lv_sub hl [] rfl) h
  · replace h := h.2 c5
    refine lv_aload_n (x := o) hx hb dX12_buffer_8 rfl (lv_at hl 0 rfl) ?_
    obtain ⟨kc7, ks8, g1, g2, h⟩ := h
    refine z_callXi (z_runV (rest := []) [] pk_X12_digit (met_X12_digit o kc7 ks8 _ _ h) X hB hB.2.2.2.2.2.2 q3061 kc_X12 (by decide) (z_fo hB ho (by decide)) rfl hl.1 (Nat.le_of_ble_eq_true rfl) dX12_buffer_9 (z_k1 hK1 g1) (z_k1 hK2 g2) (by decide) (by decide)) hB (fun _ h => h) (z_on (by decide +kernel) X (z_k1 hK1 g1) (z_k1 hK2 g2)) (fun r6 T9 I10 Q11 H locs h9 hF hB => ?_)
    replace h := h9
    clear h9
    replace h := h hF
    replace hK1 := z_k2 hK1 g1
    replace hK2 := z_k2 hK2 g2
    refine lv_goto (tgt := 16) hx hb dX12_buffer_12 (by decide) ?_
    exact ww_X12_buffer_16 X ho  hB hK1 hK2 (lv_sub hl [] rfl) h
theorem pk_X12_buffer : z_PV RX12 yX12_buffer cX12_buffer 2 (some .int) 1 := ⟨q3105, qs44, q158, q3106, by decide +kernel⟩
theorem met_X12_buffer {l : Launch} {G : z_E} {T : z_T} {I : z_I} {Q : z_Q} (o : Nat) (x1 : Int32) (kc : Nat) (ks : Nat) (Qk : Int32 → z_T → z_I → z_Q → Prop) (Xk : String → Nat → z_T → z_I → z_Q → Prop) (h : wp_X12_buffer T I Q o x1 kc ks Qk Xk) : z_GM l G yX12_buffer (ws_ yX12_buffer cX12_buffer 2 (some .int)) 13 230 kc ks [.ref o, .int x1] z_PR T I Q (z_qi Qk) Xk := by
  obtain ⟨ho, h⟩ := h
  refine z_body (own := RX12) (nm := "buffer") (by decide +kernel) rfl rfl (Nat.le_of_ble_eq_true rfl) (fun p e R s m below meth c A ls X hB hl => ?_)
  exact ww_X12_buffer_0 X ho hB z_k0 z_k0 hl h
/-! X12_path -/
theorem ww_X12_path_77 {o : Nat} {k9 : z_T → z_I → z_Q → Nat → Nat → Int32 → Int32 → Int32 → Int32 → Prop} {Qk : Int32 → z_T → z_I → z_Q → Prop} {Xk : String → Nat → z_T → z_I → z_Q → Prop} (X : z_X l G A p R s m args meth c cX12_path 6 RX12 "path" (some .int) mc ms 13 230) (ho : (T0 o).1 = 12) (hk9 : ∀ {cells slots : Nat} {T : z_T} {I : z_I} {Q : z_Q} {kc : Nat} {ks : Nat} {x1 : Int32} {x2 : Int32} {x3 : Int32} {x4 : Int32} {H : Heap} {locs : List Loc} {ls : Array Slot}, z_HB G z_PR A s.heap T0 I0 Q0 T I Q H locs → cells + kc ≤ mc → slots + ks ≤ ms → lv_has ls 6 [(0, .ref o), (1, .int x1), (2, .int x2), (3, .int x3), (4, .int x4)] → k9 T I Q kc ks x1 x2 x3 x4 → W p l e R s m args below meth c H locs cells slots (z_MQ below G z_PR A T0 I0 Q0 (z_qi Qk) Xk args s mc ms) (F0 m 9 ls [])) {cells slots : Nat} {T : z_T} {I : z_I} {Q : z_Q} {kc : Nat} {ks : Nat} {x1 : Int32} {x2 : Int32} {x4 : Int32} {s0 : Int32} {H : Heap} {locs : List Loc} {ls : Array Slot} (hB : z_HB G z_PR A s.heap T0 I0 Q0 T I Q H locs) (hK1 : cells + kc ≤ mc) (hK2 : slots + ks ≤ ms) (hl : lv_has ls 6 [(0, .ref o), (1, .int x1), (2, .int x2), (4, .int x4)]) (h : wb_X12_path_77 o k9 Qk Xk T I Q kc ks x1 x2 x4 s0) : W p l e R s m args below meth c H locs cells slots (z_MQ below G z_PR A T0 I0 Q0 (z_qi Qk) Xk args s mc ms) (F0 m 77 ls [.int s0]) := by
  obtain ⟨hx, hb, -⟩ := id X
  unfold wb_X12_path_77 at h
  refine lv_istore_n (lv' := [(3, .int s0), (0, .ref o), (1, .int x1), (2, .int x2), (4, .int x4)]) hx hb dX12_path_77 rfl hl (by decide) rfl (fun ls hl9 => ?_)
  replace hl := hl9
  clear hl9
  obtain ⟨y18, ey18⟩ : ∃ z : Int32, z = x4 + 1 := ⟨_, rfl⟩
  replace h := h y18 ey18
  refine lv_iinc (v := y18) (lv' := [(4, .int y18), (3, .int s0), (0, .ref o), (1, .int x1), (2, .int x2)]) hx hb dX12_path_78 hl (k := 4) rfl (by rw [ey18]; rfl) (by decide) rfl (fun ls hl9 => ?_)
  replace hl := hl9
  clear hl9
  refine lv_goto (tgt := 9) hx hb dX12_path_81 (by decide) ?_
  exact hk9 hB hK1 hK2 (lv_sub hl [2, 3, 4, 1, 0] rfl) h
theorem ww_X12_path_76 {o : Nat} {k9 : z_T → z_I → z_Q → Nat → Nat → Int32 → Int32 → Int32 → Int32 → Prop} {Qk : Int32 → z_T → z_I → z_Q → Prop} {Xk : String → Nat → z_T → z_I → z_Q → Prop} (X : z_X l G A p R s m args meth c cX12_path 6 RX12 "path" (some .int) mc ms 13 230) (ho : (T0 o).1 = 12) (hk9 : ∀ {cells slots : Nat} {T : z_T} {I : z_I} {Q : z_Q} {kc : Nat} {ks : Nat} {x1 : Int32} {x2 : Int32} {x3 : Int32} {x4 : Int32} {H : Heap} {locs : List Loc} {ls : Array Slot}, z_HB G z_PR A s.heap T0 I0 Q0 T I Q H locs → cells + kc ≤ mc → slots + ks ≤ ms → lv_has ls 6 [(0, .ref o), (1, .int x1), (2, .int x2), (3, .int x3), (4, .int x4)] → k9 T I Q kc ks x1 x2 x3 x4 → W p l e R s m args below meth c H locs cells slots (z_MQ below G z_PR A T0 I0 Q0 (z_qi Qk) Xk args s mc ms) (F0 m 9 ls [])) {cells slots : Nat} {T : z_T} {I : z_I} {Q : z_Q} {kc : Nat} {ks : Nat} {x1 : Int32} {x2 : Int32} {x4 : Int32} {H : Heap} {locs : List Loc} {ls : Array Slot} (hB : z_HB G z_PR A s.heap T0 I0 Q0 T I Q H locs) (hK1 : cells + kc ≤ mc) (hK2 : slots + ks ≤ ms) (hl : lv_has ls 6 [(0, .ref o), (1, .int x1), (2, .int x2), (4, .int x4)]) (h : wb_X12_path_76 o k9 Qk Xk T I Q kc ks x1 x2 x4) : W p l e R s m args below meth c H locs cells slots (z_MQ below G z_PR A T0 I0 Q0 (z_qi Qk) Xk args s mc ms) (F0 m 76 ls []) := by
  obtain ⟨hx, hb, -⟩ := id X
  unfold wb_X12_path_76 at h
  refine lv_iconst (v := 0) hx hb dX12_path_76 (by decide) ?_
  exact ww_X12_path_77 X ho hk9 hB hK1 hK2 (lv_sub hl [0, 1, 2, 3] rfl) h
theorem ww_X12_path_38 {o : Nat} {k9 : z_T → z_I → z_Q → Nat → Nat → Int32 → Int32 → Int32 → Int32 → Prop} {Qk : Int32 → z_T → z_I → z_Q → Prop} {Xk : String → Nat → z_T → z_I → z_Q → Prop} (X : z_X l G A p R s m args meth c cX12_path 6 RX12 "path" (some .int) mc ms 13 230) (ho : (T0 o).1 = 12) (hk9 : ∀ {cells slots : Nat} {T : z_T} {I : z_I} {Q : z_Q} {kc : Nat} {ks : Nat} {x1 : Int32} {x2 : Int32} {x3 : Int32} {x4 : Int32} {H : Heap} {locs : List Loc} {ls : Array Slot}, z_HB G z_PR A s.heap T0 I0 Q0 T I Q H locs → cells + kc ≤ mc → slots + ks ≤ ms → lv_has ls 6 [(0, .ref o), (1, .int x1), (2, .int x2), (3, .int x3), (4, .int x4)] → k9 T I Q kc ks x1 x2 x3 x4 → W p l e R s m args below meth c H locs cells slots (z_MQ below G z_PR A T0 I0 Q0 (z_qi Qk) Xk args s mc ms) (F0 m 9 ls [])) {cells slots : Nat} {T : z_T} {I : z_I} {Q : z_Q} {kc : Nat} {ks : Nat} {x1 : Int32} {x4 : Int32} {x5 : Int32} {s0 : Int32} {s1 : Int32} {H : Heap} {locs : List Loc} {ls : Array Slot} (hB : z_HB G z_PR A s.heap T0 I0 Q0 T I Q H locs) (hK1 : cells + kc ≤ mc) (hK2 : slots + ks ≤ ms) (hl : lv_has ls 6 [(0, .ref o), (1, .int x1), (4, .int x4), (5, .int x5)]) (h : wb_X12_path_38 o k9 Qk Xk T I Q kc ks x1 x4 x5 s0 s1) : W p l e R s m args below meth c H locs cells slots (z_MQ below G z_PR A T0 I0 Q0 (z_qi Qk) Xk args s mc ms) (F0 m 38 ls [.int s1, .int s0]) := by
  obtain ⟨hx, hb, -⟩ := id X
  unfold wb_X12_path_38 at h
  refine lv_iand hx hb dX12_path_38 ?_
  refine lv_topi (fun y10 ey10 => ?_)
  replace h := h y10 ey10
  refine lv_istore_n (lv' := [(2, .int y10), (0, .ref o), (1, .int x1), (4, .int x4), (5, .int x5)]) hx hb dX12_path_39 rfl hl (by decide) rfl (fun ls hl9 => ?_)
  replace hl := hl9
  clear hl9
  refine lv_bipush (v := 10) hx hb dX12_path_40 (by decide) ?_
  refine lv_iload_n hx hb dX12_path_42 rfl (lv_at hl 2 rfl) ?_
  refine lv_imul hx hb dX12_path_43 ?_
  refine lv_iload hx hb dX12_path_44 (lv_at hl 4 rfl) ?_
  refine lv_bipush (v := 7) hx hb dX12_path_46 (by decide) ?_
  refine z_mmin (rest := [.int (10 * x1)]) X hl.1 q3102 (by decide) (Nat.le_of_ble_eq_true rfl) (z_k3 hK1) (z_k3 hK2) dX12_path_48 ?_
  refine lv_iadd hx hb dX12_path_51 ?_
  refine lv_iconst (v := 1) hx hb dX12_path_52 (by decide) ?_
  refine lv_iadd hx hb dX12_path_53 ?_
  refine lv_topi (fun y11 ey11 => ?_)
  replace h := h y11 ey11
  refine lv_istore_n (lv' := [(1, .int y11), (2, .int y10), (0, .ref o), (4, .int x4), (5, .int x5)]) hx hb dX12_path_54 rfl hl (by decide) rfl (fun ls hl9 => ?_)
  replace hl := hl9
  clear hl9
  refine lv_iload hx hb dX12_path_55 (lv_at hl 3 rfl) ?_
  refine lv_iconst (v := 1) hx hb dX12_path_57 (by decide) ?_
  refine lv_iadd hx hb dX12_path_58 ?_
  refine lv_iconst (v := 5) hx hb dX12_path_59 (by decide) ?_
  refine lv_icmp_ge (tgt := 76) hx hb dX12_path_60 (by decide) (fun c12 => ?_) (fun c12 => ?_)
  · replace h := h.1 c12
    exact ww_X12_path_76 X ho hk9 hB hK1 hK2 (lv_sub hl [2, 0, 1, 3] rfl) h
  · replace h := h.2 c12
    refine lv_aload_n (x := o) hx hb dX12_path_63 rfl (lv_at hl 2 rfl) ?_
    refine lv_bipush (v := 44) hx hb dX12_path_64 (by decide) ?_
    refine z_callz (z_runV (rest := []) [.int 44] pk_X12_takes (met_X12_takes o 44 _ h) X hB hB.2.2.2.2.2.2 q3049 kc_X12 (by decide) (z_fo hB ho (by decide)) rfl hl.1 (Nat.le_of_ble_eq_true rfl) dX12_path_66 (z_k4 hK1) (z_k4 hK2) (by decide) (by decide)) hB (fun _ h => h) (fun r13 T14 I15 Q16 H locs hz h9 hF hB => ?_)
    replace h := h9
    clear h9
    replace h := h hz hF
    refine lv_if_eq (tgt := 76) hx hb dX12_path_69 (by decide) (fun c17 => ?_) (fun c17 => ?_)
    · replace h := h.1 c17
      exact ww_X12_path_76 X ho hk9 hB hK1 hK2 (lv_sub hl [2, 0, 1, 3] rfl) h
    · replace h := h.2 c17
      refine lv_iconst (v := 1) hx hb dX12_path_72 (by decide) ?_
      refine lv_goto (tgt := 77) hx hb dX12_path_73 (by decide) ?_
      exact ww_X12_path_77 X ho hk9 hB hK1 hK2 (lv_sub hl [2, 0, 1, 3] rfl) h
theorem ww_X12_path_93 {o : Nat} {Qk : Int32 → z_T → z_I → z_Q → Prop} {Xk : String → Nat → z_T → z_I → z_Q → Prop} (X : z_X l G A p R s m args meth c cX12_path 6 RX12 "path" (some .int) mc ms 13 230) (ho : (T0 o).1 = 12) {cells slots : Nat} {T : z_T} {I : z_I} {Q : z_Q} {kc : Nat} {ks : Nat} {s0 : Int32} {H : Heap} {locs : List Loc} {ls : Array Slot} (hB : z_HB G z_PR A s.heap T0 I0 Q0 T I Q H locs) (hK1 : cells + kc ≤ mc) (hK2 : slots + ks ≤ ms) (hl : lv_has ls 6 []) (h : wb_X12_path_93 o Qk Xk T I Q kc ks s0) : W p l e R s m args below meth c H locs cells slots (z_MQ below G z_PR A T0 I0 Q0 (z_qi Qk) Xk args s mc ms) (F0 m 93 ls [.int s0]) := by
  obtain ⟨hx, hb, -⟩ := id X
  unfold wb_X12_path_93 at h
  exact z_iret X hB ⟨_, rfl, h⟩ (z_k3 hK1) (z_k3 hK2) dX12_path_93
theorem ww_X12_path_84 {o : Nat} {Qk : Int32 → z_T → z_I → z_Q → Prop} {Xk : String → Nat → z_T → z_I → z_Q → Prop} (X : z_X l G A p R s m args meth c cX12_path 6 RX12 "path" (some .int) mc ms 13 230) (ho : (T0 o).1 = 12) {cells slots : Nat} {T : z_T} {I : z_I} {Q : z_Q} {kc : Nat} {ks : Nat} {x1 : Int32} {x2 : Int32} {H : Heap} {locs : List Loc} {ls : Array Slot} (hB : z_HB G z_PR A s.heap T0 I0 Q0 T I Q H locs) (hK1 : cells + kc ≤ mc) (hK2 : slots + ks ≤ ms) (hl : lv_has ls 6 [(1, .int x1), (2, .int x2)]) (h : wb_X12_path_84 o Qk Xk T I Q kc ks x1 x2) : W p l e R s m args below meth c H locs cells slots (z_MQ below G z_PR A T0 I0 Q0 (z_qi Qk) Xk args s mc ms) (F0 m 84 ls []) := by
  obtain ⟨hx, hb, -⟩ := id X
  unfold wb_X12_path_84 at h
  refine lv_iload_n hx hb dX12_path_84 rfl (lv_at hl 1 rfl) ?_
  refine lv_if_eq (tgt := 92) hx hb dX12_path_85 (by decide) (fun c19 => ?_) (fun c19 => ?_)
  · replace h := h.1 c19
    refine lv_iconst (v := 0) hx hb dX12_path_92 (by decide) ?_
    exact ww_X12_path_93 X ho  hB hK1 hK2 (lv_sub hl [] rfl) h
  · replace h := h.2 c19
    refine lv_iload_n hx hb dX12_path_88 rfl (lv_at hl 0 rfl) ?_
    refine lv_goto (tgt := 93) hx hb dX12_path_89 (by decide) ?_
    exact ww_X12_path_93 X ho  hB hK1 hK2 (lv_sub hl [] rfl) h
theorem wv_X12_path_9 {o : Nat} {Qk : Int32 → z_T → z_I → z_Q → Prop} {Xk : String → Nat → z_T → z_I → z_Q → Prop} (X : z_X l G A p R s m args meth c cX12_path 6 RX12 "path" (some .int) mc ms 13 230) (ho : (T0 o).1 = 12) : ∀ (n : Nat) {cells slots : Nat} {T : z_T} {I : z_I} {Q : z_Q} {kc : Nat} {ks : Nat} {x1 : Int32} {x2 : Int32} {x3 : Int32} {x4 : Int32} {H : Heap} {locs : List Loc} {ls : Array Slot}, z_HB G z_PR A s.heap T0 I0 Q0 T I Q H locs → cells + kc ≤ mc → slots + ks ≤ ms → lv_has ls 6 [(0, .ref o), (1, .int x1), (2, .int x2), (3, .int x3), (4, .int x4)] → wl_X12_path_9 o Qk Xk n T I Q kc ks x1 x2 x3 x4 → W p l e R s m args below meth c H locs cells slots (z_MQ below G z_PR A T0 I0 Q0 (z_qi Qk) Xk args s mc ms) (F0 m 9 ls []) := by
  intro n
  induction n with
  | zero =>
    intro cells slots T I Q kc ks x1 x2 x3 x4 H locs ls hB hK1 hK2 hl h
    exact h.elim
  | succ n ih =>
    intro cells slots T I Q kc ks x1 x2 x3 x4 H locs ls hB hK1 hK2 hl h
    obtain ⟨hx, hb, -⟩ := id X
    unfold wl_X12_path_9 at h
    refine lv_iload hx hb dX12_path_9 (lv_at hl 4 rfl) ?_
    refine lv_iconst (v := 5) hx hb dX12_path_11 (by decide) ?_
    refine lv_icmp_ge (tgt := 84) hx hb dX12_path_12 (by decide) (fun c1 => ?_) (fun c1 => ?_)
    · replace h := h.1 c1
      exact ww_X12_path_84 X ho  hB hK1 hK2 (lv_sub hl [1, 2] rfl) h
    · replace h := h.2 c1
      refine lv_iload_n hx hb dX12_path_15 rfl (lv_at hl 3 rfl) ?_
      refine lv_if_eq (tgt := 84) hx hb dX12_path_16 (by decide) (fun c2 => ?_) (fun c2 => ?_)
      · replace h := h.1 c2
        exact ww_X12_path_84 X ho  hB hK1 hK2 (lv_sub hl [1, 2] rfl) h
      · replace h := h.2 c2
        refine lv_aload_n (x := o) hx hb dX12_path_19 rfl (lv_at hl 0 rfl) ?_
        obtain ⟨kc4, ks5, g1, g2, h⟩ := h
        refine z_callXi (z_runV (rest := []) [] pk_X12_digit (met_X12_digit o kc4 ks5 _ _ h) X hB hB.2.2.2.2.2.2 q3061 kc_X12 (by decide) (z_fo hB ho (by decide)) rfl hl.1 (Nat.le_of_ble_eq_true rfl) dX12_path_20 (z_k1 hK1 g1) (z_k1 hK2 g2) (by decide) (by decide)) hB (fun _ h => h) (z_on (by decide +kernel) X (z_k1 hK1 g1) (z_k1 hK2 g2)) (fun r3 T6 I7 Q8 H locs h9 hF hB => ?_)
        replace h := h9
        clear h9
        replace h := h hF
        replace hK1 := z_k2 hK1 g1
        replace hK2 := z_k2 hK2 g2
        refine lv_istore (lv' := [(5, .int r3), (0, .ref o), (1, .int x1), (2, .int x2), (3, .int x3), (4, .int x4)]) hx hb dX12_path_23 hl (by decide) rfl (fun ls hl9 => ?_)
        replace hl := hl9
        clear hl9
        refine lv_iload_n hx hb dX12_path_25 rfl (lv_at hl 3 rfl) ?_
        refine lv_iload hx hb dX12_path_26 (lv_at hl 0 rfl) ?_
        refine lv_bipush (v := 8) hx hb dX12_path_28 (by decide) ?_
        refine lv_icmp_ge (tgt := 37) hx hb dX12_path_30 (by decide) (fun c9 => ?_) (fun c9 => ?_)
        · replace h := h.1 c9
          refine lv_iconst (v := 0) hx hb dX12_path_37 (by decide) ?_
          exact ww_X12_path_38 X ho (fun hB hK1 hK2 hl h => ih hB hK1 hK2 hl h) hB hK1 hK2 (lv_sub hl [1, 2, 5, 0] rfl) h
        · replace h := h.2 c9
          refine lv_iconst (v := 1) hx hb dX12_path_33 (by decide) ?_
          refine lv_goto (tgt := 38) hx hb dX12_path_34 (by decide) ?_
          exact ww_X12_path_38 X ho (fun hB hK1 hK2 hl h => ih hB hK1 hK2 hl h) hB hK1 hK2 (lv_sub hl [1, 2, 5, 0] rfl) h
theorem ww_X12_path_0 {o : Nat} {Qk : Int32 → z_T → z_I → z_Q → Prop} {Xk : String → Nat → z_T → z_I → z_Q → Prop} (X : z_X l G A p R s m args meth c cX12_path 6 RX12 "path" (some .int) mc ms 13 230) (ho : (T0 o).1 = 12) {cells slots : Nat} {T : z_T} {I : z_I} {Q : z_Q} {kc : Nat} {ks : Nat} {H : Heap} {locs : List Loc} {ls : Array Slot} (hB : z_HB G z_PR A s.heap T0 I0 Q0 T I Q H locs) (hK1 : cells + kc ≤ mc) (hK2 : slots + ks ≤ ms) (hl : lv_has ls 6 [(0, .ref o)]) (h : wb_X12_path_0 o Qk Xk T I Q kc ks) : W p l e R s m args below meth c H locs cells slots (z_MQ below G z_PR A T0 I0 Q0 (z_qi Qk) Xk args s mc ms) (F0 m 0 ls []) := by
  obtain ⟨hx, hb, -⟩ := id X
  unfold wb_X12_path_0 at h
  refine lv_iconst (v := 0) hx hb dX12_path_0 (by decide) ?_
  refine lv_istore_n (lv' := [(1, .int 0), (0, .ref o)]) hx hb dX12_path_1 rfl hl (by decide) rfl (fun ls hl9 => ?_)
  replace hl := hl9
  clear hl9
  refine lv_iconst (v := 1) hx hb dX12_path_2 (by decide) ?_
  refine lv_istore_n (lv' := [(2, .int 1), (1, .int 0), (0, .ref o)]) hx hb dX12_path_3 rfl hl (by decide) rfl (fun ls hl9 => ?_)
  replace hl := hl9
  clear hl9
  refine lv_iconst (v := 1) hx hb dX12_path_4 (by decide) ?_
  refine lv_istore_n (lv' := [(3, .int 1), (2, .int 1), (1, .int 0), (0, .ref o)]) hx hb dX12_path_5 rfl hl (by decide) rfl (fun ls hl9 => ?_)
  replace hl := hl9
  clear hl9
  refine lv_iconst (v := 0) hx hb dX12_path_6 (by decide) ?_
  refine lv_istore (lv' := [(4, .int 0), (3, .int 1), (2, .int 1), (1, .int 0), (0, .ref o)]) hx hb dX12_path_7 hl (by decide) rfl (fun ls hl9 => ?_)
  replace hl := hl9
  clear hl9
  obtain ⟨w, h⟩ := h
  exact wv_X12_path_9 X ho  w hB hK1 hK2 (lv_sub hl [4, 3, 2, 1, 0] rfl) h
theorem pk_X12_path : z_PV RX12 yX12_path cX12_path 6 (some .int) 0 := ⟨q3100, qs43, q158, q3101, by decide +kernel⟩
theorem met_X12_path {l : Launch} {G : z_E} {T : z_T} {I : z_I} {Q : z_Q} (o : Nat) (kc : Nat) (ks : Nat) (Qk : Int32 → z_T → z_I → z_Q → Prop) (Xk : String → Nat → z_T → z_I → z_Q → Prop) (h : wp_X12_path T I Q o kc ks Qk Xk) : z_GM l G yX12_path (ws_ yX12_path cX12_path 6 (some .int)) 13 230 kc ks [.ref o] z_PR T I Q (z_qi Qk) Xk := by
  obtain ⟨ho, h⟩ := h
  refine z_body (own := RX12) (nm := "path") (by decide +kernel) rfl rfl (Nat.le_of_ble_eq_true rfl) (fun p e R s m below meth c A ls X hB hl => ?_)
  exact ww_X12_path_0 X ho hB z_k0 z_k0 hl h
/-! X8_pathOf -/
theorem ww_X8_pathOf_103 {co : Nat} {k42 : z_T → z_I → z_Q → Nat → Nat → Int32 → Option Nat → Int32 → Int32 → Int32 → Prop} {Qk : Option Nat → z_T → z_I → z_Q → Prop} (X : z_X l G A p R s m args meth c cX8_pathOf 6 RX8 "pathOf" (some (.array .int)) mc ms 9 142) (hk42 : ∀ {cells slots : Nat} {T : z_T} {I : z_I} {Q : z_Q} {kc : Nat} {ks : Nat} {x1 : Int32} {x2 : Option Nat} {x3 : Int32} {x4 : Int32} {x5 : Int32} {H : Heap} {locs : List Loc} {ls : Array Slot}, z_HB G (z_co co) A s.heap T0 I0 Q0 T I Q H locs → cells + kc ≤ mc → slots + ks ≤ ms → lv_has ls 6 [(1, .int x1), (2, va_rf x2), (3, .int x3), (4, .int x4), (5, .int x5)] → k42 T I Q kc ks x1 x2 x3 x4 x5 → W p l e R s m args below meth c H locs cells slots (z_MQ below G (z_co co) A T0 I0 Q0 (z_qr Qk) z_no args s mc ms) (F0 m 42 ls [])) {cells slots : Nat} {T : z_T} {I : z_I} {Q : z_Q} {kc : Nat} {ks : Nat} {x1 : Int32} {x2 : Option Nat} {x3 : Int32} {x5 : Int32} {s0 : Int32} {s1 : Int32} {H : Heap} {locs : List Loc} {ls : Array Slot} (hB : z_HB G (z_co co) A s.heap T0 I0 Q0 T I Q H locs) (hK1 : cells + kc ≤ mc) (hK2 : slots + ks ≤ ms) (hl : lv_has ls 6 [(1, .int x1), (2, va_rf x2), (3, .int x3), (5, .int x5)]) (h : wb_X8_pathOf_103 co k42 Qk T I Q kc ks x1 x2 x3 x5 s0 s1) : W p l e R s m args below meth c H locs cells slots (z_MQ below G (z_co co) A T0 I0 Q0 (z_qr Qk) z_no args s mc ms) (F0 m 103 ls [.int s1, .int s0]) := by
  obtain ⟨hx, hb, -⟩ := id X
  unfold wb_X8_pathOf_103 at h
  refine lv_iand hx hb dX8_pathOf_103 ?_
  refine lv_topi (fun y23 ey23 => ?_)
  replace h := h y23 ey23
  refine lv_istore (lv' := [(4, .int y23), (1, .int x1), (2, va_rf x2), (3, .int x3), (5, .int x5)]) hx hb dX8_pathOf_104 hl (by decide) rfl (fun ls hl9 => ?_)
  replace hl := hl9
  clear hl9
  obtain ⟨y24, ey24⟩ : ∃ z : Int32, z = x5 + (-1) := ⟨_, rfl⟩
  replace h := h y24 ey24
  refine lv_iinc (v := y24) (lv' := [(5, .int y24), (4, .int y23), (1, .int x1), (2, va_rf x2), (3, .int x3)]) hx hb dX8_pathOf_106 hl (k := 4) rfl (by rw [ey24]; rfl) (by decide) rfl (fun ls hl9 => ?_)
  replace hl := hl9
  clear hl9
  refine lv_goto (tgt := 42) hx hb dX8_pathOf_109 (by decide) ?_
  exact hk42 hB hK1 hK2 (lv_sub hl [2, 3, 4, 1, 0] rfl) h
theorem ww_X8_pathOf_98 {co : Nat} {k42 : z_T → z_I → z_Q → Nat → Nat → Int32 → Option Nat → Int32 → Int32 → Int32 → Prop} {Qk : Option Nat → z_T → z_I → z_Q → Prop} (X : z_X l G A p R s m args meth c cX8_pathOf 6 RX8 "pathOf" (some (.array .int)) mc ms 9 142) (hk42 : ∀ {cells slots : Nat} {T : z_T} {I : z_I} {Q : z_Q} {kc : Nat} {ks : Nat} {x1 : Int32} {x2 : Option Nat} {x3 : Int32} {x4 : Int32} {x5 : Int32} {H : Heap} {locs : List Loc} {ls : Array Slot}, z_HB G (z_co co) A s.heap T0 I0 Q0 T I Q H locs → cells + kc ≤ mc → slots + ks ≤ ms → lv_has ls 6 [(1, .int x1), (2, va_rf x2), (3, .int x3), (4, .int x4), (5, .int x5)] → k42 T I Q kc ks x1 x2 x3 x4 x5 → W p l e R s m args below meth c H locs cells slots (z_MQ below G (z_co co) A T0 I0 Q0 (z_qr Qk) z_no args s mc ms) (F0 m 42 ls [])) {cells slots : Nat} {T : z_T} {I : z_I} {Q : z_Q} {kc : Nat} {ks : Nat} {x1 : Int32} {x2 : Option Nat} {x3 : Int32} {x5 : Int32} {s0 : Int32} {H : Heap} {locs : List Loc} {ls : Array Slot} (hB : z_HB G (z_co co) A s.heap T0 I0 Q0 T I Q H locs) (hK1 : cells + kc ≤ mc) (hK2 : slots + ks ≤ ms) (hl : lv_has ls 6 [(1, .int x1), (2, va_rf x2), (3, .int x3), (5, .int x5)]) (h : wb_X8_pathOf_98 co k42 Qk T I Q kc ks x1 x2 x3 x5 s0) : W p l e R s m args below meth c H locs cells slots (z_MQ below G (z_co co) A T0 I0 Q0 (z_qr Qk) z_no args s mc ms) (F0 m 98 ls [.int s0]) := by
  obtain ⟨hx, hb, -⟩ := id X
  unfold wb_X8_pathOf_98 at h
  refine lv_iconst (v := 1) hx hb dX8_pathOf_98 (by decide) ?_
  refine lv_goto (tgt := 103) hx hb dX8_pathOf_99 (by decide) ?_
  exact ww_X8_pathOf_103 X hk42 hB hK1 hK2 (lv_sub hl [0, 1, 2, 3] rfl) h
theorem ww_X8_pathOf_102 {co : Nat} {k42 : z_T → z_I → z_Q → Nat → Nat → Int32 → Option Nat → Int32 → Int32 → Int32 → Prop} {Qk : Option Nat → z_T → z_I → z_Q → Prop} (X : z_X l G A p R s m args meth c cX8_pathOf 6 RX8 "pathOf" (some (.array .int)) mc ms 9 142) (hk42 : ∀ {cells slots : Nat} {T : z_T} {I : z_I} {Q : z_Q} {kc : Nat} {ks : Nat} {x1 : Int32} {x2 : Option Nat} {x3 : Int32} {x4 : Int32} {x5 : Int32} {H : Heap} {locs : List Loc} {ls : Array Slot}, z_HB G (z_co co) A s.heap T0 I0 Q0 T I Q H locs → cells + kc ≤ mc → slots + ks ≤ ms → lv_has ls 6 [(1, .int x1), (2, va_rf x2), (3, .int x3), (4, .int x4), (5, .int x5)] → k42 T I Q kc ks x1 x2 x3 x4 x5 → W p l e R s m args below meth c H locs cells slots (z_MQ below G (z_co co) A T0 I0 Q0 (z_qr Qk) z_no args s mc ms) (F0 m 42 ls [])) {cells slots : Nat} {T : z_T} {I : z_I} {Q : z_Q} {kc : Nat} {ks : Nat} {x1 : Int32} {x2 : Option Nat} {x3 : Int32} {x5 : Int32} {s0 : Int32} {H : Heap} {locs : List Loc} {ls : Array Slot} (hB : z_HB G (z_co co) A s.heap T0 I0 Q0 T I Q H locs) (hK1 : cells + kc ≤ mc) (hK2 : slots + ks ≤ ms) (hl : lv_has ls 6 [(1, .int x1), (2, va_rf x2), (3, .int x3), (5, .int x5)]) (h : wb_X8_pathOf_102 co k42 Qk T I Q kc ks x1 x2 x3 x5 s0) : W p l e R s m args below meth c H locs cells slots (z_MQ below G (z_co co) A T0 I0 Q0 (z_qr Qk) z_no args s mc ms) (F0 m 102 ls [.int s0]) := by
  obtain ⟨hx, hb, -⟩ := id X
  unfold wb_X8_pathOf_102 at h
  refine lv_iconst (v := 0) hx hb dX8_pathOf_102 (by decide) ?_
  exact ww_X8_pathOf_103 X hk42 hB hK1 hK2 (lv_sub hl [0, 1, 2, 3] rfl) h
theorem ww_X8_pathOf_124 {co : Nat} {Qk : Option Nat → z_T → z_I → z_Q → Prop} (X : z_X l G A p R s m args meth c cX8_pathOf 6 RX8 "pathOf" (some (.array .int)) mc ms 9 142) {cells slots : Nat} {T : z_T} {I : z_I} {Q : z_Q} {kc : Nat} {ks : Nat} {s0 : Option Nat} {H : Heap} {locs : List Loc} {ls : Array Slot} (hB : z_HB G (z_co co) A s.heap T0 I0 Q0 T I Q H locs) (hK1 : cells + kc ≤ mc) (hK2 : slots + ks ≤ ms) (hl : lv_has ls 6 []) (h : wb_X8_pathOf_124 co Qk T I Q kc ks s0) : W p l e R s m args below meth c H locs cells slots (z_MQ below G (z_co co) A T0 I0 Q0 (z_qr Qk) z_no args s mc ms) (F0 m 124 ls [va_rf s0]) := by
  obtain ⟨hx, hb, -⟩ := id X
  unfold wb_X8_pathOf_124 at h
  exact z_aret (v := s0) X (by first | exact Or.inl ⟨_, rfl⟩ | exact Or.inr ⟨_, rfl⟩) hB ⟨_, rfl, h⟩ (z_k3 hK1) (z_k3 hK2) dX8_pathOf_124
theorem wv_X8_pathOf_42 {co : Nat} {Qk : Option Nat → z_T → z_I → z_Q → Prop} (X : z_X l G A p R s m args meth c cX8_pathOf 6 RX8 "pathOf" (some (.array .int)) mc ms 9 142) : ∀ (n : Nat) {cells slots : Nat} {T : z_T} {I : z_I} {Q : z_Q} {kc : Nat} {ks : Nat} {x1 : Int32} {x2 : Option Nat} {x3 : Int32} {x4 : Int32} {x5 : Int32} {H : Heap} {locs : List Loc} {ls : Array Slot}, z_HB G (z_co co) A s.heap T0 I0 Q0 T I Q H locs → cells + kc ≤ mc → slots + ks ≤ ms → lv_has ls 6 [(1, .int x1), (2, va_rf x2), (3, .int x3), (4, .int x4), (5, .int x5)] → wl_X8_pathOf_42 co Qk n T I Q kc ks x1 x2 x3 x4 x5 → W p l e R s m args below meth c H locs cells slots (z_MQ below G (z_co co) A T0 I0 Q0 (z_qr Qk) z_no args s mc ms) (F0 m 42 ls []) := by
  intro n
  induction n with
  | zero =>
    intro cells slots T I Q kc ks x1 x2 x3 x4 x5 H locs ls hB hK1 hK2 hl h
    exact h.elim
  | succ n ih =>
    intro cells slots T I Q kc ks x1 x2 x3 x4 x5 H locs ls hB hK1 hK2 hl h
    obtain ⟨hx, hb, -⟩ := id X
    unfold wl_X8_pathOf_42 at h
    refine lv_iload hx hb dX8_pathOf_42 (lv_at hl 4 rfl) ?_
    refine lv_if_lt (tgt := 112) hx hb dX8_pathOf_44 (by decide) (fun c10 => ?_) (fun c10 => ?_)
    · replace h := h.1 c10
      refine lv_iload hx hb dX8_pathOf_112 (lv_at hl 3 rfl) ?_
      refine lv_if_eq (tgt := 121) hx hb dX8_pathOf_114 (by decide) (fun c11 => ?_) (fun c11 => ?_)
      · replace h := h.1 c11
        refine lv_iconst (v := 0) hx hb dX8_pathOf_121 (by decide) ?_
        obtain ⟨g1, g2, h⟩ := h
        refine z_newa (k := 0) (n := 0) (col := co) (.int) rfl (by decide) X hB q1170 (by decide) rfl (Nat.le_of_ble_eq_true rfl) rfl (z_k1 hK1 g1) (z_k1 hK2 g2) dX8_pathOf_122 (fun a12 H hq hB => ?_)
        obtain ⟨T13, eT13⟩ : ∃ z, z = z_t T a12 (100, 0, co) := ⟨_, rfl⟩
        obtain ⟨I14, eI14⟩ : ∃ z, z = z_row I a12 (fun _ => 0) := ⟨_, rfl⟩
        obtain ⟨Q15, eQ15⟩ : ∃ z, z = z_row Q a12 (fun _ => none) := ⟨_, rfl⟩
        rw [← eT13, ← eI14, ← eQ15] at hB
        replace h := h a12 T13 I14 Q15 hq eT13 eI14 eQ15
        have hk_a12 := z_tq eT13
        have hc_a12 : (T13 a12).2.2 = co := by rw [z_tqc eT13]
        replace hK1 := z_k2 hK1 g1
        replace hK2 := z_k2 hK2 g2
        exact ww_X8_pathOf_124 X  hB hK1 hK2 (lv_sub hl [] rfl) h
      · replace h := h.2 c11
        refine z_aload_n (x := x2) hx hb dX8_pathOf_117 rfl (lv_at hl 1 rfl) ?_
        refine lv_goto (tgt := 124) hx hb dX8_pathOf_118 (by decide) ?_
        exact ww_X8_pathOf_124 X  hB hK1 hK2 (lv_sub hl [] rfl) h
    · replace h := h.2 c10
      refine z_aload_n (x := x2) hx hb dX8_pathOf_47 rfl (lv_at hl 1 rfl) ?_
      refine lv_iload hx hb dX8_pathOf_48 (lv_at hl 4 rfl) ?_
      refine lv_iload_n hx hb dX8_pathOf_50 rfl (lv_at hl 2 rfl) ?_
      refine lv_bipush (v := 10) hx hb dX8_pathOf_51 (by decide) ?_
      refine lv_irem hx hb dX8_pathOf_53 (by decide) ?_
      refine lv_iconst (v := 1) hx hb dX8_pathOf_54 (by decide) ?_
      refine lv_isub hx hb dX8_pathOf_55 ?_
      obtain ⟨a16, rfl, h⟩ := h
      obtain ⟨hk_a16, h⟩ := h
      obtain ⟨hc_a16, h⟩ := h
      obtain ⟨h1, h⟩ := h
      obtain ⟨I17, eI17⟩ : ∃ z, z = z_up I a16 x5.toNatClampNeg ((x3 - x3 / 10 * 10) - 1) := ⟨_, rfl⟩
      replace h := h I17 eI17
      refine z_iast (x := ((x3 - x3 / 10 * 10) - 1)) X hB hk_a16 hc_a16 h1 dX8_pathOf_56 (fun H locs hB => ?_)
      rw [← eI17] at hB
      refine lv_iload_n hx hb dX8_pathOf_57 rfl (lv_at hl 2 rfl) ?_
      refine lv_bipush (v := 10) hx hb dX8_pathOf_58 (by decide) ?_
      refine lv_idiv hx hb dX8_pathOf_60 (by decide) ?_
      refine lv_topi (fun y18 ey18 => ?_)
      replace h := h y18 ey18
      refine lv_istore_n (lv' := [(3, .int y18), (1, .int x1), (2, .ref a16), (4, .int x4), (5, .int x5)]) hx hb dX8_pathOf_61 rfl hl (by decide) rfl (fun ls hl9 => ?_)
      replace hl := hl9
      clear hl9
      refine lv_iload hx hb dX8_pathOf_62 (lv_at hl 3 rfl) ?_
      refine lv_aload_n (x := a16) hx hb dX8_pathOf_64 rfl (lv_at hl 2 rfl) ?_
      refine lv_iload hx hb dX8_pathOf_65 (lv_at hl 4 rfl) ?_
      obtain ⟨h1, h⟩ := h
      refine z_iald X hB.1 hk_a16 h1 dX8_pathOf_67 ?_
      refine lv_iconst (v := 0) hx hb dX8_pathOf_68 (by decide) ?_
      refine lv_bipush (v := 7) hx hb dX8_pathOf_69 (by decide) ?_
      refine z_callzp (z_runSN (rest := [.int x4]) [.int (I17 a16 x5.toNatClampNeg), .int 0, .int 7] pk_X1_inRange (met_X1_inRange (I17 a16 x5.toNatClampNeg) 0 7 _ h) X hB (fun h => h) q2643 rfl hl.1 (Nat.le_of_ble_eq_true rfl) dX8_pathOf_71 (z_k4 hK1) (z_k4 hK2) (by decide) (by decide)) hB (fun r19 H locs hz h9 hB => ?_)
      replace h := h9
      clear h9
      replace h := h hz
      refine lv_if_eq (tgt := 102) hx hb dX8_pathOf_74 (by decide) (fun c20 => ?_) (fun c20 => ?_)
      · replace h := h.1 c20
        exact ww_X8_pathOf_102 X (fun hB hK1 hK2 hl h => ih hB hK1 hK2 hl h) hB hK1 hK2 (lv_sub hl [1, 2, 0, 4] rfl) h
      · replace h := h.2 c20
        refine lv_iload hx hb dX8_pathOf_77 (lv_at hl 4 rfl) ?_
        refine lv_iload_n hx hb dX8_pathOf_79 rfl (lv_at hl 1 rfl) ?_
        refine lv_iconst (v := 1) hx hb dX8_pathOf_80 (by decide) ?_
        refine lv_isub hx hb dX8_pathOf_81 ?_
        refine lv_icmp_eq (tgt := 98) hx hb dX8_pathOf_82 (by decide) (fun c21 => ?_) (fun c21 => ?_)
        · replace h := h.1 c21
          exact ww_X8_pathOf_98 X (fun hB hK1 hK2 hl h => ih hB hK1 hK2 hl h) hB hK1 hK2 (lv_sub hl [1, 2, 0, 4] rfl) h
        · replace h := h.2 c21
          refine lv_aload_n (x := a16) hx hb dX8_pathOf_85 rfl (lv_at hl 2 rfl) ?_
          refine lv_iload hx hb dX8_pathOf_86 (lv_at hl 4 rfl) ?_
          obtain ⟨h1, h⟩ := h
          refine z_iald X hB.1 hk_a16 h1 dX8_pathOf_88 ?_
          refine lv_aload_n (x := a16) hx hb dX8_pathOf_89 rfl (lv_at hl 2 rfl) ?_
          refine lv_iload hx hb dX8_pathOf_90 (lv_at hl 4 rfl) ?_
          refine lv_iconst (v := 1) hx hb dX8_pathOf_92 (by decide) ?_
          refine lv_iadd hx hb dX8_pathOf_93 ?_
          obtain ⟨h1, h⟩ := h
          refine z_iald X hB.1 hk_a16 h1 dX8_pathOf_94 ?_
          refine lv_icmp_eq (tgt := 102) hx hb dX8_pathOf_95 (by decide) (fun c22 => ?_) (fun c22 => ?_)
          · replace h := h.1 c22
            exact ww_X8_pathOf_102 X (fun hB hK1 hK2 hl h => ih hB hK1 hK2 hl h) hB hK1 hK2 (lv_sub hl [1, 2, 0, 4] rfl) h
          · replace h := h.2 c22
            exact ww_X8_pathOf_98 X (fun hB hK1 hK2 hl h => ih hB hK1 hK2 hl h) hB hK1 hK2 (lv_sub hl [1, 2, 0, 4] rfl) h
theorem ww_X8_pathOf_35 {co : Nat} {Qk : Option Nat → z_T → z_I → z_Q → Prop} (X : z_X l G A p R s m args meth c cX8_pathOf 6 RX8 "pathOf" (some (.array .int)) mc ms 9 142) {cells slots : Nat} {T : z_T} {I : z_I} {Q : z_Q} {kc : Nat} {ks : Nat} {x1 : Int32} {x2 : Option Nat} {x3 : Int32} {s0 : Int32} {H : Heap} {locs : List Loc} {ls : Array Slot} (hB : z_HB G (z_co co) A s.heap T0 I0 Q0 T I Q H locs) (hK1 : cells + kc ≤ mc) (hK2 : slots + ks ≤ ms) (hl : lv_has ls 6 [(1, .int x1), (2, va_rf x2), (3, .int x3)]) (h : wb_X8_pathOf_35 co Qk T I Q kc ks x1 x2 x3 s0) : W p l e R s m args below meth c H locs cells slots (z_MQ below G (z_co co) A T0 I0 Q0 (z_qr Qk) z_no args s mc ms) (F0 m 35 ls [.int s0]) := by
  obtain ⟨hx, hb, -⟩ := id X
  unfold wb_X8_pathOf_35 at h
  refine lv_istore (lv' := [(4, .int s0), (1, .int x1), (2, va_rf x2), (3, .int x3)]) hx hb dX8_pathOf_35 hl (by decide) rfl (fun ls hl9 => ?_)
  replace hl := hl9
  clear hl9
  refine lv_iload_n hx hb dX8_pathOf_37 rfl (lv_at hl 1 rfl) ?_
  refine lv_iconst (v := 1) hx hb dX8_pathOf_38 (by decide) ?_
  refine lv_isub hx hb dX8_pathOf_39 ?_
  refine lv_topi (fun y9 ey9 => ?_)
  replace h := h y9 ey9
  refine lv_istore (lv' := [(5, .int y9), (4, .int s0), (1, .int x1), (2, va_rf x2), (3, .int x3)]) hx hb dX8_pathOf_40 hl (by decide) rfl (fun ls hl9 => ?_)
  replace hl := hl9
  clear hl9
  obtain ⟨w, h⟩ := h
  exact wv_X8_pathOf_42 X  w hB hK1 hK2 (lv_sub hl [2, 3, 4, 1, 0] rfl) h
theorem wv_X8_pathOf_4 {co : Nat} {Qk : Option Nat → z_T → z_I → z_Q → Prop} (X : z_X l G A p R s m args meth c cX8_pathOf 6 RX8 "pathOf" (some (.array .int)) mc ms 9 142) : ∀ (n : Nat) {cells slots : Nat} {T : z_T} {I : z_I} {Q : z_Q} {kc : Nat} {ks : Nat} {x0 : Int32} {x1 : Int32} {x2 : Int32} {H : Heap} {locs : List Loc} {ls : Array Slot}, z_HB G (z_co co) A s.heap T0 I0 Q0 T I Q H locs → cells + kc ≤ mc → slots + ks ≤ ms → lv_has ls 6 [(0, .int x0), (1, .int x1), (2, .int x2)] → wl_X8_pathOf_4 co Qk n T I Q kc ks x0 x1 x2 → W p l e R s m args below meth c H locs cells slots (z_MQ below G (z_co co) A T0 I0 Q0 (z_qr Qk) z_no args s mc ms) (F0 m 4 ls []) := by
  intro n
  induction n with
  | zero =>
    intro cells slots T I Q kc ks x0 x1 x2 H locs ls hB hK1 hK2 hl h
    exact h.elim
  | succ n ih =>
    intro cells slots T I Q kc ks x0 x1 x2 H locs ls hB hK1 hK2 hl h
    obtain ⟨hx, hb, -⟩ := id X
    unfold wl_X8_pathOf_4 at h
    refine lv_iload_n hx hb dX8_pathOf_4 rfl (lv_at hl 2 rfl) ?_
    refine lv_if_le (tgt := 19) hx hb dX8_pathOf_5 (by decide) (fun c1 => ?_) (fun c1 => ?_)
    · replace h := h.1 c1
      refine lv_iload_n hx hb dX8_pathOf_19 rfl (lv_at hl 1 rfl) ?_
      obtain ⟨g3, g4, h⟩ := h
      obtain ⟨g1, g2, h⟩ := h
      refine z_newa (k := 0) (n := x1.toNatClampNeg) (col := co) (.int) rfl (by decide) X hB q1170 g3 rfl g4 rfl (z_k1 hK1 g1) (z_k1 hK2 g2) dX8_pathOf_20 (fun a2 H hq hB => ?_)
      obtain ⟨T3, eT3⟩ : ∃ z, z = z_t T a2 (100, x1.toNatClampNeg, co) := ⟨_, rfl⟩
      obtain ⟨I4, eI4⟩ : ∃ z, z = z_row I a2 (fun _ => 0) := ⟨_, rfl⟩
      obtain ⟨Q5, eQ5⟩ : ∃ z, z = z_row Q a2 (fun _ => none) := ⟨_, rfl⟩
      rw [← eT3, ← eI4, ← eQ5] at hB
      replace h := h a2 T3 I4 Q5 hq eT3 eI4 eQ5
      have hk_a2 := z_tq eT3
      have hc_a2 : (T3 a2).2.2 = co := by rw [z_tqc eT3]
      replace hK1 := z_k2 hK1 g1
      replace hK2 := z_k2 hK2 g2
      refine lv_astore_n (x := a2) (lv' := [(2, .ref a2), (0, .int x0), (1, .int x1)]) hx hb dX8_pathOf_22 rfl hl (by decide) rfl (fun ls hl9 => ?_)
      replace hl := hl9
      clear hl9
      refine lv_iload_n hx hb dX8_pathOf_23 rfl (lv_at hl 1 rfl) ?_
      refine lv_istore_n (lv' := [(3, .int x0), (2, .ref a2), (0, .int x0), (1, .int x1)]) hx hb dX8_pathOf_24 rfl hl (by decide) rfl (fun ls hl9 => ?_)
      replace hl := hl9
      clear hl9
      refine lv_iload_n hx hb dX8_pathOf_25 rfl (lv_at hl 3 rfl) ?_
      refine lv_iconst (v := 5) hx hb dX8_pathOf_26 (by decide) ?_
      refine lv_icmp_gt (tgt := 34) hx hb dX8_pathOf_27 (by decide) (fun c6 => ?_) (fun c6 => ?_)
      · replace h := h.1 c6
        refine lv_iconst (v := 0) hx hb dX8_pathOf_34 (by decide) ?_
        exact ww_X8_pathOf_35 X  hB hK1 hK2 (lv_sub hl [3, 1, 0] rfl) h
      · replace h := h.2 c6
        refine lv_iconst (v := 1) hx hb dX8_pathOf_30 (by decide) ?_
        refine lv_goto (tgt := 35) hx hb dX8_pathOf_31 (by decide) ?_
        exact ww_X8_pathOf_35 X  hB hK1 hK2 (lv_sub hl [3, 1, 0] rfl) h
    · replace h := h.2 c1
      obtain ⟨y7, ey7⟩ : ∃ z : Int32, z = x1 + 1 := ⟨_, rfl⟩
      replace h := h y7 ey7
      refine lv_iinc (v := y7) (lv' := [(1, .int y7), (0, .int x0), (2, .int x2)]) hx hb dX8_pathOf_8 hl (k := 1) rfl (by rw [ey7]; rfl) (by decide) rfl (fun ls hl9 => ?_)
      replace hl := hl9
      clear hl9
      refine lv_iload_n hx hb dX8_pathOf_11 rfl (lv_at hl 2 rfl) ?_
      refine lv_bipush (v := 10) hx hb dX8_pathOf_12 (by decide) ?_
      refine lv_idiv hx hb dX8_pathOf_14 (by decide) ?_
      refine lv_topi (fun y8 ey8 => ?_)
      replace h := h y8 ey8
      refine lv_istore_n (lv' := [(2, .int y8), (1, .int y7), (0, .int x0)]) hx hb dX8_pathOf_15 rfl hl (by decide) rfl (fun ls hl9 => ?_)
      replace hl := hl9
      clear hl9
      refine lv_goto (tgt := 4) hx hb dX8_pathOf_16 (by decide) ?_
      exact ih hB hK1 hK2 (lv_sub hl [2, 1, 0] rfl) h
theorem ww_X8_pathOf_0 {co : Nat} {Qk : Option Nat → z_T → z_I → z_Q → Prop} (X : z_X l G A p R s m args meth c cX8_pathOf 6 RX8 "pathOf" (some (.array .int)) mc ms 9 142) {cells slots : Nat} {T : z_T} {I : z_I} {Q : z_Q} {kc : Nat} {ks : Nat} {x0 : Int32} {H : Heap} {locs : List Loc} {ls : Array Slot} (hB : z_HB G (z_co co) A s.heap T0 I0 Q0 T I Q H locs) (hK1 : cells + kc ≤ mc) (hK2 : slots + ks ≤ ms) (hl : lv_has ls 6 [(0, .int x0)]) (h : wb_X8_pathOf_0 co Qk T I Q kc ks x0) : W p l e R s m args below meth c H locs cells slots (z_MQ below G (z_co co) A T0 I0 Q0 (z_qr Qk) z_no args s mc ms) (F0 m 0 ls []) := by
  obtain ⟨hx, hb, -⟩ := id X
  unfold wb_X8_pathOf_0 at h
  refine lv_iconst (v := 0) hx hb dX8_pathOf_0 (by decide) ?_
  refine lv_istore_n (lv' := [(1, .int 0), (0, .int x0)]) hx hb dX8_pathOf_1 rfl hl (by decide) rfl (fun ls hl9 => ?_)
  replace hl := hl9
  clear hl9
  refine lv_iload_n hx hb dX8_pathOf_2 rfl (lv_at hl 1 rfl) ?_
  refine lv_istore_n (lv' := [(2, .int x0), (1, .int 0), (0, .int x0)]) hx hb dX8_pathOf_3 rfl hl (by decide) rfl (fun ls hl9 => ?_)
  replace hl := hl9
  clear hl9
  obtain ⟨w, h⟩ := h
  exact wv_X8_pathOf_4 X  w hB hK1 hK2 (lv_sub hl [2, 1, 0] rfl) h
theorem pk_X8_pathOf : z_PS yX8_pathOf cX8_pathOf 6 (some (.array .int)) 1 := ⟨q2641, q152, q2642, by decide +kernel⟩
theorem met_X8_pathOf {l : Launch} {G : z_E} {T : z_T} {I : z_I} {Q : z_Q} (co : Nat) (x0 : Int32) (kc : Nat) (ks : Nat) (Qk : Option Nat → z_T → z_I → z_Q → Prop) (h : wp_X8_pathOf co T I Q x0 kc ks Qk) : z_GM l G yX8_pathOf (ws_ yX8_pathOf cX8_pathOf 6 (some (.array .int))) 9 142 kc ks [.int x0] (z_co co) T I Q (z_qr Qk) z_no := by
  refine z_body (own := RX8) (nm := "pathOf") (by decide +kernel) rfl rfl (Nat.le_of_ble_eq_true rfl) (fun p e R s m below meth c A ls X hB hl => ?_)
  exact ww_X8_pathOf_0 X hB z_k0 z_k0 hl h
/-! X8_init -/
theorem ww_X8_init_0 {co : Nat} {o : Nat} {Qk : z_T → z_I → z_Q → Prop} (X : z_X l G A p R s m args meth c cX8_init 7 RX8 "<init>" none mc ms 10 167) (ho : (T0 o).1 = 7) (hoc : (T0 o).2.2 = co) {cells slots : Nat} {T : z_T} {I : z_I} {Q : z_Q} {kc : Nat} {ks : Nat} {x1 : Int32} {x2 : Int32} {x3 : Int32} {x4 : Int32} {x5 : Int32} {x6 : Int32} {H : Heap} {locs : List Loc} {ls : Array Slot} (hB : z_HB G (z_co co) A s.heap T0 I0 Q0 T I Q H locs) (hK1 : cells + kc ≤ mc) (hK2 : slots + ks ≤ ms) (hl : lv_has ls 7 [(0, .ref o), (1, .int x1), (2, .int x2), (3, .int x3), (4, .int x4), (5, .int x5), (6, .int x6)]) (h : wb_X8_init_0 co o Qk T I Q kc ks x1 x2 x3 x4 x5 x6) : W p l e R s m args below meth c H locs cells slots (z_MQ below G (z_co co) A T0 I0 Q0 (z_qv Qk) z_no args s mc ms) (F0 m 0 ls []) := by
  obtain ⟨hx, hb, -⟩ := id X
  unfold wb_X8_init_0 at h
  refine lv_aload_n (x := o) hx hb dX8_init_0 rfl (lv_at hl 0 rfl) ?_
  refine z_objInit (rest := []) X q2639 hl.1 dX8_init_1 (by decide) (Nat.le_of_ble_eq_true rfl) ?_
  refine lv_aload_n (x := o) hx hb dX8_init_4 rfl (lv_at hl 0 rfl) ?_
  refine lv_iload_n hx hb dX8_init_5 rfl (lv_at hl 1 rfl) ?_
  obtain ⟨I1, eI1⟩ : ∃ z, z = z_up I o 0 x1 := ⟨_, rfl⟩
  replace h := h I1 eI1
  refine z_putiF (x := x1) eI1 tyX8 X hB kc_X8 in_X8 tyX8_ok nmX8 (j := 0) (Nat.le_of_ble_eq_true rfl) q2644 (fun _ h => h) rfl rfl rfl (by decide) (z_fo hB ho (by decide)) (z_foc hB ho (by decide) hoc) rfl (Or.inl rfl) dX8_init_6 (fun H locs hB => ?_)
  refine lv_aload_n (x := o) hx hb dX8_init_9 rfl (lv_at hl 0 rfl) ?_
  refine lv_iload_n hx hb dX8_init_10 rfl (lv_at hl 2 rfl) ?_
  obtain ⟨I2, eI2⟩ : ∃ z, z = z_up I1 o 1 x2 := ⟨_, rfl⟩
  replace h := h I2 eI2
  refine z_putiF (x := x2) eI2 tyX8 X hB kc_X8 in_X8 tyX8_ok nmX8 (j := 1) (Nat.le_of_ble_eq_true rfl) q2646 (fun _ h => h) rfl rfl rfl (by decide) (z_fo hB ho (by decide)) (z_foc hB ho (by decide) hoc) rfl (Or.inl rfl) dX8_init_11 (fun H locs hB => ?_)
  refine lv_aload_n (x := o) hx hb dX8_init_14 rfl (lv_at hl 0 rfl) ?_
  refine lv_iload_n hx hb dX8_init_15 rfl (lv_at hl 2 rfl) ?_
  obtain ⟨kc4, ks5, g1, g2, h⟩ := h
  refine z_callr (z_runS (rest := [.ref o]) [.int x2] pk_X8_pathOf (met_X8_pathOf co x2 kc4 ks5 _ h) X hB hB.2.2.2.2.2.2 q2640 rfl hl.1 (Nat.le_of_ble_eq_true rfl) dX8_init_16 (z_k1 hK1 g1) (z_k1 hK2 g2) (by decide) (by decide)) hB (fun _ h => h) (fun r3 T6 I7 Q8 H locs h9 hF hB => ?_)
  replace h := h9
  clear h9
  replace h := h hF
  replace hK1 := z_k2 hK1 g1
  replace hK2 := z_k2 hK2 g2
  obtain ⟨Q9, eQ9⟩ : ∃ z, z = z_up Q8 o 2 r3 := ⟨_, rfl⟩
  replace h := h Q9 eQ9
  refine z_putqF (x := r3) eQ9 tyX8 X hB kc_X8 in_X8 tyX8_ok nmX8 (j := 2) (Nat.le_of_ble_eq_true rfl) q2647 (fun _ h => h) rfl rfl rfl (by decide) (z_fo hB ho (by decide)) (z_foc hB ho (by decide) hoc) rfl (Or.inr ⟨_, rfl⟩) dX8_init_19 (fun H locs hB => ?_)
  refine lv_aload_n (x := o) hx hb dX8_init_22 rfl (lv_at hl 0 rfl) ?_
  refine lv_iload_n hx hb dX8_init_23 rfl (lv_at hl 3 rfl) ?_
  obtain ⟨I10, eI10⟩ : ∃ z, z = z_up I7 o 3 x3 := ⟨_, rfl⟩
  replace h := h I10 eI10
  refine z_putiF (x := x3) eI10 tyX8 X hB kc_X8 in_X8 tyX8_ok nmX8 (j := 3) (Nat.le_of_ble_eq_true rfl) q2651 (fun _ h => h) rfl rfl rfl (by decide) (z_fo hB ho (by decide)) (z_foc hB ho (by decide) hoc) rfl (Or.inl rfl) dX8_init_24 (fun H locs hB => ?_)
  refine lv_aload_n (x := o) hx hb dX8_init_27 rfl (lv_at hl 0 rfl) ?_
  refine lv_iload hx hb dX8_init_28 (lv_at hl 4 rfl) ?_
  obtain ⟨I11, eI11⟩ : ∃ z, z = z_up I10 o 4 x4 := ⟨_, rfl⟩
  replace h := h I11 eI11
  refine z_putiF (x := x4) eI11 tyX8 X hB kc_X8 in_X8 tyX8_ok nmX8 (j := 4) (Nat.le_of_ble_eq_true rfl) q2654 (fun _ h => h) rfl rfl rfl (by decide) (z_fo hB ho (by decide)) (z_foc hB ho (by decide) hoc) rfl (Or.inl rfl) dX8_init_30 (fun H locs hB => ?_)
  refine lv_aload_n (x := o) hx hb dX8_init_33 rfl (lv_at hl 0 rfl) ?_
  refine lv_iload hx hb dX8_init_34 (lv_at hl 5 rfl) ?_
  obtain ⟨I12, eI12⟩ : ∃ z, z = z_up I11 o 5 x5 := ⟨_, rfl⟩
  replace h := h I12 eI12
  refine z_putiF (x := x5) eI12 tyX8 X hB kc_X8 in_X8 tyX8_ok nmX8 (j := 5) (Nat.le_of_ble_eq_true rfl) q2657 (fun _ h => h) rfl rfl rfl (by decide) (z_fo hB ho (by decide)) (z_foc hB ho (by decide) hoc) rfl (Or.inl rfl) dX8_init_36 (fun H locs hB => ?_)
  refine lv_aload_n (x := o) hx hb dX8_init_39 rfl (lv_at hl 0 rfl) ?_
  refine lv_iload hx hb dX8_init_40 (lv_at hl 6 rfl) ?_
  obtain ⟨I13, eI13⟩ : ∃ z, z = z_up I12 o 6 x6 := ⟨_, rfl⟩
  replace h := h I13 eI13
  refine z_putiF (x := x6) eI13 tyX8 X hB kc_X8 in_X8 tyX8_ok nmX8 (j := 6) (Nat.le_of_ble_eq_true rfl) q2660 (fun _ h => h) rfl rfl rfl (by decide) (z_fo hB ho (by decide)) (z_foc hB ho (by decide) hoc) rfl (Or.inl rfl) dX8_init_42 (fun H locs hB => ?_)
  exact z_vret X hB ⟨rfl, h⟩ (z_k3 hK1) (z_k3 hK2) dX8_init_45
theorem pk_X8_init : z_PI yX8_init cX8_init 7 6 := ⟨q2637, q152, q2638, rfl, by decide +kernel⟩
theorem met_X8_init {l : Launch} {G : z_E} {T : z_T} {I : z_I} {Q : z_Q} (co : Nat) (o : Nat) (x1 : Int32) (x2 : Int32) (x3 : Int32) (x4 : Int32) (x5 : Int32) (x6 : Int32) (kc : Nat) (ks : Nat) (Qk : z_T → z_I → z_Q → Prop) (h : wp_X8_init co T I Q o x1 x2 x3 x4 x5 x6 kc ks Qk) : z_GM l G yX8_init (ws_ yX8_init cX8_init 7 none) 10 167 kc ks [.ref o, .int x1, .int x2, .int x3, .int x4, .int x5, .int x6] (z_co co) T I Q (z_qv Qk) z_no := by
  obtain ⟨ho, hoc, h⟩ := h
  refine z_body (own := RX8) (nm := "<init>") (by decide +kernel) rfl rfl (Nat.le_of_ble_eq_true rfl) (fun p e R s m below meth c A ls X hB hl => ?_)
  exact ww_X8_init_0 X ho hoc hB z_k0 z_k0 hl h
/-! X12_job -/
theorem ww_X12_job_0 {o : Nat} {Qk : Option Nat → z_T → z_I → z_Q → Prop} {Xk : String → Nat → z_T → z_I → z_Q → Prop} (X : z_X l G A p R s m args meth c cX12_job 7 RX12 "job" (some (.object "RobotCell$Command")) mc ms 14 255) (ho : (T0 o).1 = 12) {cells slots : Nat} {T : z_T} {I : z_I} {Q : z_Q} {kc : Nat} {ks : Nat} {H : Heap} {locs : List Loc} {ls : Array Slot} (hB : z_HB G z_PR A s.heap T0 I0 Q0 T I Q H locs) (hK1 : cells + kc ≤ mc) (hK2 : slots + ks ≤ ms) (hl : lv_has ls 7 [(0, .ref o)]) (h : wb_X12_job_0 o Qk Xk T I Q kc ks) : W p l e R s m args below meth c H locs cells slots (z_MQ below G z_PR A T0 I0 Q0 (z_qr Qk) Xk args s mc ms) (F0 m 0 ls []) := by
  obtain ⟨hx, hb, -⟩ := id X
  unfold wb_X12_job_0 at h
  refine lv_aload_n (x := o) hx hb dX12_job_0 rfl (lv_at hl 0 rfl) ?_
  obtain ⟨kc2, ks3, g1, g2, h⟩ := h
  refine z_callXi (z_runV (rest := []) [] pk_X12_digit (met_X12_digit o kc2 ks3 _ _ h) X hB hB.2.2.2.2.2.2 q3061 kc_X12 (by decide) (z_fo hB ho (by decide)) rfl hl.1 (Nat.le_of_ble_eq_true rfl) dX12_job_1 (z_k1 hK1 g1) (z_k1 hK2 g2) (by decide) (by decide)) hB (fun _ h => h) (z_on (by decide +kernel) X (z_k1 hK1 g1) (z_k1 hK2 g2)) (fun r1 T4 I5 Q6 H locs h9 hF hB => ?_)
  replace h := h9
  clear h9
  replace h := h hF
  replace hK1 := z_k2 hK1 g1
  replace hK2 := z_k2 hK2 g2
  refine lv_istore_n (lv' := [(1, .int r1), (0, .ref o)]) hx hb dX12_job_4 rfl hl (by decide) rfl (fun ls hl9 => ?_)
  replace hl := hl9
  clear hl9
  refine lv_aload_n (x := o) hx hb dX12_job_5 rfl (lv_at hl 1 rfl) ?_
  refine lv_aload_n (x := o) hx hb dX12_job_6 rfl (lv_at hl 1 rfl) ?_
  refine lv_bipush (v := 58) hx hb dX12_job_7 (by decide) ?_
  refine z_callz (z_runV (rest := [.ref o]) [.int 58] pk_X12_takes (met_X12_takes o 58 _ h) X hB hB.2.2.2.2.2.2 q3049 kc_X12 (by decide) (z_fo hB ho (by decide)) rfl hl.1 (Nat.le_of_ble_eq_true rfl) dX12_job_9 (z_k4 hK1) (z_k4 hK2) (by decide) (by decide)) hB (fun _ h => h) (fun r7 T8 I9 Q10 H locs hz h9 hF hB => ?_)
  replace h := h9
  clear h9
  replace h := h hz hF
  obtain ⟨kc12, ks13, g1, g2, h⟩ := h
  refine z_callXv (z_runV (rest := []) [.int r7] pk_X12_need (met_X12_need o r7 kc12 ks13 _ _ h) X hB hB.2.2.2.2.2.2 q3070 kc_X12 (by decide) (z_fo hB ho (by decide)) rfl hl.1 (Nat.le_of_ble_eq_true rfl) dX12_job_12 (z_k1 hK1 g1) (z_k1 hK2 g2) (by decide) (by decide)) hB (fun _ h => h) (z_on (by decide +kernel) X (z_k1 hK1 g1) (z_k1 hK2 g2)) (fun T14 I15 Q16 H locs h9 hF hB => ?_)
  replace h := h9
  clear h9
  replace h := h hF
  replace hK1 := z_k2 hK1 g1
  replace hK2 := z_k2 hK2 g2
  refine lv_aload_n (x := o) hx hb dX12_job_15 rfl (lv_at hl 1 rfl) ?_
  obtain ⟨kc18, ks19, g1, g2, h⟩ := h
  refine z_callXi (z_runV (rest := []) [] pk_X12_path (met_X12_path o kc18 ks19 _ _ h) X hB hB.2.2.2.2.2.2 q3098 kc_X12 (by decide) (z_fo hB ho (by decide)) rfl hl.1 (Nat.le_of_ble_eq_true rfl) dX12_job_16 (z_k1 hK1 g1) (z_k1 hK2 g2) (by decide) (by decide)) hB (fun _ h => h) (z_on (by decide +kernel) X (z_k1 hK1 g1) (z_k1 hK2 g2)) (fun r17 T20 I21 Q22 H locs h9 hF hB => ?_)
  replace h := h9
  clear h9
  replace h := h hF
  replace hK1 := z_k2 hK1 g1
  replace hK2 := z_k2 hK2 g2
  refine lv_istore_n (lv' := [(2, .int r17), (1, .int r1), (0, .ref o)]) hx hb dX12_job_19 rfl hl (by decide) rfl (fun ls hl9 => ?_)
  replace hl := hl9
  clear hl9
  refine lv_aload_n (x := o) hx hb dX12_job_20 rfl (lv_at hl 2 rfl) ?_
  refine lv_aload_n (x := o) hx hb dX12_job_21 rfl (lv_at hl 2 rfl) ?_
  refine lv_bipush (v := 47) hx hb dX12_job_22 (by decide) ?_
  refine z_callz (z_runV (rest := [.ref o]) [.int 47] pk_X12_takes (met_X12_takes o 47 _ h) X hB hB.2.2.2.2.2.2 q3049 kc_X12 (by decide) (z_fo hB ho (by decide)) rfl hl.1 (Nat.le_of_ble_eq_true rfl) dX12_job_24 (z_k4 hK1) (z_k4 hK2) (by decide) (by decide)) hB (fun _ h => h) (fun r23 T24 I25 Q26 H locs hz h9 hF hB => ?_)
  replace h := h9
  clear h9
  replace h := h hz hF
  obtain ⟨kc28, ks29, g1, g2, h⟩ := h
  refine z_callXv (z_runV (rest := []) [.int r23] pk_X12_need (met_X12_need o r23 kc28 ks29 _ _ h) X hB hB.2.2.2.2.2.2 q3070 kc_X12 (by decide) (z_fo hB ho (by decide)) rfl hl.1 (Nat.le_of_ble_eq_true rfl) dX12_job_27 (z_k1 hK1 g1) (z_k1 hK2 g2) (by decide) (by decide)) hB (fun _ h => h) (z_on (by decide +kernel) X (z_k1 hK1 g1) (z_k1 hK2 g2)) (fun T30 I31 Q32 H locs h9 hF hB => ?_)
  replace h := h9
  clear h9
  replace h := h hF
  replace hK1 := z_k2 hK1 g1
  replace hK2 := z_k2 hK2 g2
  refine lv_aload_n (x := o) hx hb dX12_job_30 rfl (lv_at hl 2 rfl) ?_
  obtain ⟨kc34, ks35, g1, g2, h⟩ := h
  refine z_callXi (z_runV (rest := []) [] pk_X12_digit (met_X12_digit o kc34 ks35 _ _ h) X hB hB.2.2.2.2.2.2 q3061 kc_X12 (by decide) (z_fo hB ho (by decide)) rfl hl.1 (Nat.le_of_ble_eq_true rfl) dX12_job_31 (z_k1 hK1 g1) (z_k1 hK2 g2) (by decide) (by decide)) hB (fun _ h => h) (z_on (by decide +kernel) X (z_k1 hK1 g1) (z_k1 hK2 g2)) (fun r33 T36 I37 Q38 H locs h9 hF hB => ?_)
  replace h := h9
  clear h9
  replace h := h hF
  replace hK1 := z_k2 hK1 g1
  replace hK2 := z_k2 hK2 g2
  refine lv_istore_n (lv' := [(3, .int r33), (2, .int r17), (1, .int r1), (0, .ref o)]) hx hb dX12_job_34 rfl hl (by decide) rfl (fun ls hl9 => ?_)
  replace hl := hl9
  clear hl9
  refine lv_aload_n (x := o) hx hb dX12_job_35 rfl (lv_at hl 3 rfl) ?_
  refine lv_aload_n (x := o) hx hb dX12_job_36 rfl (lv_at hl 3 rfl) ?_
  refine lv_bipush (v := 119) hx hb dX12_job_37 (by decide) ?_
  refine z_callz (z_runV (rest := [.ref o]) [.int 119] pk_X12_takes (met_X12_takes o 119 _ h) X hB hB.2.2.2.2.2.2 q3049 kc_X12 (by decide) (z_fo hB ho (by decide)) rfl hl.1 (Nat.le_of_ble_eq_true rfl) dX12_job_39 (z_k4 hK1) (z_k4 hK2) (by decide) (by decide)) hB (fun _ h => h) (fun r39 T40 I41 Q42 H locs hz h9 hF hB => ?_)
  replace h := h9
  clear h9
  replace h := h hz hF
  obtain ⟨kc44, ks45, g1, g2, h⟩ := h
  refine z_callXv (z_runV (rest := []) [.int r39] pk_X12_need (met_X12_need o r39 kc44 ks45 _ _ h) X hB hB.2.2.2.2.2.2 q3070 kc_X12 (by decide) (z_fo hB ho (by decide)) rfl hl.1 (Nat.le_of_ble_eq_true rfl) dX12_job_42 (z_k1 hK1 g1) (z_k1 hK2 g2) (by decide) (by decide)) hB (fun _ h => h) (z_on (by decide +kernel) X (z_k1 hK1 g1) (z_k1 hK2 g2)) (fun T46 I47 Q48 H locs h9 hF hB => ?_)
  replace h := h9
  clear h9
  replace h := h hF
  replace hK1 := z_k2 hK1 g1
  replace hK2 := z_k2 hK2 g2
  refine lv_aload_n (x := o) hx hb dX12_job_45 rfl (lv_at hl 3 rfl) ?_
  obtain ⟨kc50, ks51, g1, g2, h⟩ := h
  refine z_callXi (z_runV (rest := []) [] pk_X12_digit (met_X12_digit o kc50 ks51 _ _ h) X hB hB.2.2.2.2.2.2 q3061 kc_X12 (by decide) (z_fo hB ho (by decide)) rfl hl.1 (Nat.le_of_ble_eq_true rfl) dX12_job_46 (z_k1 hK1 g1) (z_k1 hK2 g2) (by decide) (by decide)) hB (fun _ h => h) (z_on (by decide +kernel) X (z_k1 hK1 g1) (z_k1 hK2 g2)) (fun r49 T52 I53 Q54 H locs h9 hF hB => ?_)
  replace h := h9
  clear h9
  replace h := h hF
  replace hK1 := z_k2 hK1 g1
  replace hK2 := z_k2 hK2 g2
  refine lv_istore (lv' := [(4, .int r49), (3, .int r33), (2, .int r17), (1, .int r1), (0, .ref o)]) hx hb dX12_job_49 hl (by decide) rfl (fun ls hl9 => ?_)
  replace hl := hl9
  clear hl9
  refine lv_aload_n (x := o) hx hb dX12_job_51 rfl (lv_at hl 4 rfl) ?_
  refine lv_bipush (v := 60) hx hb dX12_job_52 (by decide) ?_
  obtain ⟨kc56, ks57, g1, g2, h⟩ := h
  refine z_callXi (z_runV (rest := []) [.int 60] pk_X12_buffer (met_X12_buffer o 60 kc56 ks57 _ _ h) X hB hB.2.2.2.2.2.2 q3103 kc_X12 (by decide) (z_fo hB ho (by decide)) rfl hl.1 (Nat.le_of_ble_eq_true rfl) dX12_job_54 (z_k1 hK1 g1) (z_k1 hK2 g2) (by decide) (by decide)) hB (fun _ h => h) (z_on (by decide +kernel) X (z_k1 hK1 g1) (z_k1 hK2 g2)) (fun r55 T58 I59 Q60 H locs h9 hF hB => ?_)
  replace h := h9
  clear h9
  replace h := h hF
  replace hK1 := z_k2 hK1 g1
  replace hK2 := z_k2 hK2 g2
  refine lv_istore (lv' := [(5, .int r55), (4, .int r49), (3, .int r33), (2, .int r17), (1, .int r1), (0, .ref o)]) hx hb dX12_job_57 hl (by decide) rfl (fun ls hl9 => ?_)
  replace hl := hl9
  clear hl9
  obtain ⟨co61, hco61, h⟩ := h
  obtain ⟨g1, g2, h⟩ := h
  refine z_new (col := co61) tyX8 X hB kc_X8 in_X8 tyX8_ok q3107 q2635 q152 (by decide) (z_dvX8) hco61 (z_k1 hK1 g1) (z_k1 hK2 g2) dX12_job_59 (fun a62 H hq hB => ?_)
  obtain ⟨T63, eT63⟩ : ∃ z, z = z_t T58 a62 (7, 0, co61) := ⟨_, rfl⟩
  obtain ⟨I64, eI64⟩ : ∃ z, z = z_row I59 a62 (fun _ => 0) := ⟨_, rfl⟩
  obtain ⟨Q65, eQ65⟩ : ∃ z, z = z_row Q60 a62 (fun _ => none) := ⟨_, rfl⟩
  rw [← eT63, ← eI64, ← eQ65] at hB
  replace h := h a62 T63 I64 Q65 hq eT63 eI64 eQ65
  have hk_a62 := z_tq eT63
  have hc_a62 : 3 ≤ (T63 a62).2.2 := by rw [z_tqc eT63]; exact hco61
  replace hK1 := z_k2 hK1 g1
  replace hK2 := z_k2 hK2 g2
  refine lv_dup hx hb dX12_job_62 rfl ?_
  refine lv_iload_n hx hb dX12_job_63 rfl (lv_at hl 4 rfl) ?_
  refine lv_iload_n hx hb dX12_job_64 rfl (lv_at hl 3 rfl) ?_
  refine lv_iload_n hx hb dX12_job_65 rfl (lv_at hl 2 rfl) ?_
  refine lv_iload hx hb dX12_job_66 (lv_at hl 1 rfl) ?_
  refine lv_iload hx hb dX12_job_68 (lv_at hl 0 rfl) ?_
  refine lv_aload_n (x := o) hx hb dX12_job_70 rfl (lv_at hl 5 rfl) ?_
  refine lv_bipush (v := 62) hx hb dX12_job_71 (by decide) ?_
  obtain ⟨kc67, ks68, g1, g2, h⟩ := h
  refine z_callXi (z_runV (rest := [.int r55, .int r49, .int r33, .int r17, .int r1, .ref a62, .ref a62]) [.int 62] pk_X12_buffer (met_X12_buffer o 62 kc67 ks68 _ _ h) X hB hB.2.2.2.2.2.2 q3103 kc_X12 (by decide) (z_fo hB ho (by decide)) rfl hl.1 (Nat.le_of_ble_eq_true rfl) dX12_job_73 (z_k1 hK1 g1) (z_k1 hK2 g2) (by decide) (by decide)) hB (fun _ h => h) (z_on (by decide +kernel) X (z_k1 hK1 g1) (z_k1 hK2 g2)) (fun r66 T69 I70 Q71 H locs h9 hF hB => ?_)
  replace h := h9
  clear h9
  replace h := h hF
  have hc_a62 : 3 ≤ (T69 a62).2.2 := by rw [z_te hF hk_a62 (by decide)]; exact hc_a62
  have hk_a62 := z_tk hF hk_a62 (by decide)
  replace hK1 := z_k2 hK1 g1
  replace hK2 := z_k2 hK2 g2
  obtain ⟨co73, hco73, h⟩ := h
  obtain ⟨kc74, ks75, g1, g2, h⟩ := h
  refine z_callv (z_runI (rest := [.ref a62]) [.int r1, .int r17, .int r33, .int r49, .int r55, .int r66] pk_X8_init (met_X8_init co73 a62 r1 r17 r33 r49 r55 r66 kc74 ks75 _ h) X hB (z_coR0 hco73) q3108 rfl hl.1 (Nat.le_of_ble_eq_true rfl) dX12_job_76 (z_k1 hK1 g1) (z_k1 hK2 g2) (by decide) (by decide)) hB (z_coR hco73) (fun T76 I77 Q78 H locs h9 hF hB => ?_)
  replace h := h9
  clear h9
  replace h := h hF
  have hc_a62 : 3 ≤ (T76 a62).2.2 := by rw [z_te hF hk_a62 (by decide)]; exact hc_a62
  have hk_a62 := z_tk hF hk_a62 (by decide)
  replace hK1 := z_k2 hK1 g1
  replace hK2 := z_k2 hK2 g2
  refine lv_astore (x := a62) (lv' := [(6, .ref a62), (5, .int r55), (4, .int r49), (3, .int r33), (2, .int r17), (1, .int r1), (0, .ref o)]) hx hb dX12_job_79 hl (by decide) rfl (fun ls hl9 => ?_)
  replace hl := hl9
  clear hl9
  obtain ⟨co79, hco79, h⟩ := h
  obtain ⟨g1, g2, h⟩ := h
  refine z_new (col := co79) tyX15 X hB kc_X15 in_X15 tyX15_ok q3109 q3110 q161 (by decide) (z_dvX15) hco79 (z_k1 hK1 g1) (z_k1 hK2 g2) dX12_job_81 (fun a80 H hq hB => ?_)
  obtain ⟨T81, eT81⟩ : ∃ z, z = z_t T76 a80 (13, 0, co79) := ⟨_, rfl⟩
  obtain ⟨I82, eI82⟩ : ∃ z, z = z_row I77 a80 (fun _ => 0) := ⟨_, rfl⟩
  obtain ⟨Q83, eQ83⟩ : ∃ z, z = z_row Q78 a80 (fun _ => none) := ⟨_, rfl⟩
  rw [← eT81, ← eI82, ← eQ83] at hB
  replace h := h a80 T81 I82 Q83 hq eT81 eI82 eQ83
  have hc_a62 : 3 ≤ (T81 a62).2.2 := by rw [z_tne eT81 hq hk_a62 (by decide)]; exact hc_a62
  have hk_a62 := z_tn eT81 hq hk_a62 (by decide)
  have hk_a80 := z_tq eT81
  have hc_a80 : 3 ≤ (T81 a80).2.2 := by rw [z_tqc eT81]; exact hco79
  replace hK1 := z_k2 hK1 g1
  replace hK2 := z_k2 hK2 g2
  refine lv_dup hx hb dX12_job_84 rfl ?_
  refine lv_aload_n (x := o) hx hb dX12_job_85 rfl (lv_at hl 6 rfl) ?_
  refine lv_aload (x := a62) hx hb dX12_job_86 (lv_at hl 0 rfl) ?_
  refine z_callv (z_runI (rest := [.ref a80]) [.ref o, .ref a62] pk_X15_init (met_X15_init a80 o (some a62) _ h) X hB hB.2.2.2.2.2.2 q3111 rfl hl.1 (Nat.le_of_ble_eq_true rfl) dX12_job_88 (z_k4 hK1) (z_k4 hK2) (by decide) (by decide)) hB (fun _ h => h) (fun T85 I86 Q87 H locs h9 hF hB => ?_)
  replace h := h9
  clear h9
  replace h := h hF
  have hc_a62 : 3 ≤ (T85 a62).2.2 := by rw [z_te hF hk_a62 (by decide)]; exact hc_a62
  have hc_a80 : 3 ≤ (T85 a80).2.2 := by rw [z_te hF hk_a80 (by decide)]; exact hc_a80
  have hk_a62 := z_tk hF hk_a62 (by decide)
  have hk_a80 := z_tk hF hk_a80 (by decide)
  exact z_aret (v := (some a80)) X (by first | exact Or.inl ⟨_, rfl⟩ | exact Or.inr ⟨_, rfl⟩) hB ⟨_, rfl, h⟩ (z_k3 hK1) (z_k3 hK2) dX12_job_91
theorem pk_X12_job : z_PV RX12 yX12_job cX12_job 7 (some (.object "RobotCell$Command")) 0 := ⟨q3059, qs39, q158, q3060, by decide +kernel⟩
theorem met_X12_job {l : Launch} {G : z_E} {T : z_T} {I : z_I} {Q : z_Q} (o : Nat) (kc : Nat) (ks : Nat) (Qk : Option Nat → z_T → z_I → z_Q → Prop) (Xk : String → Nat → z_T → z_I → z_Q → Prop) (h : wp_X12_job T I Q o kc ks Qk Xk) : z_GM l G yX12_job (ws_ yX12_job cX12_job 7 (some (.object "RobotCell$Command"))) 14 255 kc ks [.ref o] z_PR T I Q (z_qr Qk) Xk := by
  obtain ⟨ho, h⟩ := h
  refine z_body (own := RX12) (nm := "job") (by decide +kernel) rfl rfl (Nat.le_of_ble_eq_true rfl) (fun p e R s m below meth c A ls X hB hl => ?_)
  exact ww_X12_job_0 X ho hB z_k0 z_k0 hl h
/-! X12_command -/
theorem ww_X12_command_0 {o : Nat} {Qk : Option Nat → z_T → z_I → z_Q → Prop} {Xk : String → Nat → z_T → z_I → z_Q → Prop} (X : z_X l G A p R s m args meth c cX12_command 1 RX12 "command" (some (.object "RobotCell$Command")) mc ms 15 281) (ho : (T0 o).1 = 12) {cells slots : Nat} {T : z_T} {I : z_I} {Q : z_Q} {kc : Nat} {ks : Nat} {H : Heap} {locs : List Loc} {ls : Array Slot} (hB : z_HB G z_PR A s.heap T0 I0 Q0 T I Q H locs) (hK1 : cells + kc ≤ mc) (hK2 : slots + ks ≤ ms) (hl : lv_has ls 1 [(0, .ref o)]) (h : wb_X12_command_0 o Qk Xk T I Q kc ks) : W p l e R s m args below meth c H locs cells slots (z_MQ below G z_PR A T0 I0 Q0 (z_qr Qk) Xk args s mc ms) (F0 m 0 ls []) := by
  obtain ⟨hx, hb, -⟩ := id X
  unfold wb_X12_command_0 at h
  refine lv_aload_n (x := o) hx hb dX12_command_0 rfl (lv_at hl 0 rfl) ?_
  refine lv_bipush (v := 106) hx hb dX12_command_1 (by decide) ?_
  refine z_callz (z_runV (rest := []) [.int 106] pk_X12_takes (met_X12_takes o 106 _ h) X hB hB.2.2.2.2.2.2 q3049 kc_X12 (by decide) (z_fo hB ho (by decide)) rfl hl.1 (Nat.le_of_ble_eq_true rfl) dX12_command_3 (z_k4 hK1) (z_k4 hK2) (by decide) (by decide)) hB (fun _ h => h) (fun r1 T2 I3 Q4 H locs hz h9 hF hB => ?_)
  replace h := h9
  clear h9
  replace h := h hz hF
  refine lv_if_eq (tgt := 14) hx hb dX12_command_6 (by decide) (fun c5 => ?_) (fun c5 => ?_)
  · replace h := h.1 c5
    refine lv_aload_n (x := o) hx hb dX12_command_14 rfl (lv_at hl 0 rfl) ?_
    refine lv_bipush (v := 116) hx hb dX12_command_15 (by decide) ?_
    refine z_callz (z_runV (rest := []) [.int 116] pk_X12_takes (met_X12_takes o 116 _ h) X hB hB.2.2.2.2.2.2 q3049 kc_X12 (by decide) (z_fo hB ho (by decide)) rfl hl.1 (Nat.le_of_ble_eq_true rfl) dX12_command_17 (z_k4 hK1) (z_k4 hK2) (by decide) (by decide)) hB (fun _ h => h) (fun r6 T7 I8 Q9 H locs hz h9 hF hB => ?_)
    replace h := h9
    clear h9
    replace h := h hz hF
    refine lv_if_eq (tgt := 28) hx hb dX12_command_20 (by decide) (fun c10 => ?_) (fun c10 => ?_)
    · replace h := h.1 c10
      refine lv_aload_n (x := o) hx hb dX12_command_28 rfl (lv_at hl 0 rfl) ?_
      refine lv_aload_n (x := o) hx hb dX12_command_29 rfl (lv_at hl 0 rfl) ?_
      refine lv_bipush (v := 105) hx hb dX12_command_30 (by decide) ?_
      refine z_callz (z_runV (rest := [.ref o]) [.int 105] pk_X12_takes (met_X12_takes o 105 _ h) X hB hB.2.2.2.2.2.2 q3049 kc_X12 (by decide) (z_fo hB ho (by decide)) rfl hl.1 (Nat.le_of_ble_eq_true rfl) dX12_command_32 (z_k4 hK1) (z_k4 hK2) (by decide) (by decide)) hB (fun _ h => h) (fun r11 T12 I13 Q14 H locs hz h9 hF hB => ?_)
      replace h := h9
      clear h9
      replace h := h hz hF
      obtain ⟨kc16, ks17, g1, g2, h⟩ := h
      refine z_callXv (z_runV (rest := []) [.int r11] pk_X12_need (met_X12_need o r11 kc16 ks17 _ _ h) X hB hB.2.2.2.2.2.2 q3070 kc_X12 (by decide) (z_fo hB ho (by decide)) rfl hl.1 (Nat.le_of_ble_eq_true rfl) dX12_command_35 (z_k1 hK1 g1) (z_k1 hK2 g2) (by decide) (by decide)) hB (fun _ h => h) (z_on (by decide +kernel) X (z_k1 hK1 g1) (z_k1 hK2 g2)) (fun T18 I19 Q20 H locs h9 hF hB => ?_)
      replace h := h9
      clear h9
      replace h := h hF
      replace hK1 := z_k2 hK1 g1
      replace hK2 := z_k2 hK2 g2
      refine lv_aload_n (x := o) hx hb dX12_command_38 rfl (lv_at hl 0 rfl) ?_
      obtain ⟨kc22, ks23, g1, g2, h⟩ := h
      refine z_callXr (z_runV (rest := []) [] pk_X12_interlock (met_X12_interlock o kc22 ks23 _ _ h) X hB hB.2.2.2.2.2.2 q3142 kc_X12 (by decide) (z_fo hB ho (by decide)) rfl hl.1 (Nat.le_of_ble_eq_true rfl) dX12_command_39 (z_k1 hK1 g1) (z_k1 hK2 g2) (by decide) (by decide)) hB (fun _ h => h) (z_on (by decide +kernel) X (z_k1 hK1 g1) (z_k1 hK2 g2)) (fun r21 T24 I25 Q26 H locs h9 hF hB => ?_)
      replace h := h9
      clear h9
      replace h := h hF
      replace hK1 := z_k2 hK1 g1
      replace hK2 := z_k2 hK2 g2
      exact z_aret (v := r21) X (by first | exact Or.inl ⟨_, rfl⟩ | exact Or.inr ⟨_, rfl⟩) hB ⟨_, rfl, h⟩ (z_k3 hK1) (z_k3 hK2) dX12_command_42
    · replace h := h.2 c10
      refine lv_aload_n (x := o) hx hb dX12_command_23 rfl (lv_at hl 0 rfl) ?_
      obtain ⟨kc28, ks29, g1, g2, h⟩ := h
      refine z_callXr (z_runV (rest := []) [] pk_X12_ticks (met_X12_ticks o kc28 ks29 _ _ h) X hB hB.2.2.2.2.2.2 q3125 kc_X12 (by decide) (z_fo hB ho (by decide)) rfl hl.1 (Nat.le_of_ble_eq_true rfl) dX12_command_24 (z_k1 hK1 g1) (z_k1 hK2 g2) (by decide) (by decide)) hB (fun _ h => h) (z_on (by decide +kernel) X (z_k1 hK1 g1) (z_k1 hK2 g2)) (fun r27 T30 I31 Q32 H locs h9 hF hB => ?_)
      replace h := h9
      clear h9
      replace h := h hF
      replace hK1 := z_k2 hK1 g1
      replace hK2 := z_k2 hK2 g2
      exact z_aret (v := r27) X (by first | exact Or.inl ⟨_, rfl⟩ | exact Or.inr ⟨_, rfl⟩) hB ⟨_, rfl, h⟩ (z_k3 hK1) (z_k3 hK2) dX12_command_27
  · replace h := h.2 c5
    refine lv_aload_n (x := o) hx hb dX12_command_9 rfl (lv_at hl 0 rfl) ?_
    obtain ⟨kc34, ks35, g1, g2, h⟩ := h
    refine z_callXr (z_runV (rest := []) [] pk_X12_job (met_X12_job o kc34 ks35 _ _ h) X hB hB.2.2.2.2.2.2 q3057 kc_X12 (by decide) (z_fo hB ho (by decide)) rfl hl.1 (Nat.le_of_ble_eq_true rfl) dX12_command_10 (z_k1 hK1 g1) (z_k1 hK2 g2) (by decide) (by decide)) hB (fun _ h => h) (z_on (by decide +kernel) X (z_k1 hK1 g1) (z_k1 hK2 g2)) (fun r33 T36 I37 Q38 H locs h9 hF hB => ?_)
    replace h := h9
    clear h9
    replace h := h hF
    replace hK1 := z_k2 hK1 g1
    replace hK2 := z_k2 hK2 g2
    exact z_aret (v := r33) X (by first | exact Or.inl ⟨_, rfl⟩ | exact Or.inr ⟨_, rfl⟩) hB ⟨_, rfl, h⟩ (z_k3 hK1) (z_k3 hK2) dX12_command_13
theorem pk_X12_command : z_PV RX12 yX12_command cX12_command 1 (some (.object "RobotCell$Command")) 0 := ⟨q3047, qs36, q158, q3048, by decide +kernel⟩
theorem met_X12_command {l : Launch} {G : z_E} {T : z_T} {I : z_I} {Q : z_Q} (o : Nat) (kc : Nat) (ks : Nat) (Qk : Option Nat → z_T → z_I → z_Q → Prop) (Xk : String → Nat → z_T → z_I → z_Q → Prop) (h : wp_X12_command T I Q o kc ks Qk Xk) : z_GM l G yX12_command (ws_ yX12_command cX12_command 1 (some (.object "RobotCell$Command"))) 15 281 kc ks [.ref o] z_PR T I Q (z_qr Qk) Xk := by
  obtain ⟨ho, h⟩ := h
  refine z_body (own := RX12) (nm := "command") (by decide +kernel) rfl rfl (Nat.le_of_ble_eq_true rfl) (fun p e R s m below meth c A ls X hB hl => ?_)
  exact ww_X12_command_0 X ho hB z_k0 z_k0 hl h
/-! J29_init -/
theorem ww_J29_init_0 {co : Nat} {o : Nat} {Qk : z_T → z_I → z_Q → Prop} (X : z_X l G A p R s m args meth c cJ29_init 1 RJ29 "<init>" none 0 0 9 140) (ho : (T0 o).1 = 19) (hoc : (T0 o).2.2 = co) {T : z_T} {I : z_I} {Q : z_Q} {H : Heap} {locs : List Loc} {ls : Array Slot} (hB : z_HB G (z_co co) A s.heap T0 I0 Q0 T I Q H locs) (hl : lv_has ls 1 [(0, .ref o)]) (h : wb_J29_init_0 co o Qk T I Q) : W p l e R s m args below meth c H locs 0 0 (z_MQ below G (z_co co) A T0 I0 Q0 (z_qv Qk) z_no args s 0 0) (F0 m 0 ls []) := by
  obtain ⟨hx, hb, -⟩ := id X
  unfold wb_J29_init_0 at h
  refine lv_aload_n (x := o) hx hb dJ29_init_0 rfl (lv_at hl 0 rfl) ?_
  refine z_callvp (z_runI (rest := []) [] pk_J0_init (met_J0_init o _ h) X hB (fun h => h) q1100 rfl hl.1 (Nat.le_of_ble_eq_true rfl) dJ29_init_1 (Nat.le_refl 0) (Nat.le_refl 0) (by decide) (by decide)) hB (fun H locs h9 hB => ?_)
  replace h := h9
  clear h9
  refine lv_aload_n (x := o) hx hb dJ29_init_4 rfl (lv_at hl 0 rfl) ?_
  refine lv_iconst (v := 0) hx hb dJ29_init_5 (by decide) ?_
  obtain ⟨I2, eI2⟩ : ∃ z, z = z_up I o 0 0 := ⟨_, rfl⟩
  replace h := h I2 eI2
  refine z_puti (x := 0) eI2 tyJ30 X hB kc_J30 in_J30 tyJ30_ok nmJ30 (j := 0) (Nat.le_of_ble_eq_true rfl) q1107 (fun _ h => h) rfl rfl (by decide) (z_fo hB ho (by decide)) (z_foc hB ho (by decide) hoc) rfl (Or.inl rfl) dJ29_init_6 (fun H locs hB => ?_)
  exact z_vret X hB ⟨rfl, h⟩ (Nat.le_refl 0) (Nat.le_refl 0) dJ29_init_9
theorem pk_J29_init : z_PI yJ29_init cJ29_init 1 0 := ⟨q1098, q126, q1099, rfl, by decide +kernel⟩
theorem met_J29_init {l : Launch} {G : z_E} {T : z_T} {I : z_I} {Q : z_Q} (co : Nat) (o : Nat) (Qk : z_T → z_I → z_Q → Prop) (h : wp_J29_init co T I Q o Qk) : z_GM l G yJ29_init (ws_ yJ29_init cJ29_init 1 none) 9 140 0 0 [.ref o] (z_co co) T I Q (z_qv Qk) z_no := by
  obtain ⟨ho, hoc, h⟩ := h
  refine z_body (own := RJ29) (nm := "<init>") (by decide +kernel) rfl rfl (Nat.le_of_ble_eq_true rfl) (fun p e R s m below meth c A ls X hB hl => ?_)
  exact ww_J29_init_0 X ho hoc hB hl h
/-! J30_init -/
theorem ww_J30_init_0 {co : Nat} {o : Nat} {Qk : z_T → z_I → z_Q → Prop} (X : z_X l G A p R s m args meth c cJ30_init 1 RJ30 "<init>" none 0 0 10 160) (ho : (T0 o).1 = 19) (hoc : (T0 o).2.2 = co) {T : z_T} {I : z_I} {Q : z_Q} {H : Heap} {locs : List Loc} {ls : Array Slot} (hB : z_HB G (z_co co) A s.heap T0 I0 Q0 T I Q H locs) (hl : lv_has ls 1 [(0, .ref o)]) (h : wb_J30_init_0 G.2.2 co o Qk T I Q) : W p l e R s m args below meth c H locs 0 0 (z_MQ below G (z_co co) A T0 I0 Q0 (z_qv Qk) z_no args s 0 0) (F0 m 0 ls []) := by
  obtain ⟨hx, hb, -⟩ := id X
  unfold wb_J30_init_0 at h
  refine lv_aload_n (x := o) hx hb dJ30_init_0 rfl (lv_at hl 0 rfl) ?_
  refine z_callv (z_runI (rest := []) [] pk_J29_init (met_J29_init co o _ h) X hB hB.2.2.2.2.2.2 q1097 rfl hl.1 (Nat.le_of_ble_eq_true rfl) dJ30_init_1 (Nat.le_refl 0) (Nat.le_refl 0) (by decide) (by decide)) hB (fun _ h => h) (fun T2 I3 Q4 H locs h9 hF hB => ?_)
  replace h := h9
  clear h9
  replace h := h hF
  refine lv_aload_n (x := o) hx hb dJ30_init_4 rfl (lv_at hl 0 rfl) ?_
  refine z_gete0 X hB q1101 dJ30_init_5 ?_
  obtain ⟨Q5, eQ5⟩ : ∃ z, z = z_up Q4 o 1 (some G.2.2.1.1) := ⟨_, rfl⟩
  replace h := h Q5 eQ5
  refine z_putq (x := (some G.2.2.1.1)) eQ5 tyJ30 X hB kc_J30 in_J30 tyJ30_ok nmJ30 (j := 1) (Nat.le_of_ble_eq_true rfl) q1103 (fun _ h => h) rfl rfl (by decide) (z_fo hB ho (by decide)) (z_foc hB ho (by decide) hoc) rfl (Or.inr ⟨_, rfl⟩) dJ30_init_8 (fun H locs hB => ?_)
  exact z_vret X hB ⟨rfl, h⟩ (Nat.le_refl 0) (Nat.le_refl 0) dJ30_init_11
theorem pk_J30_init : z_PI yJ30_init cJ30_init 1 0 := ⟨q1095, q127, q1096, rfl, by decide +kernel⟩
theorem met_J30_init {l : Launch} {G : z_E} {T : z_T} {I : z_I} {Q : z_Q} (co : Nat) (o : Nat) (Qk : z_T → z_I → z_Q → Prop) (h : wp_J30_init G.2.2 co T I Q o Qk) : z_GM l G yJ30_init (ws_ yJ30_init cJ30_init 1 none) 10 160 0 0 [.ref o] (z_co co) T I Q (z_qv Qk) z_no := by
  obtain ⟨ho, hoc, h⟩ := h
  refine z_body (own := RJ30) (nm := "<init>") (by decide +kernel) rfl rfl (Nat.le_of_ble_eq_true rfl) (fun p e R s m below meth c A ls X hB hl => ?_)
  exact ww_J30_init_0 X ho hoc hB hl h
/-! X12_all -/
theorem ww_X12_all_58 {o : Nat} {Qk : Option Nat → z_T → z_I → z_Q → Prop} {Xk : String → Nat → z_T → z_I → z_Q → Prop} (X : z_X l G A p R s m args meth c cX12_all 3 RX12 "all" (some (.object "java/util/ArrayList")) mc ms 16 301) (ho : (T0 o).1 = 12) {cells slots : Nat} {T : z_T} {I : z_I} {Q : z_Q} {kc : Nat} {ks : Nat} {x1 : Option Nat} {s1 : Int32} {H : Heap} {locs : List Loc} {ls : Array Slot} (hB : z_HB G z_PR A s.heap T0 I0 Q0 T I Q H locs) (hK1 : cells + kc ≤ mc) (hK2 : slots + ks ≤ ms) (hl : lv_has ls 3 [(1, va_rf x1)]) (h : wb_X12_all_58 G.2.2 o Qk Xk T I Q kc ks x1 s1) : W p l e R s m args below meth c H locs cells slots (z_MQ below G z_PR A T0 I0 Q0 (z_qr Qk) Xk args s mc ms) (F0 m 58 ls [.int s1, .ref o]) := by
  obtain ⟨hx, hb, -⟩ := id X
  unfold wb_X12_all_58 at h
  obtain ⟨kc46, ks47, g1, g2, h⟩ := h
  refine z_callXv (z_runV (rest := []) [.int s1] pk_X12_need (met_X12_need o s1 kc46 ks47 _ _ h) X hB hB.2.2.2.2.2.2 q3070 kc_X12 (by decide) (z_fo hB ho (by decide)) rfl hl.1 (Nat.le_of_ble_eq_true rfl) dX12_all_58 (z_k1 hK1 g1) (z_k1 hK2 g2) (by decide) (by decide)) hB (fun _ h => h) (z_on (by decide +kernel) X (z_k1 hK1 g1) (z_k1 hK2 g2)) (fun T48 I49 Q50 H locs h9 hF hB => ?_)
  replace h := h9
  clear h9
  replace h := h hF
  replace hK1 := z_k2 hK1 g1
  replace hK2 := z_k2 hK2 g2
  refine z_aload_n (x := x1) hx hb dX12_all_61 rfl (lv_at hl 0 rfl) ?_
  exact z_aret (v := x1) X (by first | exact Or.inl ⟨_, rfl⟩ | exact Or.inr ⟨_, rfl⟩) hB ⟨_, rfl, h⟩ (z_k3 hK1) (z_k3 hK2) dX12_all_62
theorem wv_X12_all_17 {o : Nat} {Qk : Option Nat → z_T → z_I → z_Q → Prop} {Xk : String → Nat → z_T → z_I → z_Q → Prop} (X : z_X l G A p R s m args meth c cX12_all 3 RX12 "all" (some (.object "java/util/ArrayList")) mc ms 16 301) (ho : (T0 o).1 = 12) : ∀ (n : Nat) {cells slots : Nat} {T : z_T} {I : z_I} {Q : z_Q} {kc : Nat} {ks : Nat} {x1 : Option Nat} {H : Heap} {locs : List Loc} {ls : Array Slot}, z_HB G z_PR A s.heap T0 I0 Q0 T I Q H locs → cells + kc ≤ mc → slots + ks ≤ ms → lv_has ls 3 [(0, .ref o), (1, va_rf x1)] → wl_X12_all_17 G.2.2 o Qk Xk n T I Q kc ks x1 → W p l e R s m args below meth c H locs cells slots (z_MQ below G z_PR A T0 I0 Q0 (z_qr Qk) Xk args s mc ms) (F0 m 17 ls []) := by
  intro n
  induction n with
  | zero =>
    intro cells slots T I Q kc ks x1 H locs ls hB hK1 hK2 hl h
    exact h.elim
  | succ n ih =>
    intro cells slots T I Q kc ks x1 H locs ls hB hK1 hK2 hl h
    obtain ⟨hx, hb, -⟩ := id X
    unfold wl_X12_all_17 at h
    refine lv_aload_n (x := o) hx hb dX12_all_17 rfl (lv_at hl 0 rfl) ?_
    refine lv_bipush (v := 59) hx hb dX12_all_18 (by decide) ?_
    refine z_callz (z_runV (rest := []) [.int 59] pk_X12_takes (met_X12_takes o 59 _ h) X hB hB.2.2.2.2.2.2 q3049 kc_X12 (by decide) (z_fo hB ho (by decide)) rfl hl.1 (Nat.le_of_ble_eq_true rfl) dX12_all_20 (z_k4 hK1) (z_k4 hK2) (by decide) (by decide)) hB (fun _ h => h) (fun r24 T25 I26 Q27 H locs hz h9 hF hB => ?_)
    replace h := h9
    clear h9
    replace h := h hz hF
    refine lv_if_eq (tgt := 38) hx hb dX12_all_23 (by decide) (fun c28 => ?_) (fun c28 => ?_)
    · replace h := h.1 c28
      refine lv_aload_n (x := o) hx hb dX12_all_38 rfl (lv_at hl 0 rfl) ?_
      refine lv_aload_n (x := o) hx hb dX12_all_39 rfl (lv_at hl 0 rfl) ?_
      refine z_geti X hB.1 kc_X12 in_X12 (j := 0) (Nat.le_of_ble_eq_true rfl) q3032 (fun _ h => h) rfl (by decide) (z_fo hB ho (by decide)) dX12_all_40 ?_
      refine lv_aload_n (x := o) hx hb dX12_all_43 rfl (lv_at hl 0 rfl) ?_
      refine z_getq X hB.1 kc_X12 in_X12 (j := 1) (Nat.le_of_ble_eq_true rfl) q3033 (fun _ h => h) rfl (by decide) (z_fo hB ho (by decide)) dX12_all_44 ?_
      obtain ⟨a29, ea29, h⟩ := h
      refine z_stk (st' := [.ref a29, .int (I26 o 0), .ref o]) (by rw [ea29] <;> rfl) ?_
      obtain ⟨hk_a29, h⟩ := h
      refine z_getiN X hB.1 kc_X1 in_X1 (j := 4) (Nat.le_of_ble_eq_true rfl) q1301 (fun _ h => h) rfl (by decide) hk_a29 dX12_all_47 ?_
      refine lv_icmp_ne (tgt := 57) hx hb dX12_all_50 (by decide) (fun c30 => ?_) (fun c30 => ?_)
      · replace h := h.1 c30
        refine lv_iconst (v := 0) hx hb dX12_all_57 (by decide) ?_
        exact ww_X12_all_58 X ho  hB hK1 hK2 (lv_sub hl [1] rfl) h
      · replace h := h.2 c30
        refine lv_iconst (v := 1) hx hb dX12_all_53 (by decide) ?_
        refine lv_goto (tgt := 58) hx hb dX12_all_54 (by decide) ?_
        exact ww_X12_all_58 X ho  hB hK1 hK2 (lv_sub hl [1] rfl) h
    · replace h := h.2 c28
      refine z_aload_n (x := x1) hx hb dX12_all_26 rfl (lv_at hl 1 rfl) ?_
      refine lv_aload_n (x := o) hx hb dX12_all_27 rfl (lv_at hl 0 rfl) ?_
      obtain ⟨kc32, ks33, g1, g2, h⟩ := h
      refine z_callXr (z_runV (rest := [va_rf x1]) [] pk_X12_command (met_X12_command o kc32 ks33 _ _ h) X hB hB.2.2.2.2.2.2 q3045 kc_X12 (by decide) (z_fo hB ho (by decide)) rfl hl.1 (by simp [z_cat, z_cati, z_catl, z_catf, z_catd, z_catq]) dX12_all_28 (z_k1 hK1 g1) (z_k1 hK2 g2) (by decide) (by decide)) hB (fun _ h => h) (z_on (by decide +kernel) X (z_k1 hK1 g1) (z_k1 hK2 g2)) (fun r31 T34 I35 Q36 H locs h9 hF hB => ?_)
      replace h := h9
      clear h9
      replace h := h hF
      replace hK1 := z_k2 hK1 g1
      replace hK2 := z_k2 hK2 g2
      obtain ⟨a37, rfl, h⟩ := h
      obtain ⟨hk_a37, h⟩ := h
      obtain ⟨co39, hco39, h⟩ := h
      obtain ⟨kc40, ks41, g1, g2, h⟩ := h
      refine z_callz (z_runV (rest := []) [va_rf r31] pk_J30_add (met_J30_add co39 a37 r31 kc40 ks41 _ h) X hB (z_coR0 hco39) q3162 kc_J30 (by decide) hk_a37 rfl hl.1 (Nat.le_of_ble_eq_true rfl) dX12_all_31 (z_k1 hK1 g1) (z_k1 hK2 g2) (by decide) (by decide)) hB (z_coR hco39) (fun r38 T42 I43 Q44 H locs hz h9 hF hB => ?_)
      replace h := h9
      clear h9
      replace h := h hz hF
      have hk_a37 := z_tk hF hk_a37 (by decide)
      replace hK1 := z_k2 hK1 g1
      replace hK2 := z_k2 hK2 g2
      refine lv_istore_n (lv' := [(2, .int r38), (0, .ref o), (1, .ref a37)]) hx hb dX12_all_34 rfl hl (by decide) rfl (fun ls hl9 => ?_)
      replace hl := hl9
      clear hl9
      refine lv_goto (tgt := 17) hx hb dX12_all_35 (by decide) ?_
      exact ih hB hK1 hK2 (lv_sub hl [1, 2] rfl) h
theorem ww_X12_all_0 {o : Nat} {Qk : Option Nat → z_T → z_I → z_Q → Prop} {Xk : String → Nat → z_T → z_I → z_Q → Prop} (X : z_X l G A p R s m args meth c cX12_all 3 RX12 "all" (some (.object "java/util/ArrayList")) mc ms 16 301) (ho : (T0 o).1 = 12) {cells slots : Nat} {T : z_T} {I : z_I} {Q : z_Q} {kc : Nat} {ks : Nat} {H : Heap} {locs : List Loc} {ls : Array Slot} (hB : z_HB G z_PR A s.heap T0 I0 Q0 T I Q H locs) (hK1 : cells + kc ≤ mc) (hK2 : slots + ks ≤ ms) (hl : lv_has ls 3 [(0, .ref o)]) (h : wb_X12_all_0 G.2.2 o Qk Xk T I Q kc ks) : W p l e R s m args below meth c H locs cells slots (z_MQ below G z_PR A T0 I0 Q0 (z_qr Qk) Xk args s mc ms) (F0 m 0 ls []) := by
  obtain ⟨hx, hb, -⟩ := id X
  unfold wb_X12_all_0 at h
  obtain ⟨co1, hco1, h⟩ := h
  obtain ⟨g1, g2, h⟩ := h
  refine z_new (col := co1) tyJ30 X hB kc_J30 in_J30 tyJ30_ok q3043 q1093 q127 (by decide) (z_dvJ30) hco1 (z_k1 hK1 g1) (z_k1 hK2 g2) dX12_all_0 (fun a2 H hq hB => ?_)
  obtain ⟨T3, eT3⟩ : ∃ z, z = z_t T a2 (19, 0, co1) := ⟨_, rfl⟩
  obtain ⟨I4, eI4⟩ : ∃ z, z = z_row I a2 (fun _ => 0) := ⟨_, rfl⟩
  obtain ⟨Q5, eQ5⟩ : ∃ z, z = z_row Q a2 (fun _ => none) := ⟨_, rfl⟩
  rw [← eT3, ← eI4, ← eQ5] at hB
  replace h := h a2 T3 I4 Q5 hq eT3 eI4 eQ5
  have hk_a2 := z_tq eT3
  have hc_a2 : 3 ≤ (T3 a2).2.2 := by rw [z_tqc eT3]; exact hco1
  replace hK1 := z_k2 hK1 g1
  replace hK2 := z_k2 hK2 g2
  refine lv_dup hx hb dX12_all_3 rfl ?_
  obtain ⟨co7, hco7, h⟩ := h
  refine z_callv (z_runI (rest := [.ref a2]) [] pk_J30_init (met_J30_init co7 a2 _ h) X hB (z_coR0 hco7) q3044 rfl hl.1 (Nat.le_of_ble_eq_true rfl) dX12_all_4 (z_k4 hK1) (z_k4 hK2) (by decide) (by decide)) hB (z_coR hco7) (fun T8 I9 Q10 H locs h9 hF hB => ?_)
  replace h := h9
  clear h9
  replace h := h hF
  have hc_a2 : 3 ≤ (T8 a2).2.2 := by rw [z_te hF hk_a2 (by decide)]; exact hc_a2
  have hk_a2 := z_tk hF hk_a2 (by decide)
  refine lv_astore_n (x := a2) (lv' := [(1, .ref a2), (0, .ref o)]) hx hb dX12_all_7 rfl hl (by decide) rfl (fun ls hl9 => ?_)
  replace hl := hl9
  clear hl9
  refine lv_aload_n (x := a2) hx hb dX12_all_8 rfl (lv_at hl 0 rfl) ?_
  refine lv_aload_n (x := o) hx hb dX12_all_9 rfl (lv_at hl 1 rfl) ?_
  obtain ⟨kc12, ks13, g1, g2, h⟩ := h
  refine z_callXr (z_runV (rest := [.ref a2]) [] pk_X12_command (met_X12_command o kc12 ks13 _ _ h) X hB hB.2.2.2.2.2.2 q3045 kc_X12 (by decide) (z_fo hB ho (by decide)) rfl hl.1 (Nat.le_of_ble_eq_true rfl) dX12_all_10 (z_k1 hK1 g1) (z_k1 hK2 g2) (by decide) (by decide)) hB (fun _ h => h) (z_on (by decide +kernel) X (z_k1 hK1 g1) (z_k1 hK2 g2)) (fun r11 T14 I15 Q16 H locs h9 hF hB => ?_)
  replace h := h9
  clear h9
  replace h := h hF
  have hc_a2 : 3 ≤ (T14 a2).2.2 := by rw [z_te hF hk_a2 (by decide)]; exact hc_a2
  have hk_a2 := z_tk hF hk_a2 (by decide)
  replace hK1 := z_k2 hK1 g1
  replace hK2 := z_k2 hK2 g2
  obtain ⟨co18, hco18, h⟩ := h
  obtain ⟨kc19, ks20, g1, g2, h⟩ := h
  refine z_callz (z_runV (rest := []) [va_rf r11] pk_J30_add (met_J30_add co18 a2 r11 kc19 ks20 _ h) X hB (z_coR0 hco18) q3162 kc_J30 (by decide) hk_a2 rfl hl.1 (Nat.le_of_ble_eq_true rfl) dX12_all_13 (z_k1 hK1 g1) (z_k1 hK2 g2) (by decide) (by decide)) hB (z_coR hco18) (fun r17 T21 I22 Q23 H locs hz h9 hF hB => ?_)
  replace h := h9
  clear h9
  replace h := h hz hF
  have hc_a2 : 3 ≤ (T21 a2).2.2 := by rw [z_te hF hk_a2 (by decide)]; exact hc_a2
  have hk_a2 := z_tk hF hk_a2 (by decide)
  replace hK1 := z_k2 hK1 g1
  replace hK2 := z_k2 hK2 g2
  refine lv_istore_n (lv' := [(2, .int r17), (1, .ref a2), (0, .ref o)]) hx hb dX12_all_16 rfl hl (by decide) rfl (fun ls hl9 => ?_)
  replace hl := hl9
  clear hl9
  obtain ⟨w, h⟩ := h
  exact wv_X12_all_17 X ho  w hB hK1 hK2 (lv_sub hl [2, 1] rfl) h
theorem pk_X12_all : z_PV RX12 yX12_all cX12_all 3 (some (.object "java/util/ArrayList")) 0 := ⟨q3040, q3041, q158, q3042, by decide +kernel⟩
theorem met_X12_all {l : Launch} {G : z_E} {T : z_T} {I : z_I} {Q : z_Q} (o : Nat) (kc : Nat) (ks : Nat) (Qk : Option Nat → z_T → z_I → z_Q → Prop) (Xk : String → Nat → z_T → z_I → z_Q → Prop) (h : wp_X12_all G.2.2 T I Q o kc ks Qk Xk) : z_GM l G yX12_all (ws_ yX12_all cX12_all 3 (some (.object "java/util/ArrayList"))) 16 301 kc ks [.ref o] z_PR T I Q (z_qr Qk) Xk := by
  obtain ⟨ho, h⟩ := h
  refine z_body (own := RX12) (nm := "all") (by decide +kernel) rfl rfl (Nat.le_of_ble_eq_true rfl) (fun p e R s m below meth c A ls X hB hl => ?_)
  exact ww_X12_all_0 X ho hB z_k0 z_k0 hl h
/-! X12_init -/
theorem ww_X12_init_0 {o : Nat} {Qk : z_T → z_I → z_Q → Prop} (X : z_X l G A p R s m args meth c cX12_init 2 RX12 "<init>" none 0 0 8 120) (ho : (T0 o).1 = 12) (hoc : 3 ≤ (T0 o).2.2) {T : z_T} {I : z_I} {Q : z_Q} {x1 : Option Nat} {H : Heap} {locs : List Loc} {ls : Array Slot} (hB : z_HB G z_PR A s.heap T0 I0 Q0 T I Q H locs) (hl : lv_has ls 2 [(0, .ref o), (1, va_rf x1)]) (h : wb_X12_init_0 o Qk T I Q x1) : W p l e R s m args below meth c H locs 0 0 (z_MQ below G z_PR A T0 I0 Q0 (z_qv Qk) z_no args s 0 0) (F0 m 0 ls []) := by
  obtain ⟨hx, hb, -⟩ := id X
  unfold wb_X12_init_0 at h
  refine lv_aload_n (x := o) hx hb dX12_init_0 rfl (lv_at hl 0 rfl) ?_
  refine z_aload_n (x := x1) hx hb dX12_init_1 rfl (lv_at hl 1 rfl) ?_
  obtain ⟨Q1, eQ1⟩ : ∃ z, z = z_up Q o 1 x1 := ⟨_, rfl⟩
  replace h := h Q1 eQ1
  refine z_putqF (x := x1) eQ1 tyX12 X hB kc_X12 in_X12 tyX12_ok nmX12 (j := 1) (Nat.le_of_ble_eq_true rfl) q3033 (fun _ h => h) rfl rfl rfl (by decide) (z_fo hB ho (by decide)) (z_foc hB ho (by decide) hoc) rfl (Or.inl ⟨_, rfl⟩) dX12_init_2 (fun H locs hB => ?_)
  refine lv_aload_n (x := o) hx hb dX12_init_5 rfl (lv_at hl 0 rfl) ?_
  refine z_objInit (rest := []) X q3031 hl.1 dX12_init_6 (by decide) (Nat.le_of_ble_eq_true rfl) ?_
  exact z_vret X hB ⟨rfl, h⟩ (Nat.le_refl 0) (Nat.le_refl 0) dX12_init_9
theorem pk_X12_init : z_PI yX12_init cX12_init 2 1 := ⟨q3029, q158, q3030, rfl, by decide +kernel⟩
theorem met_X12_init {l : Launch} {G : z_E} {T : z_T} {I : z_I} {Q : z_Q} (o : Nat) (x1 : Option Nat) (Qk : z_T → z_I → z_Q → Prop) (h : wp_X12_init T I Q o x1 Qk) : z_GM l G yX12_init (ws_ yX12_init cX12_init 2 none) 8 120 0 0 [.ref o, va_rf x1] z_PR T I Q (z_qv Qk) z_no := by
  obtain ⟨ho, hoc, h⟩ := h
  refine z_body (own := RX12) (nm := "<init>") (by decide +kernel) rfl rfl (by cases x1 <;> exact Nat.le_of_ble_eq_true rfl) (fun p e R s m below meth c A ls X hB hl => ?_)
  replace hl : lv_has ls 2 [(0, .ref o), (1, va_rf x1)] := by cases x1 <;> exact hl
  exact ww_X12_init_0 X ho hoc hB hl h
/-! X11_part -/
theorem ww_X11_part_0 {T : z_T} {I : z_I} {Q : z_Q} {o : Nat} {Qk : Int32 → Prop} (X : z_X l G A p R s m args meth c cX11_part 2 RX11 "part" (some .int) 0 0 8 120) (ho : (T o).1 = 8) {x1 : Int32} {H : Heap} {locs : List Loc} {ls : Array Slot} (hB : z_HB G z_none A s.heap T I Q T I Q H locs) (hl : lv_has ls 2 [(0, .ref o), (1, .int x1)]) (h : wb_X11_part_0 T I Q o Qk x1) : W p l e R s m args below meth c H locs 0 0 (z_MQ below G z_none A T I Q (z_pi Qk T I Q) z_no args s 0 0) (F0 m 0 ls []) := by
  obtain ⟨hx, hb, -⟩ := id X
  unfold wb_X11_part_0 at h
  refine lv_aload_n (x := o) hx hb dX11_part_0 rfl (lv_at hl 0 rfl) ?_
  refine z_getq X hB.1 kc_X11 in_X11 (j := 0) (Nat.le_of_ble_eq_true rfl) q2864 (fun _ h => h) rfl (by decide) ho dX11_part_1 ?_
  refine lv_iload_n hx hb dX11_part_4 rfl (lv_at hl 1 rfl) ?_
  obtain ⟨a1, ea1, h⟩ := h
  refine z_stk (st' := [.int x1, .ref a1]) (by rw [ea1] <;> rfl) ?_
  obtain ⟨hk_a1, h⟩ := h
  obtain ⟨h1, h⟩ := h
  refine z_iald X hB.1 hk_a1 h1 dX11_part_5 ?_
  exact z_iret X hB ⟨_, rfl, h, rfl, rfl, rfl⟩ (Nat.le_refl 0) (Nat.le_refl 0) dX11_part_6
theorem pk_X11_part : z_PV RX11 yX11_part cX11_part 2 (some .int) 1 := ⟨q2949, q2950, q156, q2951, by decide +kernel⟩
theorem met_X11_part {l : Launch} {G : z_E} {T : z_T} {I : z_I} {Q : z_Q} (o : Nat) (x1 : Int32) (Qk : Int32 → Prop) (h : wp_X11_part T I Q o x1 Qk) : z_GM l G yX11_part (ws_ yX11_part cX11_part 2 (some .int)) 8 120 0 0 [.ref o, .int x1] z_none T I Q (z_pi Qk T I Q) z_no := by
  obtain ⟨ho, h⟩ := h
  refine z_body (own := RX11) (nm := "part") (by decide +kernel) rfl rfl (Nat.le_of_ble_eq_true rfl) (fun p e R s m below meth c A ls X hB hl => ?_)
  exact ww_X11_part_0 X ho hB hl h
/-! X8_number -/
theorem ww_X8_number_0 {T : z_T} {I : z_I} {Q : z_Q} {o : Nat} {Qk : Int32 → Prop} (X : z_X l G A p R s m args meth c cX8_number 2 RX8 "number" (some .int) 0 0 8 120) (ho : (T o).1 = 7) {x1 : Int32} {H : Heap} {locs : List Loc} {ls : Array Slot} (hB : z_HB G z_none A s.heap T I Q T I Q H locs) (hl : lv_has ls 2 [(0, .ref o), (1, .int x1)]) (h : wb_X8_number_0 T I Q o Qk x1) : W p l e R s m args below meth c H locs 0 0 (z_MQ below G z_none A T I Q (z_pi Qk T I Q) z_no args s 0 0) (F0 m 0 ls []) := by
  obtain ⟨hx, hb, -⟩ := id X
  unfold wb_X8_number_0 at h
  refine lv_iload_n hx hb dX8_number_0 rfl (lv_at hl 1 rfl) ?_
  by_cases c1_0 : x1 = 0
  · replace h := h.1 c1_0
    refine lv_tableIn (off := 35) (tgt := 36) hx hb dX8_number_1 (by rw [c1_0]; decide) (by rw [c1_0]; decide) (by rw [c1_0]; rfl) (by decide) ?_
    refine lv_aload_n (x := o) hx hb dX8_number_36 rfl (lv_at hl 0 rfl) ?_
    refine z_geti X hB.1 kc_X8 in_X8 (j := 0) (Nat.le_of_ble_eq_true rfl) q2644 (fun _ h => h) rfl (by decide) ho dX8_number_37 ?_
    exact z_iret X hB ⟨_, rfl, h, rfl, rfl, rfl⟩ (Nat.le_refl 0) (Nat.le_refl 0) dX8_number_40
  · by_cases c1_1 : x1 = 1
    · replace h := h.2.1 c1_1
      refine lv_tableIn (off := 40) (tgt := 41) hx hb dX8_number_1 (by rw [c1_1]; decide) (by rw [c1_1]; decide) (by rw [c1_1]; rfl) (by decide) ?_
      refine lv_aload_n (x := o) hx hb dX8_number_41 rfl (lv_at hl 0 rfl) ?_
      refine z_geti X hB.1 kc_X8 in_X8 (j := 1) (Nat.le_of_ble_eq_true rfl) q2646 (fun _ h => h) rfl (by decide) ho dX8_number_42 ?_
      exact z_iret X hB ⟨_, rfl, h, rfl, rfl, rfl⟩ (Nat.le_refl 0) (Nat.le_refl 0) dX8_number_45
    · by_cases c1_2 : x1 = 2
      · replace h := h.2.2.1 c1_2
        refine lv_tableIn (off := 45) (tgt := 46) hx hb dX8_number_1 (by rw [c1_2]; decide) (by rw [c1_2]; decide) (by rw [c1_2]; rfl) (by decide) ?_
        refine lv_aload_n (x := o) hx hb dX8_number_46 rfl (lv_at hl 0 rfl) ?_
        refine z_geti X hB.1 kc_X8 in_X8 (j := 3) (Nat.le_of_ble_eq_true rfl) q2651 (fun _ h => h) rfl (by decide) ho dX8_number_47 ?_
        exact z_iret X hB ⟨_, rfl, h, rfl, rfl, rfl⟩ (Nat.le_refl 0) (Nat.le_refl 0) dX8_number_50
      · by_cases c1_3 : x1 = 3
        · replace h := h.2.2.2.1 c1_3
          refine lv_tableIn (off := 50) (tgt := 51) hx hb dX8_number_1 (by rw [c1_3]; decide) (by rw [c1_3]; decide) (by rw [c1_3]; rfl) (by decide) ?_
          refine lv_aload_n (x := o) hx hb dX8_number_51 rfl (lv_at hl 0 rfl) ?_
          refine z_geti X hB.1 kc_X8 in_X8 (j := 4) (Nat.le_of_ble_eq_true rfl) q2654 (fun _ h => h) rfl (by decide) ho dX8_number_52 ?_
          exact z_iret X hB ⟨_, rfl, h, rfl, rfl, rfl⟩ (Nat.le_refl 0) (Nat.le_refl 0) dX8_number_55
        · by_cases c1_4 : x1 = 4
          · replace h := h.2.2.2.2.1 c1_4
            refine lv_tableIn (off := 55) (tgt := 56) hx hb dX8_number_1 (by rw [c1_4]; decide) (by rw [c1_4]; decide) (by rw [c1_4]; rfl) (by decide) ?_
            refine lv_aload_n (x := o) hx hb dX8_number_56 rfl (lv_at hl 0 rfl) ?_
            refine z_geti X hB.1 kc_X8 in_X8 (j := 5) (Nat.le_of_ble_eq_true rfl) q2657 (fun _ h => h) rfl (by decide) ho dX8_number_57 ?_
            exact z_iret X hB ⟨_, rfl, h, rfl, rfl, rfl⟩ (Nat.le_refl 0) (Nat.le_refl 0) dX8_number_60
          · replace h := h.2.2.2.2.2 c1_0 c1_1 c1_2 c1_3 c1_4
            refine lv_tableOut (tgt := 61) hx hb dX8_number_1 ?_ (by decide) ?_
            · have q0 := lv_neT c1_0 (a := 0) (by decide)
              have q1 := lv_neT c1_1 (a := 1) (by decide)
              have q2 := lv_neT c1_2 (a := 2) (by decide)
              have q3 := lv_neT c1_3 (a := 3) (by decide)
              have q4 := lv_neT c1_4 (a := 4) (by decide)
              omega
            · refine lv_aload_n (x := o) hx hb dX8_number_61 rfl (lv_at hl 0 rfl) ?_
              refine z_geti X hB.1 kc_X8 in_X8 (j := 6) (Nat.le_of_ble_eq_true rfl) q2660 (fun _ h => h) rfl (by decide) ho dX8_number_62 ?_
              exact z_iret X hB ⟨_, rfl, h, rfl, rfl, rfl⟩ (Nat.le_refl 0) (Nat.le_refl 0) dX8_number_65
theorem pk_X8_number : z_PV RX8 yX8_number cX8_number 2 (some .int) 1 := ⟨q2746, q2747, q152, q2748, by decide +kernel⟩
theorem met_X8_number {l : Launch} {G : z_E} {T : z_T} {I : z_I} {Q : z_Q} (o : Nat) (x1 : Int32) (Qk : Int32 → Prop) (h : wp_X8_number T I Q o x1 Qk) : z_GM l G yX8_number (ws_ yX8_number cX8_number 2 (some .int)) 8 120 0 0 [.ref o, .int x1] z_none T I Q (z_pi Qk T I Q) z_no := by
  obtain ⟨ho, h⟩ := h
  refine z_body (own := RX8) (nm := "number") (by decide +kernel) rfl rfl (Nat.le_of_ble_eq_true rfl) (fun p e R s m below meth c A ls X hB hl => ?_)
  exact ww_X8_number_0 X ho hB hl h
/-! X6_part -/
theorem ww_X6_part_47 {T : z_T} {I : z_I} {Q : z_Q} {o : Nat} {Qk : Int32 → Prop} (X : z_X l G A p R s m args meth c cX6_part 2 RX6 "part" (some .int) 0 0 9 141) (ho : (T o).1 = 6) {s0 : Int32} {H : Heap} {locs : List Loc} {ls : Array Slot} (hB : z_HB G z_none A s.heap T I Q T I Q H locs) (hl : lv_has ls 2 []) (h : wb_X6_part_47 T I Q o Qk s0) : W p l e R s m args below meth c H locs 0 0 (z_MQ below G z_none A T I Q (z_pi Qk T I Q) z_no args s 0 0) (F0 m 47 ls [.int s0]) := by
  obtain ⟨hx, hb, -⟩ := id X
  unfold wb_X6_part_47 at h
  exact z_iret X hB ⟨_, rfl, h, rfl, rfl, rfl⟩ (Nat.le_refl 0) (Nat.le_refl 0) dX6_part_47
theorem ww_X6_part_0 {T : z_T} {I : z_I} {Q : z_Q} {o : Nat} {Qk : Int32 → Prop} (X : z_X l G A p R s m args meth c cX6_part 2 RX6 "part" (some .int) 0 0 9 141) (ho : (T o).1 = 6) {x1 : Int32} {H : Heap} {locs : List Loc} {ls : Array Slot} (hB : z_HB G z_none A s.heap T I Q T I Q H locs) (hl : lv_has ls 2 [(0, .ref o), (1, .int x1)]) (h : wb_X6_part_0 T I Q o Qk x1) : W p l e R s m args below meth c H locs 0 0 (z_MQ below G z_none A T I Q (z_pi Qk T I Q) z_no args s 0 0) (F0 m 0 ls []) := by
  obtain ⟨hx, hb, -⟩ := id X
  unfold wb_X6_part_0 at h
  refine lv_iload_n hx hb dX6_part_0 rfl (lv_at hl 1 rfl) ?_
  refine lv_bipush (v := 6) hx hb dX6_part_1 (by decide) ?_
  refine lv_icmp_ne (tgt := 13) hx hb dX6_part_3 (by decide) (fun c1 => ?_) (fun c1 => ?_)
  · replace h := h.1 c1
    refine lv_iload_n hx hb dX6_part_13 rfl (lv_at hl 1 rfl) ?_
    refine lv_bipush (v := 7) hx hb dX6_part_14 (by decide) ?_
    refine lv_icmp_ne (tgt := 26) hx hb dX6_part_16 (by decide) (fun c2 => ?_) (fun c2 => ?_)
    · replace h := h.1 c2
      refine lv_iload_n hx hb dX6_part_26 rfl (lv_at hl 1 rfl) ?_
      refine lv_bipush (v := 8) hx hb dX6_part_27 (by decide) ?_
      refine lv_icmp_ne (tgt := 39) hx hb dX6_part_29 (by decide) (fun c3 => ?_) (fun c3 => ?_)
      · replace h := h.1 c3
        refine lv_aload_n (x := o) hx hb dX6_part_39 rfl (lv_at hl 0 rfl) ?_
        refine z_getq X hB.1 kc_X6 in_X6 (j := 1) (Nat.le_of_ble_eq_true rfl) q2289 (fun _ h => h) rfl (by decide) ho dX6_part_40 ?_
        refine lv_iload_n hx hb dX6_part_43 rfl (lv_at hl 1 rfl) ?_
        obtain ⟨a4, ea4, h⟩ := h
        refine z_stk (st' := [.int x1, .ref a4]) (by rw [ea4] <;> rfl) ?_
        obtain ⟨hk_a4, h⟩ := h
        refine z_callip (z_runV (rest := []) [.int x1] pk_X8_number (met_X8_number a4 x1 _ h) X hB (fun h => h) q2745 kc_X8 (by decide) hk_a4 rfl hl.1 (Nat.le_of_ble_eq_true rfl) dX6_part_44 (Nat.le_refl 0) (Nat.le_refl 0) (by decide) (by decide)) hB (fun r5 H locs h9 hB => ?_)
        replace h := h9
        clear h9
        exact ww_X6_part_47 X ho  hB (lv_sub hl [] rfl) h
      · replace h := h.2 c3
        refine lv_aload_n (x := o) hx hb dX6_part_32 rfl (lv_at hl 0 rfl) ?_
        refine z_geti X hB.1 kc_X6 in_X6 (j := 4) (Nat.le_of_ble_eq_true rfl) q2296 (fun _ h => h) rfl (by decide) ho dX6_part_33 ?_
        refine lv_goto (tgt := 47) hx hb dX6_part_36 (by decide) ?_
        exact ww_X6_part_47 X ho  hB (lv_sub hl [] rfl) h
    · replace h := h.2 c2
      refine lv_aload_n (x := o) hx hb dX6_part_19 rfl (lv_at hl 0 rfl) ?_
      refine z_geti X hB.1 kc_X6 in_X6 (j := 3) (Nat.le_of_ble_eq_true rfl) q2294 (fun _ h => h) rfl (by decide) ho dX6_part_20 ?_
      refine lv_goto (tgt := 47) hx hb dX6_part_23 (by decide) ?_
      exact ww_X6_part_47 X ho  hB (lv_sub hl [] rfl) h
  · replace h := h.2 c1
    refine lv_aload_n (x := o) hx hb dX6_part_6 rfl (lv_at hl 0 rfl) ?_
    refine z_geti X hB.1 kc_X6 in_X6 (j := 2) (Nat.le_of_ble_eq_true rfl) q2291 (fun _ h => h) rfl (by decide) ho dX6_part_7 ?_
    refine lv_goto (tgt := 47) hx hb dX6_part_10 (by decide) ?_
    exact ww_X6_part_47 X ho  hB (lv_sub hl [] rfl) h
theorem pk_X6_part : z_PV RX6 yX6_part cX6_part 2 (some .int) 1 := ⟨q2742, q2743, q149, q2744, by decide +kernel⟩
theorem met_X6_part {l : Launch} {G : z_E} {T : z_T} {I : z_I} {Q : z_Q} (o : Nat) (x1 : Int32) (Qk : Int32 → Prop) (h : wp_X6_part T I Q o x1 Qk) : z_GM l G yX6_part (ws_ yX6_part cX6_part 2 (some .int)) 9 141 0 0 [.ref o, .int x1] z_none T I Q (z_pi Qk T I Q) z_no := by
  obtain ⟨ho, h⟩ := h
  refine z_body (own := RX6) (nm := "part") (by decide +kernel) rfl rfl (Nat.le_of_ble_eq_true rfl) (fun p e R s m below meth c A ls X hB hl => ?_)
  exact ww_X6_part_0 X ho hB hl h
/-! X6_init -/
theorem ww_X6_init_0 {co : Nat} {o : Nat} {Qk : z_T → z_I → z_Q → Prop} (X : z_X l G A p R s m args meth c cX6_init 2 RX6 "<init>" none 0 0 9 142) (ho : (T0 o).1 = 6) (hoc : (T0 o).2.2 = co) {T : z_T} {I : z_I} {Q : z_Q} {x1 : Option Nat} {H : Heap} {locs : List Loc} {ls : Array Slot} (hB : z_HB G (z_co co) A s.heap T0 I0 Q0 T I Q H locs) (hl : lv_has ls 2 [(0, .ref o), (1, va_rf x1)]) (h : wb_X6_init_0 co o Qk T I Q x1) : W p l e R s m args below meth c H locs 0 0 (z_MQ below G (z_co co) A T0 I0 Q0 (z_qv Qk) z_no args s 0 0) (F0 m 0 ls []) := by
  obtain ⟨hx, hb, -⟩ := id X
  unfold wb_X6_init_0 at h
  refine lv_aload_n (x := o) hx hb dX6_init_0 rfl (lv_at hl 0 rfl) ?_
  refine z_aload_n (x := x1) hx hb dX6_init_1 rfl (lv_at hl 1 rfl) ?_
  obtain ⟨a1, rfl, h⟩ := h
  obtain ⟨hk_a1, h⟩ := h
  refine z_geti X hB.1 kc_X6 in_X6 (j := 0) (Nat.le_of_ble_eq_true rfl) q2286 (fun _ h => h) rfl (by decide) hk_a1 dX6_init_2 ?_
  refine lv_aload_n (x := a1) hx hb dX6_init_5 rfl (lv_at hl 1 rfl) ?_
  refine z_getq X hB.1 kc_X6 in_X6 (j := 1) (Nat.le_of_ble_eq_true rfl) q2289 (fun _ h => h) rfl (by decide) hk_a1 dX6_init_6 ?_
  refine z_callv (z_runI (rest := []) [.int (I a1 0), va_rf (Q a1 1)] pk_X6_init_2 (met_X6_init_2 co o (I a1 0) (Q a1 1) _ h) X hB hB.2.2.2.2.2.2 q2282 rfl hl.1 (Nat.le_of_ble_eq_true rfl) dX6_init_9 (Nat.le_refl 0) (Nat.le_refl 0) (by decide) (by decide)) hB (fun _ h => h) (fun T3 I4 Q5 H locs h9 hF hB => ?_)
  replace h := h9
  clear h9
  replace h := h hF
  have hk_a1 := z_tk hF hk_a1 (by decide)
  refine lv_aload_n (x := o) hx hb dX6_init_12 rfl (lv_at hl 0 rfl) ?_
  refine lv_aload_n (x := a1) hx hb dX6_init_13 rfl (lv_at hl 1 rfl) ?_
  refine z_geti X hB.1 kc_X6 in_X6 (j := 2) (Nat.le_of_ble_eq_true rfl) q2291 (fun _ h => h) rfl (by decide) hk_a1 dX6_init_14 ?_
  obtain ⟨I6, eI6⟩ : ∃ z, z = z_up I4 o 2 (I4 a1 2) := ⟨_, rfl⟩
  replace h := h I6 eI6
  refine z_puti (x := (I4 a1 2)) eI6 tyX6 X hB kc_X6 in_X6 tyX6_ok nmX6 (j := 2) (Nat.le_of_ble_eq_true rfl) q2291 (fun _ h => h) rfl rfl (by decide) (z_fo hB ho (by decide)) (z_foc hB ho (by decide) hoc) rfl (Or.inl rfl) dX6_init_17 (fun H locs hB => ?_)
  refine lv_aload_n (x := o) hx hb dX6_init_20 rfl (lv_at hl 0 rfl) ?_
  refine lv_aload_n (x := a1) hx hb dX6_init_21 rfl (lv_at hl 1 rfl) ?_
  refine z_geti X hB.1 kc_X6 in_X6 (j := 3) (Nat.le_of_ble_eq_true rfl) q2294 (fun _ h => h) rfl (by decide) hk_a1 dX6_init_22 ?_
  obtain ⟨I7, eI7⟩ : ∃ z, z = z_up I6 o 3 (I6 a1 3) := ⟨_, rfl⟩
  replace h := h I7 eI7
  refine z_puti (x := (I6 a1 3)) eI7 tyX6 X hB kc_X6 in_X6 tyX6_ok nmX6 (j := 3) (Nat.le_of_ble_eq_true rfl) q2294 (fun _ h => h) rfl rfl (by decide) (z_fo hB ho (by decide)) (z_foc hB ho (by decide) hoc) rfl (Or.inl rfl) dX6_init_25 (fun H locs hB => ?_)
  refine lv_aload_n (x := o) hx hb dX6_init_28 rfl (lv_at hl 0 rfl) ?_
  refine lv_aload_n (x := a1) hx hb dX6_init_29 rfl (lv_at hl 1 rfl) ?_
  refine z_geti X hB.1 kc_X6 in_X6 (j := 4) (Nat.le_of_ble_eq_true rfl) q2296 (fun _ h => h) rfl (by decide) hk_a1 dX6_init_30 ?_
  obtain ⟨I8, eI8⟩ : ∃ z, z = z_up I7 o 4 (I7 a1 4) := ⟨_, rfl⟩
  replace h := h I8 eI8
  refine z_puti (x := (I7 a1 4)) eI8 tyX6 X hB kc_X6 in_X6 tyX6_ok nmX6 (j := 4) (Nat.le_of_ble_eq_true rfl) q2296 (fun _ h => h) rfl rfl (by decide) (z_fo hB ho (by decide)) (z_foc hB ho (by decide) hoc) rfl (Or.inl rfl) dX6_init_33 (fun H locs hB => ?_)
  exact z_vret X hB ⟨rfl, h⟩ (Nat.le_refl 0) (Nat.le_refl 0) dX6_init_36
theorem pk_X6_init : z_PI yX6_init cX6_init 2 1 := ⟨q2280, q149, q2281, rfl, by decide +kernel⟩
theorem met_X6_init {l : Launch} {G : z_E} {T : z_T} {I : z_I} {Q : z_Q} (co : Nat) (o : Nat) (x1 : Option Nat) (Qk : z_T → z_I → z_Q → Prop) (h : wp_X6_init co T I Q o x1 Qk) : z_GM l G yX6_init (ws_ yX6_init cX6_init 2 none) 9 142 0 0 [.ref o, va_rf x1] (z_co co) T I Q (z_qv Qk) z_no := by
  obtain ⟨ho, hoc, h⟩ := h
  refine z_body (own := RX6) (nm := "<init>") (by decide +kernel) rfl rfl (by cases x1 <;> exact Nat.le_of_ble_eq_true rfl) (fun p e R s m below meth c A ls X hB hl => ?_)
  replace hl : lv_has ls 2 [(0, .ref o), (1, va_rf x1)] := by cases x1 <;> exact hl
  exact ww_X6_init_0 X ho hoc hB hl h
/-! X4_part -/
theorem ww_X4_part_80 {T : z_T} {I : z_I} {Q : z_Q} {o : Nat} {Qk : Int32 → Prop} (X : z_X l G A p R s m args meth c cX4_part 2 RX4 "part" (some .int) 0 0 10 162) (ho : (T o).1 = 4) {s0 : Int32} {H : Heap} {locs : List Loc} {ls : Array Slot} (hB : z_HB G z_none A s.heap T I Q T I Q H locs) (hl : lv_has ls 2 []) (h : wb_X4_part_80 T I Q o Qk s0) : W p l e R s m args below meth c H locs 0 0 (z_MQ below G z_none A T I Q (z_pi Qk T I Q) z_no args s 0 0) (F0 m 80 ls [.int s0]) := by
  obtain ⟨hx, hb, -⟩ := id X
  unfold wb_X4_part_80 at h
  exact z_iret X hB ⟨_, rfl, h, rfl, rfl, rfl⟩ (Nat.le_refl 0) (Nat.le_refl 0) dX4_part_80
theorem ww_X4_part_118 {T : z_T} {I : z_I} {Q : z_Q} {o : Nat} {Qk : Int32 → Prop} (X : z_X l G A p R s m args meth c cX4_part 2 RX4 "part" (some .int) 0 0 10 162) (ho : (T o).1 = 4) {s0 : Int32} {H : Heap} {locs : List Loc} {ls : Array Slot} (hB : z_HB G z_none A s.heap T I Q T I Q H locs) (hl : lv_has ls 2 []) (h : wb_X4_part_118 T I Q o Qk s0) : W p l e R s m args below meth c H locs 0 0 (z_MQ below G z_none A T I Q (z_pi Qk T I Q) z_no args s 0 0) (F0 m 118 ls [.int s0]) := by
  obtain ⟨hx, hb, -⟩ := id X
  unfold wb_X4_part_118 at h
  exact z_iret X hB ⟨_, rfl, h, rfl, rfl, rfl⟩ (Nat.le_refl 0) (Nat.le_refl 0) dX4_part_118
theorem ww_X4_part_110 {T : z_T} {I : z_I} {Q : z_Q} {o : Nat} {Qk : Int32 → Prop} (X : z_X l G A p R s m args meth c cX4_part 2 RX4 "part" (some .int) 0 0 10 162) (ho : (T o).1 = 4) {H : Heap} {locs : List Loc} {ls : Array Slot} (hB : z_HB G z_none A s.heap T I Q T I Q H locs) (hl : lv_has ls 2 [(0, .ref o)]) (h : wb_X4_part_110 T I Q o Qk ) : W p l e R s m args below meth c H locs 0 0 (z_MQ below G z_none A T I Q (z_pi Qk T I Q) z_no args s 0 0) (F0 m 110 ls []) := by
  obtain ⟨hx, hb, -⟩ := id X
  unfold wb_X4_part_110 at h
  refine lv_aload_n (x := o) hx hb dX4_part_110 rfl (lv_at hl 0 rfl) ?_
  refine z_geti X hB.1 kc_X4 in_X4 (j := 6) (Nat.le_of_ble_eq_true rfl) q1191 (fun _ h => h) rfl (by decide) ho dX4_part_111 ?_
  refine lv_goto (tgt := 118) hx hb dX4_part_114 (by decide) ?_
  exact ww_X4_part_118 X ho  hB (lv_sub hl [] rfl) h
theorem ww_X4_part_0 {T : z_T} {I : z_I} {Q : z_Q} {o : Nat} {Qk : Int32 → Prop} (X : z_X l G A p R s m args meth c cX4_part 2 RX4 "part" (some .int) 0 0 10 162) (ho : (T o).1 = 4) {x1 : Int32} {H : Heap} {locs : List Loc} {ls : Array Slot} (hB : z_HB G z_none A s.heap T I Q T I Q H locs) (hl : lv_has ls 2 [(0, .ref o), (1, .int x1)]) (h : wb_X4_part_0 T I Q o Qk x1) : W p l e R s m args below meth c H locs 0 0 (z_MQ below G z_none A T I Q (z_pi Qk T I Q) z_no args s 0 0) (F0 m 0 ls []) := by
  obtain ⟨hx, hb, -⟩ := id X
  unfold wb_X4_part_0 at h
  refine lv_iload_n hx hb dX4_part_0 rfl (lv_at hl 1 rfl) ?_
  by_cases c1_0 : x1 = 0
  · replace h := h.1 c1_0
    refine lv_tableIn (off := 51) (tgt := 52) hx hb dX4_part_1 (by rw [c1_0]; decide) (by rw [c1_0]; decide) (by rw [c1_0]; rfl) (by decide) ?_
    refine lv_aload_n (x := o) hx hb dX4_part_52 rfl (lv_at hl 0 rfl) ?_
    refine z_geti X hB.1 kc_X4 in_X4 (j := 1) (Nat.le_of_ble_eq_true rfl) q1180 (fun _ h => h) rfl (by decide) ho dX4_part_53 ?_
    exact z_iret X hB ⟨_, rfl, h, rfl, rfl, rfl⟩ (Nat.le_refl 0) (Nat.le_refl 0) dX4_part_56
  · by_cases c1_1 : x1 = 1
    · replace h := h.2.1 c1_1
      refine lv_tableIn (off := 56) (tgt := 57) hx hb dX4_part_1 (by rw [c1_1]; decide) (by rw [c1_1]; decide) (by rw [c1_1]; rfl) (by decide) ?_
      refine lv_aload_n (x := o) hx hb dX4_part_57 rfl (lv_at hl 0 rfl) ?_
      refine z_geti X hB.1 kc_X4 in_X4 (j := 4) (Nat.le_of_ble_eq_true rfl) q1187 (fun _ h => h) rfl (by decide) ho dX4_part_58 ?_
      exact z_iret X hB ⟨_, rfl, h, rfl, rfl, rfl⟩ (Nat.le_refl 0) (Nat.le_refl 0) dX4_part_61
    · by_cases c1_2 : x1 = 2
      · replace h := h.2.2.1 c1_2
        refine lv_tableIn (off := 61) (tgt := 62) hx hb dX4_part_1 (by rw [c1_2]; decide) (by rw [c1_2]; decide) (by rw [c1_2]; rfl) (by decide) ?_
        refine lv_aload_n (x := o) hx hb dX4_part_62 rfl (lv_at hl 0 rfl) ?_
        refine z_getq X hB.1 kc_X4 in_X4 (j := 3) (Nat.le_of_ble_eq_true rfl) q1185 (fun _ h => h) rfl (by decide) ho dX4_part_63 ?_
        refine z_ifnonnull (tgt := 73) hx hb dX4_part_66 (by decide) (fun a3 c2 => ?_) (fun c2 => ?_)
        · replace h := h.2 a3 c2
          refine lv_aload_n (x := o) hx hb dX4_part_73 rfl (lv_at hl 0 rfl) ?_
          refine z_getq X hB.1 kc_X4 in_X4 (j := 3) (Nat.le_of_ble_eq_true rfl) q1185 (fun _ h => h) rfl (by decide) ho dX4_part_74 ?_
          refine z_stk (st' := [.ref a3]) (by rw [c2] <;> rfl) ?_
          obtain ⟨hk_a3, h⟩ := h
          refine z_getiN X hB.1 kc_X6 in_X6 (j := 0) (Nat.le_of_ble_eq_true rfl) q2287 (fun _ h => h) rfl (by decide) hk_a3 dX4_part_77 ?_
          exact ww_X4_part_80 X ho  hB (lv_sub hl [] rfl) h
        · replace h := h.1 c2
          refine lv_iconst (v := (-1)) hx hb dX4_part_69 (by decide) ?_
          refine lv_goto (tgt := 80) hx hb dX4_part_70 (by decide) ?_
          exact ww_X4_part_80 X ho  hB (lv_sub hl [] rfl) h
      · by_cases c1_3 : x1 = 3
        · replace h := h.2.2.2.1 c1_3
          refine lv_tableIn (off := 80) (tgt := 81) hx hb dX4_part_1 (by rw [c1_3]; decide) (by rw [c1_3]; decide) (by rw [c1_3]; rfl) (by decide) ?_
          refine lv_aload_n (x := o) hx hb dX4_part_81 rfl (lv_at hl 0 rfl) ?_
          refine z_getq X hB.1 kc_X4 in_X4 (j := 2) (Nat.le_of_ble_eq_true rfl) q1182 (fun _ h => h) rfl (by decide) ho dX4_part_82 ?_
          obtain ⟨a4, ea4, h⟩ := h
          refine z_stk (st' := [.ref a4]) (by rw [ea4] <;> rfl) ?_
          obtain ⟨hk_a4, h⟩ := h
          refine z_callip (z_runV (rest := []) [] pk_J31_size (met_J31_size a4 _ h) X hB (fun h => h) q2760 kc_J31 (by decide) hk_a4 rfl hl.1 (Nat.le_of_ble_eq_true rfl) dX4_part_85 (Nat.le_refl 0) (Nat.le_refl 0) (by decide) (by decide)) hB (fun r5 H locs h9 hB => ?_)
          replace h := h9
          clear h9
          exact z_iret X hB ⟨_, rfl, h, rfl, rfl, rfl⟩ (Nat.le_refl 0) (Nat.le_refl 0) dX4_part_88
        · by_cases c1_4 : x1 = 4
          · replace h := h.2.2.2.2.1 c1_4
            refine lv_tableIn (off := 88) (tgt := 89) hx hb dX4_part_1 (by rw [c1_4]; decide) (by rw [c1_4]; decide) (by rw [c1_4]; rfl) (by decide) ?_
            refine lv_aload_n (x := o) hx hb dX4_part_89 rfl (lv_at hl 0 rfl) ?_
            refine z_callip (z_runV (rest := []) [] pk_X4_zone (met_X4_zone o _ h) X hB (fun h => h) q2761 kc_X4 (by decide) ho rfl hl.1 (Nat.le_of_ble_eq_true rfl) dX4_part_90 (Nat.le_refl 0) (Nat.le_refl 0) (by decide) (by decide)) hB (fun r6 H locs h9 hB => ?_)
            replace h := h9
            clear h9
            exact z_iret X hB ⟨_, rfl, h, rfl, rfl, rfl⟩ (Nat.le_refl 0) (Nat.le_refl 0) dX4_part_93
          · by_cases c1_5 : x1 = 5
            · replace h := h.2.2.2.2.2.1 c1_5
              refine lv_tableIn (off := 93) (tgt := 94) hx hb dX4_part_1 (by rw [c1_5]; decide) (by rw [c1_5]; decide) (by rw [c1_5]; rfl) (by decide) ?_
              refine lv_aload_n (x := o) hx hb dX4_part_94 rfl (lv_at hl 0 rfl) ?_
              refine z_geti X hB.1 kc_X4 in_X4 (j := 4) (Nat.le_of_ble_eq_true rfl) q1187 (fun _ h => h) rfl (by decide) ho dX4_part_95 ?_
              refine lv_iconst (v := 1) hx hb dX4_part_98 (by decide) ?_
              refine lv_icmp_eq (tgt := 110) hx hb dX4_part_99 (by decide) (fun c7 => ?_) (fun c7 => ?_)
              · replace h := h.1 c7
                exact ww_X4_part_110 X ho  hB (lv_sub hl [0] rfl) h
              · replace h := h.2 c7
                refine lv_aload_n (x := o) hx hb dX4_part_102 rfl (lv_at hl 0 rfl) ?_
                refine z_geti X hB.1 kc_X4 in_X4 (j := 4) (Nat.le_of_ble_eq_true rfl) q1187 (fun _ h => h) rfl (by decide) ho dX4_part_103 ?_
                refine lv_iconst (v := 2) hx hb dX4_part_106 (by decide) ?_
                refine lv_icmp_ne (tgt := 117) hx hb dX4_part_107 (by decide) (fun c8 => ?_) (fun c8 => ?_)
                · replace h := h.1 c8
                  refine lv_iconst (v := 0) hx hb dX4_part_117 (by decide) ?_
                  exact ww_X4_part_118 X ho  hB (lv_sub hl [] rfl) h
                · replace h := h.2 c8
                  exact ww_X4_part_110 X ho  hB (lv_sub hl [0] rfl) h
            · by_cases c1_6 : x1 = 6
              · replace h := h.2.2.2.2.2.2.1 c1_6
                refine lv_tableIn (off := 118) (tgt := 119) hx hb dX4_part_1 (by rw [c1_6]; decide) (by rw [c1_6]; decide) (by rw [c1_6]; rfl) (by decide) ?_
                refine lv_aload_n (x := o) hx hb dX4_part_119 rfl (lv_at hl 0 rfl) ?_
                refine z_geti X hB.1 kc_X4 in_X4 (j := 7) (Nat.le_of_ble_eq_true rfl) q1192 (fun _ h => h) rfl (by decide) ho dX4_part_120 ?_
                exact z_iret X hB ⟨_, rfl, h, rfl, rfl, rfl⟩ (Nat.le_refl 0) (Nat.le_refl 0) dX4_part_123
              · by_cases c1_7 : x1 = 7
                · replace h := h.2.2.2.2.2.2.2.1 c1_7
                  refine lv_tableIn (off := 123) (tgt := 124) hx hb dX4_part_1 (by rw [c1_7]; decide) (by rw [c1_7]; decide) (by rw [c1_7]; rfl) (by decide) ?_
                  refine lv_aload_n (x := o) hx hb dX4_part_124 rfl (lv_at hl 0 rfl) ?_
                  refine z_callip (z_runV (rest := []) [] pk_X4_held (met_X4_held o _ h) X hB (fun h => h) q2765 kc_X4 (by decide) ho rfl hl.1 (Nat.le_of_ble_eq_true rfl) dX4_part_125 (Nat.le_refl 0) (Nat.le_refl 0) (by decide) (by decide)) hB (fun r9 H locs h9 hB => ?_)
                  replace h := h9
                  clear h9
                  exact z_iret X hB ⟨_, rfl, h, rfl, rfl, rfl⟩ (Nat.le_refl 0) (Nat.le_refl 0) dX4_part_128
                · by_cases c1_8 : x1 = 8
                  · replace h := h.2.2.2.2.2.2.2.2.1 c1_8
                    refine lv_tableIn (off := 128) (tgt := 129) hx hb dX4_part_1 (by rw [c1_8]; decide) (by rw [c1_8]; decide) (by rw [c1_8]; rfl) (by decide) ?_
                    refine lv_aload_n (x := o) hx hb dX4_part_129 rfl (lv_at hl 0 rfl) ?_
                    refine z_geti X hB.1 kc_X4 in_X4 (j := 10) (Nat.le_of_ble_eq_true rfl) q1199 (fun _ h => h) rfl (by decide) ho dX4_part_130 ?_
                    exact z_iret X hB ⟨_, rfl, h, rfl, rfl, rfl⟩ (Nat.le_refl 0) (Nat.le_refl 0) dX4_part_133
                  · replace h := h.2.2.2.2.2.2.2.2.2 c1_0 c1_1 c1_2 c1_3 c1_4 c1_5 c1_6 c1_7 c1_8
                    refine lv_tableOut (tgt := 134) hx hb dX4_part_1 ?_ (by decide) ?_
                    · have q0 := lv_neT c1_0 (a := 0) (by decide)
                      have q1 := lv_neT c1_1 (a := 1) (by decide)
                      have q2 := lv_neT c1_2 (a := 2) (by decide)
                      have q3 := lv_neT c1_3 (a := 3) (by decide)
                      have q4 := lv_neT c1_4 (a := 4) (by decide)
                      have q5 := lv_neT c1_5 (a := 5) (by decide)
                      have q6 := lv_neT c1_6 (a := 6) (by decide)
                      have q7 := lv_neT c1_7 (a := 7) (by decide)
                      have q8 := lv_neT c1_8 (a := 8) (by decide)
                      omega
                    · refine lv_aload_n (x := o) hx hb dX4_part_134 rfl (lv_at hl 0 rfl) ?_
                      refine z_geti X hB.1 kc_X4 in_X4 (j := 11) (Nat.le_of_ble_eq_true rfl) q1201 (fun _ h => h) rfl (by decide) ho dX4_part_135 ?_
                      exact z_iret X hB ⟨_, rfl, h, rfl, rfl, rfl⟩ (Nat.le_refl 0) (Nat.le_refl 0) dX4_part_138
theorem pk_X4_part : z_PV RX4 yX4_part cX4_part 2 (some .int) 1 := ⟨q2757, q2758, q130, q2759, by decide +kernel⟩
theorem met_X4_part {l : Launch} {G : z_E} {T : z_T} {I : z_I} {Q : z_Q} (o : Nat) (x1 : Int32) (Qk : Int32 → Prop) (h : wp_X4_part T I Q o x1 Qk) : z_GM l G yX4_part (ws_ yX4_part cX4_part 2 (some .int)) 10 162 0 0 [.ref o, .int x1] z_none T I Q (z_pi Qk T I Q) z_no := by
  obtain ⟨ho, h⟩ := h
  refine z_body (own := RX4) (nm := "part") (by decide +kernel) rfl rfl (Nat.le_of_ble_eq_true rfl) (fun p e R s m below meth c A ls X hB hl => ?_)
  exact ww_X4_part_0 X ho hB hl h
/-! J18_checkIndex -/
theorem ww_J18_checkIndex_9 {Qk : Int32 → Prop} (X : z_X l G A p R s m args meth c cJ18_checkIndex 3 RJ18 "checkIndex" (some .int) 0 0 8 120) {x0 : Int32} {x1 : Int32} {x2 : Option Nat} {H : Heap} {locs : List Loc} {ls : Array Slot} (hB : z_HB G z_none A s.heap T I Q T I Q H locs) (hl : lv_has ls 3 [(0, .int x0), (1, .int x1), (2, va_rf x2)]) (h : wb_J18_checkIndex_9 Qk x0 x1 x2) : W p l e R s m args below meth c H locs 0 0 (z_MQ below G z_none A T I Q (z_pi Qk T I Q) z_no args s 0 0) (F0 m 9 ls []) := by
  obtain ⟨hx, hb, -⟩ := id X
  unfold wb_J18_checkIndex_9 at h
  refine z_aload_n (x := x2) hx hb dJ18_checkIndex_9 rfl (lv_at hl 2 rfl) ?_
  refine lv_iload_n hx hb dJ18_checkIndex_10 rfl (lv_at hl 0 rfl) ?_
  refine lv_iload_n hx hb dJ18_checkIndex_11 rfl (lv_at hl 1 rfl) ?_
  exact h.elim
theorem ww_J18_checkIndex_0 {Qk : Int32 → Prop} (X : z_X l G A p R s m args meth c cJ18_checkIndex 3 RJ18 "checkIndex" (some .int) 0 0 8 120) {x0 : Int32} {x1 : Int32} {x2 : Option Nat} {H : Heap} {locs : List Loc} {ls : Array Slot} (hB : z_HB G z_none A s.heap T I Q T I Q H locs) (hl : lv_has ls 3 [(0, .int x0), (1, .int x1), (2, va_rf x2)]) (h : wb_J18_checkIndex_0 Qk x0 x1 x2) : W p l e R s m args below meth c H locs 0 0 (z_MQ below G z_none A T I Q (z_pi Qk T I Q) z_no args s 0 0) (F0 m 0 ls []) := by
  obtain ⟨hx, hb, -⟩ := id X
  unfold wb_J18_checkIndex_0 at h
  refine lv_iload_n hx hb dJ18_checkIndex_0 rfl (lv_at hl 0 rfl) ?_
  refine lv_if_lt (tgt := 9) hx hb dJ18_checkIndex_1 (by decide) (fun c1 => ?_) (fun c1 => ?_)
  · replace h := h.1 c1
    exact ww_J18_checkIndex_9 X  hB (lv_sub hl [0, 1, 2] rfl) h
  · replace h := h.2 c1
    refine lv_iload_n hx hb dJ18_checkIndex_4 rfl (lv_at hl 0 rfl) ?_
    refine lv_iload_n hx hb dJ18_checkIndex_5 rfl (lv_at hl 1 rfl) ?_
    refine lv_icmp_lt (tgt := 16) hx hb dJ18_checkIndex_6 (by decide) (fun c2 => ?_) (fun c2 => ?_)
    · replace h := h.1 c2
      refine lv_iload_n hx hb dJ18_checkIndex_16 rfl (lv_at hl 0 rfl) ?_
      exact z_iret X hB ⟨_, rfl, h, rfl, rfl, rfl⟩ (Nat.le_refl 0) (Nat.le_refl 0) dJ18_checkIndex_17
    · replace h := h.2 c2
      exact ww_J18_checkIndex_9 X  hB (lv_sub hl [0, 1, 2] rfl) h
theorem pk_J18_checkIndex : z_PS yJ18_checkIndex cJ18_checkIndex 3 (some .int) 3 := ⟨q707, q115, q708, by decide +kernel⟩
theorem met_J18_checkIndex {l : Launch} {G : z_E} {T : z_T} {I : z_I} {Q : z_Q} (x0 : Int32) (x1 : Int32) (x2 : Option Nat) (Qk : Int32 → Prop) (h : wp_J18_checkIndex x0 x1 x2 Qk) : z_GM l G yJ18_checkIndex (ws_ yJ18_checkIndex cJ18_checkIndex 3 (some .int)) 8 120 0 0 [.int x0, .int x1, va_rf x2] z_none T I Q (z_pi Qk T I Q) z_no := by
  refine z_body (own := RJ18) (nm := "checkIndex") (by decide +kernel) rfl rfl (by cases x2 <;> exact Nat.le_of_ble_eq_true rfl) (fun p e R s m below meth c A ls X hB hl => ?_)
  replace hl : lv_has ls 3 [(0, .int x0), (1, .int x1), (2, va_rf x2)] := by cases x2 <;> exact hl
  exact ww_J18_checkIndex_0 X hB hl h
/-! J28_checkIndex -/
theorem ww_J28_checkIndex_0 {Qk : Int32 → Prop} (X : z_X l G A p R s m args meth c cJ28_checkIndex 2 RJ28 "checkIndex" (some .int) 0 0 9 142) {x0 : Int32} {x1 : Int32} {H : Heap} {locs : List Loc} {ls : Array Slot} (hB : z_HB G z_none A s.heap T I Q T I Q H locs) (hl : lv_has ls 2 [(0, .int x0), (1, .int x1)]) (h : wb_J28_checkIndex_0 Qk x0 x1) : W p l e R s m args below meth c H locs 0 0 (z_MQ below G z_none A T I Q (z_pi Qk T I Q) z_no args s 0 0) (F0 m 0 ls []) := by
  obtain ⟨hx, hb, -⟩ := id X
  unfold wb_J28_checkIndex_0 at h
  refine lv_iload_n hx hb dJ28_checkIndex_0 rfl (lv_at hl 0 rfl) ?_
  refine lv_iload_n hx hb dJ28_checkIndex_1 rfl (lv_at hl 1 rfl) ?_
  refine lv_null hx hb dJ28_checkIndex_2 ?_
  refine z_stk (st' := [va_rf none, .int x1, .int x0]) rfl ?_
  refine z_callip (z_runS (rest := []) [.int x0, .int x1, va_rf none] pk_J18_checkIndex (met_J18_checkIndex x0 x1 none _ h) X hB (fun h => h) q2346 rfl hl.1 (Nat.le_of_ble_eq_true rfl) dJ28_checkIndex_3 (Nat.le_refl 0) (Nat.le_refl 0) (by decide) (by decide)) hB (fun r1 H locs h9 hB => ?_)
  replace h := h9
  clear h9
  exact z_iret X hB ⟨_, rfl, h, rfl, rfl, rfl⟩ (Nat.le_refl 0) (Nat.le_refl 0) dJ28_checkIndex_6
theorem pk_J28_checkIndex : z_PS yJ28_checkIndex cJ28_checkIndex 2 (some .int) 2 := ⟨q2344, q125, q2345, by decide +kernel⟩
theorem met_J28_checkIndex {l : Launch} {G : z_E} {T : z_T} {I : z_I} {Q : z_Q} (x0 : Int32) (x1 : Int32) (Qk : Int32 → Prop) (h : wp_J28_checkIndex x0 x1 Qk) : z_GM l G yJ28_checkIndex (ws_ yJ28_checkIndex cJ28_checkIndex 2 (some .int)) 9 142 0 0 [.int x0, .int x1] z_none T I Q (z_pi Qk T I Q) z_no := by
  refine z_body (own := RJ28) (nm := "checkIndex") (by decide +kernel) rfl rfl (Nat.le_of_ble_eq_true rfl) (fun p e R s m below meth c A ls X hB hl => ?_)
  exact ww_J28_checkIndex_0 X hB hl h
/-! J30_elementData -/
theorem ww_J30_elementData_0 {T : z_T} {I : z_I} {Q : z_Q} {o : Nat} {Qk : Option Nat → Prop} (X : z_X l G A p R s m args meth c cJ30_elementData 2 RJ30 "elementData" (some (.object "java/lang/Object")) 0 0 8 120) (ho : (T o).1 = 19) {x1 : Int32} {H : Heap} {locs : List Loc} {ls : Array Slot} (hB : z_HB G z_none A s.heap T I Q T I Q H locs) (hl : lv_has ls 2 [(0, .ref o), (1, .int x1)]) (h : wb_J30_elementData_0 T I Q o Qk x1) : W p l e R s m args below meth c H locs 0 0 (z_MQ below G z_none A T I Q (z_pr Qk T I Q) z_no args s 0 0) (F0 m 0 ls []) := by
  obtain ⟨hx, hb, -⟩ := id X
  unfold wb_J30_elementData_0 at h
  refine lv_aload_n (x := o) hx hb dJ30_elementData_0 rfl (lv_at hl 0 rfl) ?_
  refine z_getq X hB.1 kc_J30 in_J30 (j := 1) (Nat.le_of_ble_eq_true rfl) q1103 (fun _ h => h) rfl (by decide) ho dJ30_elementData_1 ?_
  refine lv_iload_n hx hb dJ30_elementData_4 rfl (lv_at hl 1 rfl) ?_
  obtain ⟨a1, ea1, h⟩ := h
  refine z_stk (st' := [.int x1, .ref a1]) (by rw [ea1] <;> rfl) ?_
  obtain ⟨hk_a1, h⟩ := h
  obtain ⟨h1, h⟩ := h
  refine z_aald (k := 2) X hB.1 (by decide) hk_a1 h1 dJ30_elementData_5 ?_
  exact z_aret (v := (Q a1 x1.toNatClampNeg)) X (by first | exact Or.inl ⟨_, rfl⟩ | exact Or.inr ⟨_, rfl⟩) hB ⟨_, rfl, h, rfl, rfl, rfl⟩ (Nat.le_refl 0) (Nat.le_refl 0) dJ30_elementData_6
theorem pk_J30_elementData : z_PV RJ30 yJ30_elementData cJ30_elementData 2 (some (.object "java/lang/Object")) 1 := ⟨q2348, q2349, q127, q2350, by decide +kernel⟩
theorem met_J30_elementData {l : Launch} {G : z_E} {T : z_T} {I : z_I} {Q : z_Q} (o : Nat) (x1 : Int32) (Qk : Option Nat → Prop) (h : wp_J30_elementData T I Q o x1 Qk) : z_GM l G yJ30_elementData (ws_ yJ30_elementData cJ30_elementData 2 (some (.object "java/lang/Object"))) 8 120 0 0 [.ref o, .int x1] z_none T I Q (z_pr Qk T I Q) z_no := by
  obtain ⟨ho, h⟩ := h
  refine z_body (own := RJ30) (nm := "elementData") (by decide +kernel) rfl rfl (Nat.le_of_ble_eq_true rfl) (fun p e R s m below meth c A ls X hB hl => ?_)
  exact ww_J30_elementData_0 X ho hB hl h
/-! J30_get -/
theorem ww_J30_get_0 {T : z_T} {I : z_I} {Q : z_Q} {o : Nat} {Qk : Option Nat → Prop} (X : z_X l G A p R s m args meth c cJ30_get 2 RJ30 "get" (some (.object "java/lang/Object")) 0 0 10 163) (ho : (T o).1 = 19) {x1 : Int32} {H : Heap} {locs : List Loc} {ls : Array Slot} (hB : z_HB G z_none A s.heap T I Q T I Q H locs) (hl : lv_has ls 2 [(0, .ref o), (1, .int x1)]) (h : wb_J30_get_0 T I Q o Qk x1) : W p l e R s m args below meth c H locs 0 0 (z_MQ below G z_none A T I Q (z_pr Qk T I Q) z_no args s 0 0) (F0 m 0 ls []) := by
  obtain ⟨hx, hb, -⟩ := id X
  unfold wb_J30_get_0 at h
  refine lv_iload_n hx hb dJ30_get_0 rfl (lv_at hl 1 rfl) ?_
  refine lv_aload_n (x := o) hx hb dJ30_get_1 rfl (lv_at hl 0 rfl) ?_
  refine z_geti X hB.1 kc_J30 in_J30 (j := 2) (Nat.le_of_ble_eq_true rfl) q1106 (fun _ h => h) rfl (by decide) ho dJ30_get_2 ?_
  refine z_callip (z_runS (rest := []) [.int x1, .int (I o 2)] pk_J28_checkIndex (met_J28_checkIndex x1 (I o 2) _ h) X hB (fun h => h) q2343 rfl hl.1 (Nat.le_of_ble_eq_true rfl) dJ30_get_5 (Nat.le_refl 0) (Nat.le_refl 0) (by decide) (by decide)) hB (fun r1 H locs h9 hB => ?_)
  replace h := h9
  clear h9
  refine lv_pop hx hb dJ30_get_8 rfl ?_
  refine lv_aload_n (x := o) hx hb dJ30_get_9 rfl (lv_at hl 0 rfl) ?_
  refine lv_iload_n hx hb dJ30_get_10 rfl (lv_at hl 1 rfl) ?_
  refine z_callrp (z_runV (rest := []) [.int x1] pk_J30_elementData (met_J30_elementData o x1 _ h) X hB (fun h => h) q2347 kc_J30 (by decide) ho rfl hl.1 (Nat.le_of_ble_eq_true rfl) dJ30_get_11 (Nat.le_refl 0) (Nat.le_refl 0) (by decide) (by decide)) hB (fun r2 H locs h9 hB => ?_)
  replace h := h9
  clear h9
  exact z_aret (v := r2) X (by first | exact Or.inl ⟨_, rfl⟩ | exact Or.inr ⟨_, rfl⟩) hB ⟨_, rfl, h, rfl, rfl, rfl⟩ (Nat.le_refl 0) (Nat.le_refl 0) dJ30_get_14
theorem pk_J30_get : z_PV RJ30 yJ30_get cJ30_get 2 (some (.object "java/lang/Object")) 1 := ⟨q2340, q2341, q127, q2342, by decide +kernel⟩
theorem met_J30_get {l : Launch} {G : z_E} {T : z_T} {I : z_I} {Q : z_Q} (o : Nat) (x1 : Int32) (Qk : Option Nat → Prop) (h : wp_J30_get T I Q o x1 Qk) : z_GM l G yJ30_get (ws_ yJ30_get cJ30_get 2 (some (.object "java/lang/Object"))) 10 163 0 0 [.ref o, .int x1] z_none T I Q (z_pr Qk T I Q) z_no := by
  obtain ⟨ho, h⟩ := h
  refine z_body (own := RJ30) (nm := "get") (by decide +kernel) rfl rfl (Nat.le_of_ble_eq_true rfl) (fun p e R s m below meth c A ls X hB hl => ?_)
  exact ww_J30_get_0 X ho hB hl h
/-! J46_init -/
theorem ww_J46_init_0 {co : Nat} {o : Nat} {Qk : z_T → z_I → z_Q → Prop} (X : z_X l G A p R s m args meth c cJ46_init 2 RJ46 "<init>" none 0 0 10 162) (ho : (T0 o).1 = 18) (hoc : (T0 o).2.2 = co) {T : z_T} {I : z_I} {Q : z_Q} {x1 : Option Nat} {H : Heap} {locs : List Loc} {ls : Array Slot} (hB : z_HB G (z_co co) A s.heap T0 I0 Q0 T I Q H locs) (hl : lv_has ls 2 [(0, .ref o), (1, va_rf x1)]) (h : wb_J46_init_0 co o Qk T I Q x1) : W p l e R s m args below meth c H locs 0 0 (z_MQ below G (z_co co) A T0 I0 Q0 (z_qv Qk) z_no args s 0 0) (F0 m 0 ls []) := by
  obtain ⟨hx, hb, -⟩ := id X
  unfold wb_J46_init_0 at h
  refine lv_aload_n (x := o) hx hb dJ46_init_0 rfl (lv_at hl 0 rfl) ?_
  refine z_aload_n (x := x1) hx hb dJ46_init_1 rfl (lv_at hl 1 rfl) ?_
  obtain ⟨Q1, eQ1⟩ : ∃ z, z = z_up Q o 3 x1 := ⟨_, rfl⟩
  replace h := h Q1 eQ1
  refine z_putqF (x := x1) eQ1 tyJ46 X hB kc_J46 in_J46 tyJ46_ok nmJ46 (j := 3) (Nat.le_of_ble_eq_true rfl) q2208 (fun _ h => h) rfl rfl rfl (by decide) (z_fo hB ho (by decide)) (z_foc hB ho (by decide) hoc) rfl (Or.inl ⟨_, rfl⟩) dJ46_init_2 (fun H locs hB => ?_)
  refine lv_aload_n (x := o) hx hb dJ46_init_5 rfl (lv_at hl 0 rfl) ?_
  refine z_objInit (rest := []) X q2197 hl.1 dJ46_init_6 (by decide) (Nat.le_of_ble_eq_true rfl) ?_
  refine lv_aload_n (x := o) hx hb dJ46_init_9 rfl (lv_at hl 0 rfl) ?_
  refine lv_aload_n (x := o) hx hb dJ46_init_10 rfl (lv_at hl 0 rfl) ?_
  refine z_getq X hB.1 kc_J46 in_J46 (j := 3) (Nat.le_of_ble_eq_true rfl) q2208 (fun _ h => h) rfl (by decide) (z_fo hB ho (by decide)) dJ46_init_11 ?_
  obtain ⟨a2, ea2, h⟩ := h
  refine z_stk (st' := [.ref a2, .ref o]) (by rw [ea2] <;> rfl) ?_
  obtain ⟨hk_a2, h⟩ := h
  refine z_callip (z_runV (rest := [.ref o]) [] pk_J31_size (met_J31_size a2 _ h) X hB (fun h => h) q2198 kc_J31 (by decide) hk_a2 rfl hl.1 (Nat.le_of_ble_eq_true rfl) dJ46_init_14 (Nat.le_refl 0) (Nat.le_refl 0) (by decide) (by decide)) hB (fun r3 H locs h9 hB => ?_)
  replace h := h9
  clear h9
  obtain ⟨I4, eI4⟩ : ∃ z, z = z_up I o 1 r3 := ⟨_, rfl⟩
  replace h := h I4 eI4
  refine z_puti (x := r3) eI4 tyJ46 X hB kc_J46 in_J46 tyJ46_ok nmJ46 (j := 1) (Nat.le_of_ble_eq_true rfl) q2206 (fun _ h => h) rfl rfl (by decide) (z_fo hB ho (by decide)) (z_foc hB ho (by decide) hoc) rfl (Or.inl rfl) dJ46_init_17 (fun H locs hB => ?_)
  refine lv_aload_n (x := o) hx hb dJ46_init_20 rfl (lv_at hl 0 rfl) ?_
  refine lv_iconst (v := (-1)) hx hb dJ46_init_21 (by decide) ?_
  obtain ⟨I5, eI5⟩ : ∃ z, z = z_up I4 o 2 (-1) := ⟨_, rfl⟩
  replace h := h I5 eI5
  refine z_puti (x := (-1)) eI5 tyJ46 X hB kc_J46 in_J46 tyJ46_ok nmJ46 (j := 2) (Nat.le_of_ble_eq_true rfl) q2207 (fun _ h => h) rfl rfl (by decide) (z_fo hB ho (by decide)) (z_foc hB ho (by decide) hoc) rfl (Or.inl rfl) dJ46_init_22 (fun H locs hB => ?_)
  refine lv_aload_n (x := o) hx hb dJ46_init_25 rfl (lv_at hl 0 rfl) ?_
  refine z_aload_n (x := x1) hx hb dJ46_init_26 rfl (lv_at hl 1 rfl) ?_
  obtain ⟨a6, rfl, h⟩ := h
  obtain ⟨hk_a6, h⟩ := h
  refine z_geti X hB.1 kc_J31 in_J31 (j := 1) (Nat.le_of_ble_eq_true rfl) q1128 (fun _ h => h) rfl (by decide) hk_a6 dJ46_init_27 ?_
  obtain ⟨I7, eI7⟩ : ∃ z, z = z_up I5 o 0 (I5 a6 1) := ⟨_, rfl⟩
  replace h := h I7 eI7
  refine z_puti (x := (I5 a6 1)) eI7 tyJ46 X hB kc_J46 in_J46 tyJ46_ok nmJ46 (j := 0) (Nat.le_of_ble_eq_true rfl) q2205 (fun _ h => h) rfl rfl (by decide) (z_fo hB ho (by decide)) (z_foc hB ho (by decide) hoc) rfl (Or.inl rfl) dJ46_init_30 (fun H locs hB => ?_)
  exact z_vret X hB ⟨rfl, h⟩ (Nat.le_refl 0) (Nat.le_refl 0) dJ46_init_33
theorem pk_J46_init : z_PI yJ46_init cJ46_init 2 1 := ⟨q2195, q147, q2196, rfl, by decide +kernel⟩
theorem met_J46_init {l : Launch} {G : z_E} {T : z_T} {I : z_I} {Q : z_Q} (co : Nat) (o : Nat) (x1 : Option Nat) (Qk : z_T → z_I → z_Q → Prop) (h : wp_J46_init co T I Q o x1 Qk) : z_GM l G yJ46_init (ws_ yJ46_init cJ46_init 2 none) 10 162 0 0 [.ref o, va_rf x1] (z_co co) T I Q (z_qv Qk) z_no := by
  obtain ⟨ho, hoc, h⟩ := h
  refine z_body (own := RJ46) (nm := "<init>") (by decide +kernel) rfl rfl (by cases x1 <;> exact Nat.le_of_ble_eq_true rfl) (fun p e R s m below meth c A ls X hB hl => ?_)
  replace hl : lv_has ls 2 [(0, .ref o), (1, va_rf x1)] := by cases x1 <;> exact hl
  exact ww_J46_init_0 X ho hoc hB hl h
/-! J31_iterator -/
theorem ww_J31_iterator_0 {co : Nat} {o : Nat} {Qk : Option Nat → z_T → z_I → z_Q → Prop} (X : z_X l G A p R s m args meth c cJ31_iterator 1 RJ31 "iterator" (some (.object "java/util/Iterator")) mc ms 11 183) (ho : (T0 o).1 = 17) {cells slots : Nat} {T : z_T} {I : z_I} {Q : z_Q} {kc : Nat} {ks : Nat} {H : Heap} {locs : List Loc} {ls : Array Slot} (hB : z_HB G (z_co co) A s.heap T0 I0 Q0 T I Q H locs) (hK1 : cells + kc ≤ mc) (hK2 : slots + ks ≤ ms) (hl : lv_has ls 1 [(0, .ref o)]) (h : wb_J31_iterator_0 co o Qk T I Q kc ks) : W p l e R s m args below meth c H locs cells slots (z_MQ below G (z_co co) A T0 I0 Q0 (z_qr Qk) z_no args s mc ms) (F0 m 0 ls []) := by
  obtain ⟨hx, hb, -⟩ := id X
  unfold wb_J31_iterator_0 at h
  obtain ⟨g1, g2, h⟩ := h
  refine z_new (col := co) tyJ46 X hB kc_J46 in_J46 tyJ46_ok q2192 q2193 q147 (by decide) (z_dvJ46) rfl (z_k1 hK1 g1) (z_k1 hK2 g2) dJ31_iterator_0 (fun a1 H hq hB => ?_)
  obtain ⟨T2, eT2⟩ : ∃ z, z = z_t T a1 (18, 0, co) := ⟨_, rfl⟩
  obtain ⟨I3, eI3⟩ : ∃ z, z = z_row I a1 (fun _ => 0) := ⟨_, rfl⟩
  obtain ⟨Q4, eQ4⟩ : ∃ z, z = z_row Q a1 (fun _ => none) := ⟨_, rfl⟩
  rw [← eT2, ← eI3, ← eQ4] at hB
  replace h := h a1 T2 I3 Q4 hq eT2 eI3 eQ4
  have hk_a1 := z_tq eT2
  have hc_a1 : (T2 a1).2.2 = co := by rw [z_tqc eT2]
  replace hK1 := z_k2 hK1 g1
  replace hK2 := z_k2 hK2 g2
  refine lv_dup hx hb dJ31_iterator_3 rfl ?_
  refine lv_aload_n (x := o) hx hb dJ31_iterator_4 rfl (lv_at hl 0 rfl) ?_
  refine z_callv (z_runI (rest := [.ref a1]) [.ref o] pk_J46_init (met_J46_init co a1 o _ h) X hB hB.2.2.2.2.2.2 q2194 rfl hl.1 (Nat.le_of_ble_eq_true rfl) dJ31_iterator_5 (z_k4 hK1) (z_k4 hK2) (by decide) (by decide)) hB (fun _ h => h) (fun T6 I7 Q8 H locs h9 hF hB => ?_)
  replace h := h9
  clear h9
  replace h := h hF
  have hc_a1 : (T6 a1).2.2 = co := by rw [z_te hF hk_a1 (by decide)]; exact hc_a1
  have hk_a1 := z_tk hF hk_a1 (by decide)
  exact z_aret (v := (some a1)) X (by first | exact Or.inl ⟨_, rfl⟩ | exact Or.inr ⟨_, rfl⟩) hB ⟨_, rfl, h⟩ (z_k3 hK1) (z_k3 hK2) dJ31_iterator_8
theorem pk_J31_iterator : z_PV RJ31 yJ31_iterator cJ31_iterator 1 (some (.object "java/util/Iterator")) 0 := ⟨q2189, q2190, q128, q2191, by decide +kernel⟩
theorem met_J31_iterator {l : Launch} {G : z_E} {T : z_T} {I : z_I} {Q : z_Q} (co : Nat) (o : Nat) (kc : Nat) (ks : Nat) (Qk : Option Nat → z_T → z_I → z_Q → Prop) (h : wp_J31_iterator co T I Q o kc ks Qk) : z_GM l G yJ31_iterator (ws_ yJ31_iterator cJ31_iterator 1 (some (.object "java/util/Iterator"))) 11 183 kc ks [.ref o] (z_co co) T I Q (z_qr Qk) z_no := by
  obtain ⟨ho, h⟩ := h
  refine z_body (own := RJ31) (nm := "iterator") (by decide +kernel) rfl rfl (Nat.le_of_ble_eq_true rfl) (fun p e R s m below meth c A ls X hB hl => ?_)
  exact ww_J31_iterator_0 X ho hB z_k0 z_k0 hl h
/-! X4_become -/
theorem ww_X4_become_94 {co : Nat} {o : Nat} {Qk : z_T → z_I → z_Q → Prop} (X : z_X l G A p R s m args meth c cX4_become 4 RX4 "become" none mc ms 12 214) (ho : (T0 o).1 = 4) (hoc : (T0 o).2.2 = co) {cells slots : Nat} {T : z_T} {I : z_I} {Q : z_Q} {kc : Nat} {ks : Nat} {x1 : Option Nat} {s1 : Option Nat} {H : Heap} {locs : List Loc} {ls : Array Slot} (hB : z_HB G (z_co co) A s.heap T0 I0 Q0 T I Q H locs) (hK1 : cells + kc ≤ mc) (hK2 : slots + ks ≤ ms) (hl : lv_has ls 4 [(0, .ref o), (1, va_rf x1)]) (h : wb_X4_become_94 G.2.2 co o Qk T I Q kc ks x1 s1) : W p l e R s m args below meth c H locs cells slots (z_MQ below G (z_co co) A T0 I0 Q0 (z_qv Qk) z_no args s mc ms) (F0 m 94 ls [va_rf s1, .ref o]) := by
  obtain ⟨hx, hb, -⟩ := id X
  unfold wb_X4_become_94 at h
  obtain ⟨Q34, eQ34⟩ : ∃ z, z = z_up Q o 3 s1 := ⟨_, rfl⟩
  replace h := h Q34 eQ34
  refine z_putq (x := s1) eQ34 tyX4 X hB kc_X4 in_X4 tyX4_ok nmX4 (j := 3) (Nat.le_of_ble_eq_true rfl) q1185 (fun _ h => h) rfl rfl (by decide) (z_fo hB ho (by decide)) (z_foc hB ho (by decide) hoc) rfl (Or.inl ⟨_, rfl⟩) dX4_become_94 (fun H locs hB => ?_)
  refine lv_aload_n (x := o) hx hb dX4_become_97 rfl (lv_at hl 0 rfl) ?_
  refine z_aload_n (x := x1) hx hb dX4_become_98 rfl (lv_at hl 1 rfl) ?_
  obtain ⟨a35, rfl, h⟩ := h
  obtain ⟨hk_a35, h⟩ := h
  refine z_geti X hB.1 kc_X4 in_X4 (j := 4) (Nat.le_of_ble_eq_true rfl) q1187 (fun _ h => h) rfl (by decide) hk_a35 dX4_become_99 ?_
  obtain ⟨I36, eI36⟩ : ∃ z, z = z_up I o 4 (I a35 4) := ⟨_, rfl⟩
  replace h := h I36 eI36
  refine z_puti (x := (I a35 4)) eI36 tyX4 X hB kc_X4 in_X4 tyX4_ok nmX4 (j := 4) (Nat.le_of_ble_eq_true rfl) q1187 (fun _ h => h) rfl rfl (by decide) (z_fo hB ho (by decide)) (z_foc hB ho (by decide) hoc) rfl (Or.inl rfl) dX4_become_102 (fun H locs hB => ?_)
  refine lv_aload_n (x := o) hx hb dX4_become_105 rfl (lv_at hl 0 rfl) ?_
  refine lv_aload_n (x := a35) hx hb dX4_become_106 rfl (lv_at hl 1 rfl) ?_
  refine z_geti X hB.1 kc_X4 in_X4 (j := 5) (Nat.le_of_ble_eq_true rfl) q1190 (fun _ h => h) rfl (by decide) hk_a35 dX4_become_107 ?_
  obtain ⟨I37, eI37⟩ : ∃ z, z = z_up I36 o 5 (I36 a35 5) := ⟨_, rfl⟩
  replace h := h I37 eI37
  refine z_puti (x := (I36 a35 5)) eI37 tyX4 X hB kc_X4 in_X4 tyX4_ok nmX4 (j := 5) (Nat.le_of_ble_eq_true rfl) q1190 (fun _ h => h) rfl rfl (by decide) (z_fo hB ho (by decide)) (z_foc hB ho (by decide) hoc) rfl (Or.inl rfl) dX4_become_110 (fun H locs hB => ?_)
  refine lv_aload_n (x := o) hx hb dX4_become_113 rfl (lv_at hl 0 rfl) ?_
  refine lv_aload_n (x := a35) hx hb dX4_become_114 rfl (lv_at hl 1 rfl) ?_
  refine z_geti X hB.1 kc_X4 in_X4 (j := 6) (Nat.le_of_ble_eq_true rfl) q1191 (fun _ h => h) rfl (by decide) hk_a35 dX4_become_115 ?_
  obtain ⟨I38, eI38⟩ : ∃ z, z = z_up I37 o 6 (I37 a35 6) := ⟨_, rfl⟩
  replace h := h I38 eI38
  refine z_puti (x := (I37 a35 6)) eI38 tyX4 X hB kc_X4 in_X4 tyX4_ok nmX4 (j := 6) (Nat.le_of_ble_eq_true rfl) q1191 (fun _ h => h) rfl rfl (by decide) (z_fo hB ho (by decide)) (z_foc hB ho (by decide) hoc) rfl (Or.inl rfl) dX4_become_118 (fun H locs hB => ?_)
  refine lv_aload_n (x := o) hx hb dX4_become_121 rfl (lv_at hl 0 rfl) ?_
  refine lv_aload_n (x := a35) hx hb dX4_become_122 rfl (lv_at hl 1 rfl) ?_
  refine z_geti X hB.1 kc_X4 in_X4 (j := 7) (Nat.le_of_ble_eq_true rfl) q1192 (fun _ h => h) rfl (by decide) hk_a35 dX4_become_123 ?_
  obtain ⟨I39, eI39⟩ : ∃ z, z = z_up I38 o 7 (I38 a35 7) := ⟨_, rfl⟩
  replace h := h I39 eI39
  refine z_puti (x := (I38 a35 7)) eI39 tyX4 X hB kc_X4 in_X4 tyX4_ok nmX4 (j := 7) (Nat.le_of_ble_eq_true rfl) q1192 (fun _ h => h) rfl rfl (by decide) (z_fo hB ho (by decide)) (z_foc hB ho (by decide) hoc) rfl (Or.inl rfl) dX4_become_126 (fun H locs hB => ?_)
  refine lv_aload_n (x := o) hx hb dX4_become_129 rfl (lv_at hl 0 rfl) ?_
  refine lv_aload_n (x := a35) hx hb dX4_become_130 rfl (lv_at hl 1 rfl) ?_
  refine z_geti X hB.1 kc_X4 in_X4 (j := 8) (Nat.le_of_ble_eq_true rfl) q1195 (fun _ h => h) rfl (by decide) hk_a35 dX4_become_131 ?_
  obtain ⟨I40, eI40⟩ : ∃ z, z = z_up I39 o 8 (I39 a35 8) := ⟨_, rfl⟩
  replace h := h I40 eI40
  refine z_puti (x := (I39 a35 8)) eI40 tyX4 X hB kc_X4 in_X4 tyX4_ok nmX4 (j := 8) (Nat.le_of_ble_eq_true rfl) q1195 (fun _ h => h) rfl rfl (by decide) (z_fo hB ho (by decide)) (z_foc hB ho (by decide) hoc) rfl (Or.inl rfl) dX4_become_134 (fun H locs hB => ?_)
  refine lv_aload_n (x := o) hx hb dX4_become_137 rfl (lv_at hl 0 rfl) ?_
  refine lv_aload_n (x := a35) hx hb dX4_become_138 rfl (lv_at hl 1 rfl) ?_
  refine z_geti X hB.1 kc_X4 in_X4 (j := 9) (Nat.le_of_ble_eq_true rfl) q1197 (fun _ h => h) rfl (by decide) hk_a35 dX4_become_139 ?_
  obtain ⟨I41, eI41⟩ : ∃ z, z = z_up I40 o 9 (I40 a35 9) := ⟨_, rfl⟩
  replace h := h I41 eI41
  refine z_puti (x := (I40 a35 9)) eI41 tyX4 X hB kc_X4 in_X4 tyX4_ok nmX4 (j := 9) (Nat.le_of_ble_eq_true rfl) q1197 (fun _ h => h) rfl rfl (by decide) (z_fo hB ho (by decide)) (z_foc hB ho (by decide) hoc) rfl (Or.inl rfl) dX4_become_142 (fun H locs hB => ?_)
  refine lv_aload_n (x := o) hx hb dX4_become_145 rfl (lv_at hl 0 rfl) ?_
  refine lv_aload_n (x := a35) hx hb dX4_become_146 rfl (lv_at hl 1 rfl) ?_
  refine z_geti X hB.1 kc_X4 in_X4 (j := 10) (Nat.le_of_ble_eq_true rfl) q1199 (fun _ h => h) rfl (by decide) hk_a35 dX4_become_147 ?_
  obtain ⟨I42, eI42⟩ : ∃ z, z = z_up I41 o 10 (I41 a35 10) := ⟨_, rfl⟩
  replace h := h I42 eI42
  refine z_puti (x := (I41 a35 10)) eI42 tyX4 X hB kc_X4 in_X4 tyX4_ok nmX4 (j := 10) (Nat.le_of_ble_eq_true rfl) q1199 (fun _ h => h) rfl rfl (by decide) (z_fo hB ho (by decide)) (z_foc hB ho (by decide) hoc) rfl (Or.inl rfl) dX4_become_150 (fun H locs hB => ?_)
  refine lv_aload_n (x := o) hx hb dX4_become_153 rfl (lv_at hl 0 rfl) ?_
  refine lv_aload_n (x := a35) hx hb dX4_become_154 rfl (lv_at hl 1 rfl) ?_
  refine z_geti X hB.1 kc_X4 in_X4 (j := 11) (Nat.le_of_ble_eq_true rfl) q1201 (fun _ h => h) rfl (by decide) hk_a35 dX4_become_155 ?_
  obtain ⟨I43, eI43⟩ : ∃ z, z = z_up I42 o 11 (I42 a35 11) := ⟨_, rfl⟩
  replace h := h I43 eI43
  refine z_puti (x := (I42 a35 11)) eI43 tyX4 X hB kc_X4 in_X4 tyX4_ok nmX4 (j := 11) (Nat.le_of_ble_eq_true rfl) q1201 (fun _ h => h) rfl rfl (by decide) (z_fo hB ho (by decide)) (z_foc hB ho (by decide) hoc) rfl (Or.inl rfl) dX4_become_158 (fun H locs hB => ?_)
  refine lv_aload_n (x := o) hx hb dX4_become_161 rfl (lv_at hl 0 rfl) ?_
  refine lv_aload_n (x := a35) hx hb dX4_become_162 rfl (lv_at hl 1 rfl) ?_
  refine z_geti X hB.1 kc_X4 in_X4 (j := 12) (Nat.le_of_ble_eq_true rfl) q1203 (fun _ h => h) rfl (by decide) hk_a35 dX4_become_163 ?_
  obtain ⟨hz, h⟩ := h
  obtain ⟨I44, eI44⟩ : ∃ z, z = z_up I43 o 12 (I43 a35 12) := ⟨_, rfl⟩
  replace h := h I44 eI44
  refine z_puti (x := (I43 a35 12)) eI44 tyX4 X hB kc_X4 in_X4 tyX4_ok nmX4 (j := 12) (Nat.le_of_ble_eq_true rfl) q1203 (fun _ h => h) rfl rfl (by decide) (z_fo hB ho (by decide)) (z_foc hB ho (by decide) hoc) rfl (Or.inr ⟨rfl, hz⟩) dX4_become_166 (fun H locs hB => ?_)
  exact z_vret X hB ⟨rfl, h⟩ (z_k3 hK1) (z_k3 hK2) dX4_become_169
theorem wv_X4_become_16 {co : Nat} {o : Nat} {Qk : z_T → z_I → z_Q → Prop} (X : z_X l G A p R s m args meth c cX4_become 4 RX4 "become" none mc ms 12 214) (ho : (T0 o).1 = 4) (hoc : (T0 o).2.2 = co) : ∀ (n : Nat) {cells slots : Nat} {T : z_T} {I : z_I} {Q : z_Q} {kc : Nat} {ks : Nat} {x1 : Option Nat} {x2 : Option Nat} {H : Heap} {locs : List Loc} {ls : Array Slot}, z_HB G (z_co co) A s.heap T0 I0 Q0 T I Q H locs → cells + kc ≤ mc → slots + ks ≤ ms → lv_has ls 4 [(0, .ref o), (1, va_rf x1), (2, va_rf x2)] → wl_X4_become_16 G.2.2 co o Qk n T I Q kc ks x1 x2 → W p l e R s m args below meth c H locs cells slots (z_MQ below G (z_co co) A T0 I0 Q0 (z_qv Qk) z_no args s mc ms) (F0 m 16 ls []) := by
  intro n
  induction n with
  | zero =>
    intro cells slots T I Q kc ks x1 x2 H locs ls hB hK1 hK2 hl h
    exact h.elim
  | succ n ih =>
    intro cells slots T I Q kc ks x1 x2 H locs ls hB hK1 hK2 hl h
    obtain ⟨hx, hb, -⟩ := id X
    unfold wl_X4_become_16 at h
    refine z_aload_n (x := x2) hx hb dX4_become_16 rfl (lv_at hl 2 rfl) ?_
    obtain ⟨a10, rfl, h⟩ := h
    refine z_call5zp (z_run_itHas (rest := []) h X hB q2335 hl.1 (Nat.le_of_ble_eq_true rfl) dX4_become_17 (z_k4 hK1) (z_k4 hK2) (by decide) (by decide)) hB (fun r11 H locs hz h9 hB => ?_)
    replace h := h9
    clear h9
    replace h := h hz
    refine lv_if_eq (tgt := 62) hx hb dX4_become_22 (by decide) (fun c12 => ?_) (fun c12 => ?_)
    · replace h := h.1 c12
      refine lv_aload_n (x := o) hx hb dX4_become_62 rfl (lv_at hl 0 rfl) ?_
      refine z_aload_n (x := x1) hx hb dX4_become_63 rfl (lv_at hl 1 rfl) ?_
      obtain ⟨a13, rfl, h⟩ := h
      obtain ⟨hk_a13, h⟩ := h
      refine z_getq X hB.1 kc_X4 in_X4 (j := 3) (Nat.le_of_ble_eq_true rfl) q1185 (fun _ h => h) rfl (by decide) hk_a13 dX4_become_64 ?_
      refine z_ifnonnull (tgt := 74) hx hb dX4_become_67 (by decide) (fun a15 c14 => ?_) (fun c14 => ?_)
      · replace h := h.2 a15 c14
        refine lv_aload_n (x := o) hx hb dX4_become_74 rfl (lv_at hl 0 rfl) ?_
        refine z_getq X hB.1 kc_X4 in_X4 (j := 13) (Nat.le_of_ble_eq_true rfl) q1204 (fun _ h => h) rfl (by decide) (z_fo hB ho (by decide)) dX4_become_75 ?_
        obtain ⟨a16, ea16, h⟩ := h
        refine z_stk (st' := [.ref a16, .ref o]) (by rw [ea16] <;> rfl) ?_
        obtain ⟨hk_a16, h⟩ := h
        refine z_getqN X hB.1 kc_X2 in_X2 (j := 3) (Nat.le_of_ble_eq_true rfl) q1246 (fun _ h => h) rfl (by decide) hk_a16 dX4_become_78 ?_
        refine lv_aload_n (x := a13) hx hb dX4_become_81 rfl (lv_at hl 1 rfl) ?_
        refine z_getq X hB.1 kc_X4 in_X4 (j := 3) (Nat.le_of_ble_eq_true rfl) q1185 (fun _ h => h) rfl (by decide) hk_a13 dX4_become_82 ?_
        refine z_stk (st' := [.ref a15, va_rf (Q a16 3), .ref o]) (by rw [c14] <;> rfl) ?_
        obtain ⟨hk_a15, h⟩ := h
        refine z_getiN X hB.1 kc_X6 in_X6 (j := 0) (Nat.le_of_ble_eq_true rfl) q2287 (fun _ h => h) rfl (by decide) hk_a15 dX4_become_85 ?_
        obtain ⟨a17, ea17, h⟩ := h
        refine z_stk (st' := [.int (I a15 0), .ref a17, .ref o]) (by rw [ea17] <;> rfl) ?_
        obtain ⟨hk_a17, h⟩ := h
        refine z_callrp (z_runV (rest := [.ref o]) [.int (I a15 0)] pk_J30_get (met_J30_get a17 (I a15 0) _ h) X hB (fun h => h) q2339 kc_J30 (by decide) hk_a17 rfl hl.1 (Nat.le_of_ble_eq_true rfl) dX4_become_88 (z_k4 hK1) (z_k4 hK2) (by decide) (by decide)) hB (fun r18 H locs h9 hB => ?_)
        replace h := h9
        clear h9
        obtain ⟨h2, h⟩ := h
        refine z_castR X hB.1 kc_X6 (by decide) h2 q2338 (Or.inl rfl) dX4_become_91 ?_
        exact ww_X4_become_94 X ho hoc  hB hK1 hK2 (lv_sub hl [0, 1] rfl) h
      · replace h := h.1 c14
        refine lv_null hx hb dX4_become_70 ?_
        refine z_stk (st' := [va_rf none, .ref o]) rfl ?_
        refine lv_goto (tgt := 94) hx hb dX4_become_71 (by decide) ?_
        exact ww_X4_become_94 X ho hoc  hB hK1 hK2 (lv_sub hl [0, 1] rfl) h
    · replace h := h.2 c12
      refine lv_aload_n (x := a10) hx hb dX4_become_25 rfl (lv_at hl 2 rfl) ?_
      refine z_call5r (z_run_itNext (rest := []) h X hB hB.2.2.2.2.2.2 q2337 hl.1 (Nat.le_of_ble_eq_true rfl) dX4_become_26 (z_k4 hK1) (z_k4 hK2) (by decide) (by decide)) hB (fun _ h => h) (fun r19 T20 I21 Q22 H locs h9 hF hB => ?_)
      replace h := h9
      clear h9
      replace h := h hF
      obtain ⟨h2, h⟩ := h
      refine z_castR X hB.1 kc_X6 (by decide) h2 q2338 (Or.inl rfl) dX4_become_31 ?_
      refine z_astore_n (x := r19) (lv' := [(3, va_rf r19), (0, .ref o), (1, va_rf x1), (2, .ref a10)]) hx hb dX4_become_34 rfl hl (by decide) rfl (fun ls hl9 => ?_)
      replace hl := hl9
      clear hl9
      refine lv_aload_n (x := o) hx hb dX4_become_35 rfl (lv_at hl 1 rfl) ?_
      refine z_getq X hB.1 kc_X4 in_X4 (j := 2) (Nat.le_of_ble_eq_true rfl) q1182 (fun _ h => h) rfl (by decide) (z_fo hB ho (by decide)) dX4_become_36 ?_
      refine lv_aload_n (x := o) hx hb dX4_become_39 rfl (lv_at hl 1 rfl) ?_
      refine z_getq X hB.1 kc_X4 in_X4 (j := 13) (Nat.le_of_ble_eq_true rfl) q1204 (fun _ h => h) rfl (by decide) (z_fo hB ho (by decide)) dX4_become_40 ?_
      obtain ⟨a23, ea23, h⟩ := h
      refine z_stk (st' := [.ref a23, va_rf (Q22 o 2)]) (by rw [ea23] <;> rfl) ?_
      obtain ⟨hk_a23, h⟩ := h
      refine z_getqN X hB.1 kc_X2 in_X2 (j := 3) (Nat.le_of_ble_eq_true rfl) q1246 (fun _ h => h) rfl (by decide) hk_a23 dX4_become_43 ?_
      refine z_aload_n (x := r19) hx hb dX4_become_46 rfl (lv_at hl 0 rfl) ?_
      obtain ⟨a24, rfl, h⟩ := h
      obtain ⟨hk_a24, h⟩ := h
      refine z_getiN X hB.1 kc_X6 in_X6 (j := 0) (Nat.le_of_ble_eq_true rfl) q2287 (fun _ h => h) rfl (by decide) hk_a24 dX4_become_47 ?_
      obtain ⟨a25, ea25, h⟩ := h
      refine z_stk (st' := [.int (I21 a24 0), .ref a25, va_rf (Q22 o 2)]) (by rw [ea25] <;> rfl) ?_
      obtain ⟨hk_a25, h⟩ := h
      refine z_callrp (z_runV (rest := [va_rf (Q22 o 2)]) [.int (I21 a24 0)] pk_J30_get (met_J30_get a25 (I21 a24 0) _ h) X hB (fun h => h) q2339 kc_J30 (by decide) hk_a25 rfl hl.1 (by simp [z_cat, z_cati, z_catl, z_catf, z_catd, z_catq]) dX4_become_50 (z_k4 hK1) (z_k4 hK2) (by decide) (by decide)) hB (fun r26 H locs h9 hB => ?_)
      replace h := h9
      clear h9
      obtain ⟨h2, h⟩ := h
      refine z_castR X hB.1 kc_X6 (by decide) h2 q2338 (Or.inl rfl) dX4_become_53 ?_
      obtain ⟨a27, ea27, h⟩ := h
      refine z_stk (st' := [va_rf r26, .ref a27]) (by rw [ea27] <;> rfl) ?_
      obtain ⟨hk_a27, h⟩ := h
      obtain ⟨kc29, ks30, g1, g2, h⟩ := h
      refine z_callv (z_runV (rest := []) [va_rf r26] pk_J31_addLast (met_J31_addLast co a27 r26 kc29 ks30 _ h) X hB hB.2.2.2.2.2.2 q2351 kc_J31 (by decide) hk_a27 rfl hl.1 (Nat.le_of_ble_eq_true rfl) dX4_become_56 (z_k1 hK1 g1) (z_k1 hK2 g2) (by decide) (by decide)) hB (fun _ h => h) (fun T31 I32 Q33 H locs h9 hF hB => ?_)
      replace h := h9
      clear h9
      replace h := h hF
      have hk_a24 := z_tk hF hk_a24 (by decide)
      replace hK1 := z_k2 hK1 g1
      replace hK2 := z_k2 hK2 g2
      refine lv_goto (tgt := 16) hx hb dX4_become_59 (by decide) ?_
      exact ih hB hK1 hK2 (lv_sub hl [1, 2, 3] rfl) h
theorem ww_X4_become_0 {co : Nat} {o : Nat} {Qk : z_T → z_I → z_Q → Prop} (X : z_X l G A p R s m args meth c cX4_become 4 RX4 "become" none mc ms 12 214) (ho : (T0 o).1 = 4) (hoc : (T0 o).2.2 = co) {cells slots : Nat} {T : z_T} {I : z_I} {Q : z_Q} {kc : Nat} {ks : Nat} {x1 : Option Nat} {H : Heap} {locs : List Loc} {ls : Array Slot} (hB : z_HB G (z_co co) A s.heap T0 I0 Q0 T I Q H locs) (hK1 : cells + kc ≤ mc) (hK2 : slots + ks ≤ ms) (hl : lv_has ls 4 [(0, .ref o), (1, va_rf x1)]) (h : wb_X4_become_0 G.2.2 co o Qk T I Q kc ks x1) : W p l e R s m args below meth c H locs cells slots (z_MQ below G (z_co co) A T0 I0 Q0 (z_qv Qk) z_no args s mc ms) (F0 m 0 ls []) := by
  obtain ⟨hx, hb, -⟩ := id X
  unfold wb_X4_become_0 at h
  refine lv_aload_n (x := o) hx hb dX4_become_0 rfl (lv_at hl 0 rfl) ?_
  refine z_aload_n (x := x1) hx hb dX4_become_1 rfl (lv_at hl 1 rfl) ?_
  obtain ⟨a1, rfl, h⟩ := h
  obtain ⟨hk_a1, h⟩ := h
  refine z_geti X hB.1 kc_X4 in_X4 (j := 1) (Nat.le_of_ble_eq_true rfl) q1180 (fun _ h => h) rfl (by decide) hk_a1 dX4_become_2 ?_
  obtain ⟨I2, eI2⟩ : ∃ z, z = z_up I o 1 (I a1 1) := ⟨_, rfl⟩
  replace h := h I2 eI2
  refine z_puti (x := (I a1 1)) eI2 tyX4 X hB kc_X4 in_X4 tyX4_ok nmX4 (j := 1) (Nat.le_of_ble_eq_true rfl) q1180 (fun _ h => h) rfl rfl (by decide) (z_fo hB ho (by decide)) (z_foc hB ho (by decide) hoc) rfl (Or.inl rfl) dX4_become_5 (fun H locs hB => ?_)
  refine lv_aload_n (x := a1) hx hb dX4_become_8 rfl (lv_at hl 1 rfl) ?_
  refine z_getq X hB.1 kc_X4 in_X4 (j := 2) (Nat.le_of_ble_eq_true rfl) q1182 (fun _ h => h) rfl (by decide) hk_a1 dX4_become_9 ?_
  obtain ⟨a3, ea3, h⟩ := h
  refine z_stk (st' := [.ref a3]) (by rw [ea3] <;> rfl) ?_
  obtain ⟨hk_a3, h⟩ := h
  obtain ⟨kc5, ks6, g1, g2, h⟩ := h
  refine z_callr (z_runV (rest := []) [] pk_J31_iterator (met_J31_iterator co a3 kc5 ks6 _ h) X hB hB.2.2.2.2.2.2 q2333 kc_J31 (by decide) hk_a3 rfl hl.1 (Nat.le_of_ble_eq_true rfl) dX4_become_12 (z_k1 hK1 g1) (z_k1 hK2 g2) (by decide) (by decide)) hB (fun _ h => h) (fun r4 T7 I8 Q9 H locs h9 hF hB => ?_)
  replace h := h9
  clear h9
  replace h := h hF
  have hk_a1 := z_tk hF hk_a1 (by decide)
  replace hK1 := z_k2 hK1 g1
  replace hK2 := z_k2 hK2 g2
  refine z_astore_n (x := r4) (lv' := [(2, va_rf r4), (0, .ref o), (1, .ref a1)]) hx hb dX4_become_15 rfl hl (by decide) rfl (fun ls hl9 => ?_)
  replace hl := hl9
  clear hl9
  obtain ⟨w, h⟩ := h
  exact wv_X4_become_16 X ho hoc  w hB hK1 hK2 (lv_sub hl [1, 2, 0] rfl) h
theorem pk_X4_become : z_PV RX4 yX4_become cX4_become 4 none 1 := ⟨q2330, q2331, q130, q2332, by decide +kernel⟩
theorem met_X4_become {l : Launch} {G : z_E} {T : z_T} {I : z_I} {Q : z_Q} (co : Nat) (o : Nat) (x1 : Option Nat) (kc : Nat) (ks : Nat) (Qk : z_T → z_I → z_Q → Prop) (h : wp_X4_become G.2.2 co T I Q o x1 kc ks Qk) : z_GM l G yX4_become (ws_ yX4_become cX4_become 4 none) 12 214 kc ks [.ref o, va_rf x1] (z_co co) T I Q (z_qv Qk) z_no := by
  obtain ⟨ho, hoc, h⟩ := h
  refine z_body (own := RX4) (nm := "become") (by decide +kernel) rfl rfl (by cases x1 <;> exact Nat.le_of_ble_eq_true rfl) (fun p e R s m below meth c A ls X hB hl => ?_)
  replace hl : lv_has ls 4 [(0, .ref o), (1, va_rf x1)] := by cases x1 <;> exact hl
  exact ww_X4_become_0 X ho hoc hB z_k0 z_k0 hl h
/-! J31_init -/
theorem ww_J31_init_0 {co : Nat} {o : Nat} {Qk : z_T → z_I → z_Q → Prop} (X : z_X l G A p R s m args meth c cJ31_init 1 RJ31 "<init>" none mc ms 9 140) (ho : (T0 o).1 = 17) (hoc : (T0 o).2.2 = co) {cells slots : Nat} {T : z_T} {I : z_I} {Q : z_Q} {kc : Nat} {ks : Nat} {H : Heap} {locs : List Loc} {ls : Array Slot} (hB : z_HB G (z_co co) A s.heap T0 I0 Q0 T I Q H locs) (hK1 : cells + kc ≤ mc) (hK2 : slots + ks ≤ ms) (hl : lv_has ls 1 [(0, .ref o)]) (h : wb_J31_init_0 co o Qk T I Q kc ks) : W p l e R s m args below meth c H locs cells slots (z_MQ below G (z_co co) A T0 I0 Q0 (z_qv Qk) z_no args s mc ms) (F0 m 0 ls []) := by
  obtain ⟨hx, hb, -⟩ := id X
  unfold wb_J31_init_0 at h
  refine lv_aload_n (x := o) hx hb dJ31_init_0 rfl (lv_at hl 0 rfl) ?_
  refine z_callvp (z_runI (rest := []) [] pk_J0_init (met_J0_init o _ h) X hB (fun h => h) q1123 rfl hl.1 (Nat.le_of_ble_eq_true rfl) dJ31_init_1 (z_k4 hK1) (z_k4 hK2) (by decide) (by decide)) hB (fun H locs h9 hB => ?_)
  replace h := h9
  clear h9
  refine lv_aload_n (x := o) hx hb dJ31_init_4 rfl (lv_at hl 0 rfl) ?_
  refine lv_bipush (v := 17) hx hb dJ31_init_5 (by decide) ?_
  obtain ⟨g1, g2, h⟩ := h
  refine z_newq (k := 2) (n := 17) (col := co) X hB (by decide) q1124 (by decide) rfl (Nat.le_of_ble_eq_true rfl) rfl (z_k1 hK1 g1) (z_k1 hK2 g2) dJ31_init_7 (fun a2 H hq hB => ?_)
  obtain ⟨T3, eT3⟩ : ∃ z, z = z_t T a2 (102, 17, co) := ⟨_, rfl⟩
  obtain ⟨I4, eI4⟩ : ∃ z, z = z_row I a2 (fun _ => 0) := ⟨_, rfl⟩
  obtain ⟨Q5, eQ5⟩ : ∃ z, z = z_row Q a2 (fun _ => none) := ⟨_, rfl⟩
  rw [← eT3, ← eI4, ← eQ5] at hB
  replace h := h a2 T3 I4 Q5 hq eT3 eI4 eQ5
  have hk_a2 := z_tq eT3
  have hc_a2 : (T3 a2).2.2 = co := by rw [z_tqc eT3]
  replace hK1 := z_k2 hK1 g1
  replace hK2 := z_k2 hK2 g2
  obtain ⟨Q6, eQ6⟩ : ∃ z, z = z_up Q5 o 0 (some a2) := ⟨_, rfl⟩
  replace h := h Q6 eQ6
  refine z_putq (x := (some a2)) eQ6 tyJ31 X hB kc_J31 in_J31 tyJ31_ok nmJ31 (j := 0) (Nat.le_of_ble_eq_true rfl) q1126 (fun _ h => h) rfl rfl (by decide) (z_fo hB ho (by decide)) (z_foc hB ho (by decide) hoc) rfl (Or.inr ⟨_, rfl⟩) dJ31_init_10 (fun H locs hB => ?_)
  exact z_vret X hB ⟨rfl, h⟩ (z_k3 hK1) (z_k3 hK2) dJ31_init_13
theorem pk_J31_init : z_PI yJ31_init cJ31_init 1 0 := ⟨q1121, q128, q1122, rfl, by decide +kernel⟩
theorem met_J31_init {l : Launch} {G : z_E} {T : z_T} {I : z_I} {Q : z_Q} (co : Nat) (o : Nat) (kc : Nat) (ks : Nat) (Qk : z_T → z_I → z_Q → Prop) (h : wp_J31_init co T I Q o kc ks Qk) : z_GM l G yJ31_init (ws_ yJ31_init cJ31_init 1 none) 9 140 kc ks [.ref o] (z_co co) T I Q (z_qv Qk) z_no := by
  obtain ⟨ho, hoc, h⟩ := h
  refine z_body (own := RJ31) (nm := "<init>") (by decide +kernel) rfl rfl (Nat.le_of_ble_eq_true rfl) (fun p e R s m below meth c A ls X hB hl => ?_)
  exact ww_J31_init_0 X ho hoc hB z_k0 z_k0 hl h
/-! X4_init -/
theorem ww_X4_init_0 {co : Nat} {o : Nat} {Qk : z_T → z_I → z_Q → Prop} (X : z_X l G A p R s m args meth c cX4_init 3 RX4 "<init>" none mc ms 10 160) (ho : (T0 o).1 = 4) (hoc : (T0 o).2.2 = co) {cells slots : Nat} {T : z_T} {I : z_I} {Q : z_Q} {kc : Nat} {ks : Nat} {x1 : Option Nat} {x2 : Int32} {H : Heap} {locs : List Loc} {ls : Array Slot} (hB : z_HB G (z_co co) A s.heap T0 I0 Q0 T I Q H locs) (hK1 : cells + kc ≤ mc) (hK2 : slots + ks ≤ ms) (hl : lv_has ls 3 [(0, .ref o), (1, va_rf x1), (2, .int x2)]) (h : wb_X4_init_0 co o Qk T I Q kc ks x1 x2) : W p l e R s m args below meth c H locs cells slots (z_MQ below G (z_co co) A T0 I0 Q0 (z_qv Qk) z_no args s mc ms) (F0 m 0 ls []) := by
  obtain ⟨hx, hb, -⟩ := id X
  unfold wb_X4_init_0 at h
  refine lv_aload_n (x := o) hx hb dX4_init_0 rfl (lv_at hl 0 rfl) ?_
  refine z_aload_n (x := x1) hx hb dX4_init_1 rfl (lv_at hl 1 rfl) ?_
  obtain ⟨Q1, eQ1⟩ : ∃ z, z = z_up Q o 13 x1 := ⟨_, rfl⟩
  replace h := h Q1 eQ1
  refine z_putqF (x := x1) eQ1 tyX4 X hB kc_X4 in_X4 tyX4_ok nmX4 (j := 13) (Nat.le_of_ble_eq_true rfl) q1204 (fun _ h => h) rfl rfl rfl (by decide) (z_fo hB ho (by decide)) (z_foc hB ho (by decide) hoc) rfl (Or.inl ⟨_, rfl⟩) dX4_init_2 (fun H locs hB => ?_)
  refine lv_aload_n (x := o) hx hb dX4_init_5 rfl (lv_at hl 0 rfl) ?_
  refine z_objInit (rest := []) X q1175 hl.1 dX4_init_6 (by decide) (Nat.le_of_ble_eq_true rfl) ?_
  refine lv_aload_n (x := o) hx hb dX4_init_9 rfl (lv_at hl 0 rfl) ?_
  refine lv_sipush (v := 255) hx hb dX4_init_10 (by decide) ?_
  obtain ⟨I2, eI2⟩ : ∃ z, z = z_up I o 1 255 := ⟨_, rfl⟩
  replace h := h I2 eI2
  refine z_puti (x := 255) eI2 tyX4 X hB kc_X4 in_X4 tyX4_ok nmX4 (j := 1) (Nat.le_of_ble_eq_true rfl) q1180 (fun _ h => h) rfl rfl (by decide) (z_fo hB ho (by decide)) (z_foc hB ho (by decide) hoc) rfl (Or.inl rfl) dX4_init_13 (fun H locs hB => ?_)
  refine lv_aload_n (x := o) hx hb dX4_init_16 rfl (lv_at hl 0 rfl) ?_
  obtain ⟨g1, g2, h⟩ := h
  refine z_new (col := co) tyJ31 X hB kc_J31 in_J31 tyJ31_ok q1176 q1119 q128 (by decide) (z_dvJ31) rfl (z_k1 hK1 g1) (z_k1 hK2 g2) dX4_init_17 (fun a3 H hq hB => ?_)
  obtain ⟨T4, eT4⟩ : ∃ z, z = z_t T a3 (17, 0, co) := ⟨_, rfl⟩
  obtain ⟨I5, eI5⟩ : ∃ z, z = z_row I2 a3 (fun _ => 0) := ⟨_, rfl⟩
  obtain ⟨Q6, eQ6⟩ : ∃ z, z = z_row Q1 a3 (fun _ => none) := ⟨_, rfl⟩
  rw [← eT4, ← eI5, ← eQ6] at hB
  replace h := h a3 T4 I5 Q6 hq eT4 eI5 eQ6
  have hk_a3 := z_tq eT4
  have hc_a3 : (T4 a3).2.2 = co := by rw [z_tqc eT4]
  replace hK1 := z_k2 hK1 g1
  replace hK2 := z_k2 hK2 g2
  refine lv_dup hx hb dX4_init_20 rfl ?_
  obtain ⟨kc8, ks9, g1, g2, h⟩ := h
  refine z_callv (z_runI (rest := [.ref a3, .ref o]) [] pk_J31_init (met_J31_init co a3 kc8 ks9 _ h) X hB hB.2.2.2.2.2.2 q1177 rfl hl.1 (Nat.le_of_ble_eq_true rfl) dX4_init_21 (z_k1 hK1 g1) (z_k1 hK2 g2) (by decide) (by decide)) hB (fun _ h => h) (fun T10 I11 Q12 H locs h9 hF hB => ?_)
  replace h := h9
  clear h9
  replace h := h hF
  have hc_a3 : (T10 a3).2.2 = co := by rw [z_te hF hk_a3 (by decide)]; exact hc_a3
  have hk_a3 := z_tk hF hk_a3 (by decide)
  replace hK1 := z_k2 hK1 g1
  replace hK2 := z_k2 hK2 g2
  obtain ⟨Q13, eQ13⟩ : ∃ z, z = z_up Q12 o 2 (some a3) := ⟨_, rfl⟩
  replace h := h Q13 eQ13
  refine z_putqF (x := (some a3)) eQ13 tyX4 X hB kc_X4 in_X4 tyX4_ok nmX4 (j := 2) (Nat.le_of_ble_eq_true rfl) q1182 (fun _ h => h) rfl rfl rfl (by decide) (z_fo hB ho (by decide)) (z_foc hB ho (by decide) hoc) rfl (Or.inl ⟨_, rfl⟩) dX4_init_24 (fun H locs hB => ?_)
  refine lv_aload_n (x := o) hx hb dX4_init_27 rfl (lv_at hl 0 rfl) ?_
  refine lv_iload_n hx hb dX4_init_28 rfl (lv_at hl 2 rfl) ?_
  obtain ⟨I14, eI14⟩ : ∃ z, z = z_up I11 o 0 x2 := ⟨_, rfl⟩
  replace h := h I14 eI14
  refine z_putiF (x := x2) eI14 tyX4 X hB kc_X4 in_X4 tyX4_ok nmX4 (j := 0) (Nat.le_of_ble_eq_true rfl) q1178 (fun _ h => h) rfl rfl rfl (by decide) (z_fo hB ho (by decide)) (z_foc hB ho (by decide) hoc) rfl (Or.inl rfl) dX4_init_29 (fun H locs hB => ?_)
  exact z_vret X hB ⟨rfl, h⟩ (z_k3 hK1) (z_k3 hK2) dX4_init_32
theorem pk_X4_init : z_PI yX4_init cX4_init 3 2 := ⟨q1173, q130, q1174, rfl, by decide +kernel⟩
theorem met_X4_init {l : Launch} {G : z_E} {T : z_T} {I : z_I} {Q : z_Q} (co : Nat) (o : Nat) (x1 : Option Nat) (x2 : Int32) (kc : Nat) (ks : Nat) (Qk : z_T → z_I → z_Q → Prop) (h : wp_X4_init co T I Q o x1 x2 kc ks Qk) : z_GM l G yX4_init (ws_ yX4_init cX4_init 3 none) 10 160 kc ks [.ref o, va_rf x1, .int x2] (z_co co) T I Q (z_qv Qk) z_no := by
  obtain ⟨ho, hoc, h⟩ := h
  refine z_body (own := RX4) (nm := "<init>") (by decide +kernel) rfl rfl (by cases x1 <;> exact Nat.le_of_ble_eq_true rfl) (fun p e R s m below meth c A ls X hB hl => ?_)
  replace hl : lv_has ls 3 [(0, .ref o), (1, va_rf x1), (2, .int x2)] := by cases x1 <;> exact hl
  exact ww_X4_init_0 X ho hoc hB z_k0 z_k0 hl h
end
