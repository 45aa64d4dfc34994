/-! THE CODE: walks 3 -/
set_option maxRecDepth 100000
section
variable {p : Program} {l : Launch} {e : Env} {R : Room} {s : State} {m : MethodId} {args : Array Value} {below : List Frame} {meth : Method} {c : Code}
variable {G : z_E} {A : Nat → Prop} {T T0 : z_T} {I I0 : z_I} {Q Q0 : z_Q} {mc ms : Nat}
/-! J17_copyOf_3 -/
theorem ww_J17_copyOf_3_24 {co : Nat} {Qk : Option Nat → z_T → z_I → z_Q → Prop} (X : z_X l G A p R s m args meth c cJ17_copyOf_3 4 RJ17 "copyOf" (some (.array (.object "java/lang/Object"))) mc ms 8 120) {cells slots : Nat} {T : z_T} {I : z_I} {Q : z_Q} {kc : Nat} {ks : Nat} {x0 : Option Nat} {x1 : Int32} {s0 : Option Nat} {H : Heap} {locs : List Loc} {ls : Array Slot} (hB : z_HB G (z_co co) A s.heap T0 I0 Q0 T I Q H locs) (hK1 : cells + kc ≤ mc) (hK2 : slots + ks ≤ ms) (hl : lv_has ls 4 [(0, va_rf x0), (1, .int x1)]) (h : wb_J17_copyOf_3_24 G.2.2 co Qk T I Q kc ks x0 x1 s0) : W p l e R s m args below meth c H locs cells slots (z_MQ below G (z_co co) A T0 I0 Q0 (z_qr Qk) z_no args s mc ms) (F0 m 24 ls [va_rf s0]) := by
  obtain ⟨hx, hb, -⟩ := id X
  unfold wb_J17_copyOf_3_24 at h
  refine z_astore_n (x := s0) (lv' := [(3, va_rf s0), (0, va_rf x0), (1, .int x1)]) hx hb dJ17_copyOf_3_24 rfl hl (by decide) rfl (fun ls hl9 => ?_)
  replace hl := hl9
  clear hl9
  refine z_aload_n (x := x0) hx hb dJ17_copyOf_3_25 rfl (lv_at hl 1 rfl) ?_
  refine lv_iconst (v := 0) hx hb dJ17_copyOf_3_26 (by decide) ?_
  refine z_aload_n (x := s0) hx hb dJ17_copyOf_3_27 rfl (lv_at hl 0 rfl) ?_
  refine lv_iconst (v := 0) hx hb dJ17_copyOf_3_28 (by decide) ?_
  refine z_aload_n (x := x0) hx hb dJ17_copyOf_3_29 rfl (lv_at hl 1 rfl) ?_
  obtain ⟨a6, rfl, h⟩ := h
  obtain ⟨hk_a6, h⟩ := h
  refine z_alen (k := 2) X hB.1 (by decide) hk_a6 dJ17_copyOf_3_30 ?_
  refine lv_iload_n hx hb dJ17_copyOf_3_31 rfl (lv_at hl 2 rfl) ?_
  refine z_mmin (rest := [.int 0, va_rf s0, .int 0, .ref a6]) X hl.1 q327 (by decide) (by simp [z_cat, z_cati, z_catl, z_catf, z_catd, z_catq, nativeFrameWords]) (z_k3 hK1) (z_k3 hK2) dJ17_copyOf_3_32 ?_
  obtain ⟨a7, rfl, h⟩ := h
  obtain ⟨hk_a7, h⟩ := h
  obtain ⟨hc_a7, h⟩ := h
  obtain ⟨h1, h⟩ := h
  obtain ⟨h2, h⟩ := h
  obtain ⟨Q8, eQ8⟩ : ∃ z, z = z_row Q a7 (va_cpy (Q a6) (Q a7) (0 : Int32).toNatClampNeg (0 : Int32).toNatClampNeg (if x1 < (nI (T a6).2.1) then x1 else (nI (T a6).2.1)).toNatClampNeg) := ⟨_, rfl⟩
  replace h := h Q8 eQ8
  refine z_copyq (rest := []) X hB hl.1 hk_a6 hk_a7 hc_a7 h1 h2 q330 (by decide) (Nat.le_of_ble_eq_true rfl) dJ17_copyOf_3_35 (fun H locs hB => ?_)
  rw [← eQ8] at hB
  refine lv_aload_n (x := a7) hx hb dJ17_copyOf_3_38 rfl (lv_at hl 0 rfl) ?_
  exact z_aret (v := (some a7)) X (by first | exact Or.inl ⟨_, rfl⟩ | exact Or.inr ⟨_, rfl⟩) hB ⟨_, rfl, h⟩ (z_k3 hK1) (z_k3 hK2) dJ17_copyOf_3_39
theorem ww_J17_copyOf_3_0 {co : Nat} {Qk : Option Nat → z_T → z_I → z_Q → Prop} (X : z_X l G A p R s m args meth c cJ17_copyOf_3 4 RJ17 "copyOf" (some (.array (.object "java/lang/Object"))) mc ms 8 120) {cells slots : Nat} {T : z_T} {I : z_I} {Q : z_Q} {kc : Nat} {ks : Nat} {x0 : Option Nat} {x1 : Int32} {x2 : Option Nat} {H : Heap} {locs : List Loc} {ls : Array Slot} (hB : z_HB G (z_co co) A s.heap T0 I0 Q0 T I Q H locs) (hK1 : cells + kc ≤ mc) (hK2 : slots + ks ≤ ms) (hl : lv_has ls 4 [(0, va_rf x0), (1, .int x1), (2, va_rf x2)]) (h : wb_J17_copyOf_3_0 G.2.2 co Qk T I Q kc ks x0 x1 x2) : W p l e R s m args below meth c H locs cells slots (z_MQ below G (z_co co) A T0 I0 Q0 (z_qr Qk) z_no args s mc ms) (F0 m 0 ls []) := by
  obtain ⟨hx, hb, -⟩ := id X
  unfold wb_J17_copyOf_3_0 at h
  refine z_aload_n (x := x2) hx hb dJ17_copyOf_3_0 rfl (lv_at hl 2 rfl) ?_
  refine z_ldcM X q2251 dJ17_copyOf_3_1 ?_
  refine lv_acmp_ne (rx := x2) (ry := (some G.2.2.2)) (tgt := 13) hx hb dJ17_copyOf_3_3 (by decide) (fun c1 => ?_) (fun c1 => ?_)
  · replace h := h.1 c1
    refine z_aload_n (x := x2) hx hb dJ17_copyOf_3_13 rfl (lv_at hl 2 rfl) ?_
    exact h.elim
  · replace h := h.2 c1
    refine lv_iload_n hx hb dJ17_copyOf_3_6 rfl (lv_at hl 1 rfl) ?_
    obtain ⟨g3, g4, h⟩ := h
    obtain ⟨g1, g2, h⟩ := h
    refine z_newq (k := 2) (n := x1.toNatClampNeg) (col := co) X hB (by decide) q2252 g3 rfl g4 rfl (z_k1 hK1 g1) (z_k1 hK2 g2) dJ17_copyOf_3_7 (fun a2 H hq hB => ?_)
    obtain ⟨T3, eT3⟩ : ∃ z, z = z_t T a2 (102, x1.toNatClampNeg, co) := ⟨_, rfl⟩
    obtain ⟨I4, eI4⟩ : ∃ z, z = z_row I a2 (fun _ => 0) := ⟨_, rfl⟩
    obtain ⟨Q5, eQ5⟩ : ∃ z, z = z_row Q a2 (fun _ => none) := ⟨_, rfl⟩
    rw [← eT3, ← eI4, ← eQ5] at hB
    replace h := h a2 T3 I4 Q5 hq eT3 eI4 eQ5
    have hk_a2 := z_tq eT3
    have hc_a2 : (T3 a2).2.2 = co := by rw [z_tqc eT3]
    replace hK1 := z_k2 hK1 g1
    replace hK2 := z_k2 hK2 g2
    refine lv_goto (tgt := 24) hx hb dJ17_copyOf_3_10 (by decide) ?_
    exact ww_J17_copyOf_3_24 X  hB hK1 hK2 (lv_sub hl [0, 1] rfl) h
theorem pk_J17_copyOf_3 : z_PS yJ17_copyOf_3 cJ17_copyOf_3 4 (some (.array (.object "java/lang/Object"))) 3 := ⟨q2249, q113, q2250, by decide +kernel⟩
theorem met_J17_copyOf_3 {l : Launch} {G : z_E} {T : z_T} {I : z_I} {Q : z_Q} (co : Nat) (x0 : Option Nat) (x1 : Int32) (x2 : Option Nat) (kc : Nat) (ks : Nat) (Qk : Option Nat → z_T → z_I → z_Q → Prop) (h : wp_J17_copyOf_3 G.2.2 co T I Q x0 x1 x2 kc ks Qk) : z_GM l G yJ17_copyOf_3 (ws_ yJ17_copyOf_3 cJ17_copyOf_3 4 (some (.array (.object "java/lang/Object")))) 8 120 kc ks [va_rf x0, .int x1, va_rf x2] (z_co co) T I Q (z_qr Qk) z_no := by
  refine z_body (own := RJ17) (nm := "copyOf") (by decide +kernel) rfl rfl (by cases x0 <;> cases x2 <;> exact Nat.le_of_ble_eq_true rfl) (fun p e R s m below meth c A ls X hB hl => ?_)
  replace hl : lv_has ls 4 [(0, va_rf x0), (1, .int x1), (2, va_rf x2)] := by cases x0 <;> cases x2 <;> exact hl
  exact ww_J17_copyOf_3_0 X hB z_k0 z_k0 hl h
/-! J17_copyOf_2 -/
theorem ww_J17_copyOf_2_0 {co : Nat} {Qk : Option Nat → z_T → z_I → z_Q → Prop} (X : z_X l G A p R s m args meth c cJ17_copyOf_2 2 RJ17 "copyOf" (some (.array (.object "java/lang/Object"))) mc ms 9 143) {cells slots : Nat} {T : z_T} {I : z_I} {Q : z_Q} {kc : Nat} {ks : Nat} {x0 : Option Nat} {x1 : Int32} {H : Heap} {locs : List Loc} {ls : Array Slot} (hB : z_HB G (z_co co) A s.heap T0 I0 Q0 T I Q H locs) (hK1 : cells + kc ≤ mc) (hK2 : slots + ks ≤ ms) (hl : lv_has ls 2 [(0, va_rf x0), (1, .int x1)]) (h : wb_J17_copyOf_2_0 G.2.2 co Qk T I Q kc ks x0 x1) : W p l e R s m args below meth c H locs cells slots (z_MQ below G (z_co co) A T0 I0 Q0 (z_qr Qk) z_no args s mc ms) (F0 m 0 ls []) := by
  obtain ⟨hx, hb, -⟩ := id X
  unfold wb_J17_copyOf_2_0 at h
  refine z_aload_n (x := x0) hx hb dJ17_copyOf_2_0 rfl (lv_at hl 0 rfl) ?_
  refine lv_iload_n hx hb dJ17_copyOf_2_1 rfl (lv_at hl 1 rfl) ?_
  refine z_aload_n (x := x0) hx hb dJ17_copyOf_2_2 rfl (lv_at hl 0 rfl) ?_
  obtain ⟨a1, rfl, h⟩ := h
  obtain ⟨hk_a1, h⟩ := h
  refine z_getC (rest := [.int x1, .ref a1]) X hB.1 hl.1 hk_a1 q2247 (by decide) (Nat.le_of_ble_eq_true rfl) dJ17_copyOf_2_3 ?_
  obtain ⟨kc3, ks4, g1, g2, h⟩ := h
  refine z_callr (z_runS (rest := []) [.ref a1, .int x1, .ref G.2.2.2] pk_J17_copyOf_3 (met_J17_copyOf_3 co (some a1) x1 (some G.2.2.2) kc3 ks4 _ h) X hB hB.2.2.2.2.2.2 q2248 rfl hl.1 (Nat.le_of_ble_eq_true rfl) dJ17_copyOf_2_6 (z_k1 hK1 g1) (z_k1 hK2 g2) (by decide) (by decide)) hB (fun _ h => h) (fun r2 T5 I6 Q7 H locs h9 hF hB => ?_)
  replace h := h9
  clear h9
  replace h := h hF
  have hk_a1 := z_tk hF hk_a1 (by decide)
  replace hK1 := z_k2 hK1 g1
  replace hK2 := z_k2 hK2 g2
  exact z_aret (v := r2) X (by first | exact Or.inl ⟨_, rfl⟩ | exact Or.inr ⟨_, rfl⟩) hB ⟨_, rfl, h⟩ (z_k3 hK1) (z_k3 hK2) dJ17_copyOf_2_9
theorem pk_J17_copyOf_2 : z_PS yJ17_copyOf_2 cJ17_copyOf_2 2 (some (.array (.object "java/lang/Object"))) 2 := ⟨q2245, q113, q2246, by decide +kernel⟩
theorem met_J17_copyOf_2 {l : Launch} {G : z_E} {T : z_T} {I : z_I} {Q : z_Q} (co : Nat) (x0 : Option Nat) (x1 : Int32) (kc : Nat) (ks : Nat) (Qk : Option Nat → z_T → z_I → z_Q → Prop) (h : wp_J17_copyOf_2 G.2.2 co T I Q x0 x1 kc ks Qk) : z_GM l G yJ17_copyOf_2 (ws_ yJ17_copyOf_2 cJ17_copyOf_2 2 (some (.array (.object "java/lang/Object")))) 9 143 kc ks [va_rf x0, .int x1] (z_co co) T I Q (z_qr Qk) z_no := by
  refine z_body (own := RJ17) (nm := "copyOf") (by decide +kernel) rfl rfl (by cases x0 <;> exact Nat.le_of_ble_eq_true rfl) (fun p e R s m below meth c A ls X hB hl => ?_)
  replace hl : lv_has ls 2 [(0, va_rf x0), (1, .int x1)] := by cases x0 <;> exact hl
  exact ww_J17_copyOf_2_0 X hB z_k0 z_k0 hl h
/-! J31_newCapacity -/
theorem ww_J31_newCapacity_61 {co : Nat} {o : Nat} {Qk : Int32 → z_T → z_I → z_Q → Prop} (X : z_X l G A p R s m args meth c cJ31_newCapacity 5 RJ31 "newCapacity" (some .int) mc ms 8 120) (ho : (T0 o).1 = 17) {cells slots : Nat} {T : z_T} {I : z_I} {Q : z_Q} {kc : Nat} {ks : Nat} {s0 : Int32} {H : Heap} {locs : List Loc} {ls : Array Slot} (hB : z_HB G (z_co co) A s.heap T0 I0 Q0 T I Q H locs) (hK1 : cells + kc ≤ mc) (hK2 : slots + ks ≤ ms) (hl : lv_has ls 5 []) (h : wb_J31_newCapacity_61 co o Qk T I Q kc ks s0) : W p l e R s m args below meth c H locs cells slots (z_MQ below G (z_co co) A T0 I0 Q0 (z_qi Qk) z_no args s mc ms) (F0 m 61 ls [.int s0]) := by
  obtain ⟨hx, hb, -⟩ := id X
  unfold wb_J31_newCapacity_61 at h
  exact z_iret X hB ⟨_, rfl, h⟩ (z_k3 hK1) (z_k3 hK2) dJ31_newCapacity_61
theorem ww_J31_newCapacity_0 {co : Nat} {o : Nat} {Qk : Int32 → z_T → z_I → z_Q → Prop} (X : z_X l G A p R s m args meth c cJ31_newCapacity 5 RJ31 "newCapacity" (some .int) mc ms 8 120) (ho : (T0 o).1 = 17) {cells slots : Nat} {T : z_T} {I : z_I} {Q : z_Q} {kc : Nat} {ks : Nat} {x1 : Int32} {x2 : Int32} {H : Heap} {locs : List Loc} {ls : Array Slot} (hB : z_HB G (z_co co) A s.heap T0 I0 Q0 T I Q H locs) (hK1 : cells + kc ≤ mc) (hK2 : slots + ks ≤ ms) (hl : lv_has ls 5 [(0, .ref o), (1, .int x1), (2, .int x2)]) (h : wb_J31_newCapacity_0 co o Qk T I Q kc ks x1 x2) : W p l e R s m args below meth c H locs cells slots (z_MQ below G (z_co co) A T0 I0 Q0 (z_qi Qk) z_no args s mc ms) (F0 m 0 ls []) := by
  obtain ⟨hx, hb, -⟩ := id X
  unfold wb_J31_newCapacity_0 at h
  refine lv_aload_n (x := o) hx hb dJ31_newCapacity_0 rfl (lv_at hl 0 rfl) ?_
  refine z_getq X hB.1 kc_J31 in_J31 (j := 0) (Nat.le_of_ble_eq_true rfl) q1126 (fun _ h => h) rfl (by decide) (z_fo hB ho (by decide)) dJ31_newCapacity_1 ?_
  obtain ⟨a1, ea1, h⟩ := h
  refine z_stk (st' := [.ref a1]) (by rw [ea1] <;> rfl) ?_
  obtain ⟨hk_a1, h⟩ := h
  refine z_alen (k := 2) X hB.1 (by decide) hk_a1 dJ31_newCapacity_4 ?_
  refine lv_topi (fun y2 ey2 => ?_)
  replace h := h y2 ey2
  refine lv_istore_n (lv' := [(3, .int y2), (0, .ref o), (1, .int x1), (2, .int x2)]) hx hb dJ31_newCapacity_5 rfl hl (by decide) rfl (fun ls hl9 => ?_)
  replace hl := hl9
  clear hl9
  refine lv_iload_n hx hb dJ31_newCapacity_6 rfl (lv_at hl 0 rfl) ?_
  refine lv_iload_n hx hb dJ31_newCapacity_7 rfl (lv_at hl 2 rfl) ?_
  refine lv_iadd hx hb dJ31_newCapacity_8 ?_
  refine lv_dup hx hb dJ31_newCapacity_9 rfl ?_
  refine lv_topi (fun y3 ey3 => ?_)
  replace h := h y3 ey3
  refine lv_istore (lv' := [(4, .int y3), (3, .int y2), (0, .ref o), (1, .int x1), (2, .int x2)]) hx hb dJ31_newCapacity_10 hl (by decide) rfl (fun ls hl9 => ?_)
  replace hl := hl9
  clear hl9
  refine lv_ldc hx hb X.2.2.2.1 (X.2.2.2.2.1 _ q2232) dJ31_newCapacity_12 ?_
  refine lv_isub hx hb dJ31_newCapacity_14 ?_
  refine lv_if_le (tgt := 36) hx hb dJ31_newCapacity_15 (by decide) (fun c4 => ?_) (fun c4 => ?_)
  · replace h := h.1 c4
    refine lv_iload_n hx hb dJ31_newCapacity_36 rfl (lv_at hl 3 rfl) ?_
    refine lv_iload_n hx hb dJ31_newCapacity_37 rfl (lv_at hl 4 rfl) ?_
    refine lv_icmp_le (tgt := 44) hx hb dJ31_newCapacity_38 (by decide) (fun c5 => ?_) (fun c5 => ?_)
    · replace h := h.1 c5
      refine lv_iload_n hx hb dJ31_newCapacity_44 rfl (lv_at hl 1 rfl) ?_
      refine lv_iload_n hx hb dJ31_newCapacity_45 rfl (lv_at hl 4 rfl) ?_
      refine lv_iadd hx hb dJ31_newCapacity_46 ?_
      refine lv_ldc hx hb X.2.2.2.1 (X.2.2.2.2.1 _ q2232) dJ31_newCapacity_47 ?_
      refine lv_isub hx hb dJ31_newCapacity_49 ?_
      refine lv_if_ge (tgt := 59) hx hb dJ31_newCapacity_50 (by decide) (fun c6 => ?_) (fun c6 => ?_)
      · replace h := h.1 c6
        refine lv_ldc hx hb X.2.2.2.1 (X.2.2.2.2.1 _ q2232) dJ31_newCapacity_59 ?_
        exact ww_J31_newCapacity_61 X ho  hB hK1 hK2 (lv_sub hl [] rfl) h
      · replace h := h.2 c6
        refine lv_iload_n hx hb dJ31_newCapacity_53 rfl (lv_at hl 1 rfl) ?_
        refine lv_iload_n hx hb dJ31_newCapacity_54 rfl (lv_at hl 4 rfl) ?_
        refine lv_iadd hx hb dJ31_newCapacity_55 ?_
        refine lv_goto (tgt := 61) hx hb dJ31_newCapacity_56 (by decide) ?_
        exact ww_J31_newCapacity_61 X ho  hB hK1 hK2 (lv_sub hl [] rfl) h
    · replace h := h.2 c5
      refine lv_iload hx hb dJ31_newCapacity_41 (lv_at hl 0 rfl) ?_
      exact z_iret X hB ⟨_, rfl, h⟩ (z_k3 hK1) (z_k3 hK2) dJ31_newCapacity_43
  · replace h := h.2 c4
    refine lv_iload hx hb dJ31_newCapacity_18 (lv_at hl 0 rfl) ?_
    refine lv_if_ge (tgt := 33) hx hb dJ31_newCapacity_20 (by decide) (fun c7 => ?_) (fun c7 => ?_)
    · replace h := h.1 c7
      refine lv_ldc hx hb X.2.2.2.1 (X.2.2.2.2.1 _ q2243) dJ31_newCapacity_33 ?_
      exact z_iret X hB ⟨_, rfl, h⟩ (z_k3 hK1) (z_k3 hK2) dJ31_newCapacity_35
    · replace h := h.2 c7
      exact h.elim
theorem pk_J31_newCapacity : z_PV RJ31 yJ31_newCapacity cJ31_newCapacity 5 (some .int) 2 := ⟨q2235, qs19, q128, q2236, by decide +kernel⟩
theorem met_J31_newCapacity {l : Launch} {G : z_E} {T : z_T} {I : z_I} {Q : z_Q} (co : Nat) (o : Nat) (x1 : Int32) (x2 : Int32) (kc : Nat) (ks : Nat) (Qk : Int32 → z_T → z_I → z_Q → Prop) (h : wp_J31_newCapacity co T I Q o x1 x2 kc ks Qk) : z_GM l G yJ31_newCapacity (ws_ yJ31_newCapacity cJ31_newCapacity 5 (some .int)) 8 120 kc ks [.ref o, .int x1, .int x2] (z_co co) T I Q (z_qi Qk) z_no := by
  obtain ⟨ho, h⟩ := h
  refine z_body (own := RJ31) (nm := "newCapacity") (by decide +kernel) rfl rfl (Nat.le_of_ble_eq_true rfl) (fun p e R s m below meth c A ls X hB hl => ?_)
  exact ww_J31_newCapacity_0 X ho hB z_k0 z_k0 hl h
/-! J31_grow -/
theorem ww_J31_grow_164 {co : Nat} {o : Nat} {Qk : z_T → z_I → z_Q → Prop} (X : z_X l G A p R s m args meth c cJ31_grow 9 RJ31 "grow" none mc ms 10 164) (ho : (T0 o).1 = 17) (hoc : (T0 o).2.2 = co) {cells slots : Nat} {T : z_T} {I : z_I} {Q : z_Q} {kc : Nat} {ks : Nat} {H : Heap} {locs : List Loc} {ls : Array Slot} (hB : z_HB G (z_co co) A s.heap T0 I0 Q0 T I Q H locs) (hK1 : cells + kc ≤ mc) (hK2 : slots + ks ≤ ms) (hl : lv_has ls 9 []) (h : wb_J31_grow_164 G.2.2 co o Qk T I Q kc ks) : W p l e R s m args below meth c H locs cells slots (z_MQ below G (z_co co) A T0 I0 Q0 (z_qv Qk) z_no args s mc ms) (F0 m 164 ls []) := by
  obtain ⟨hx, hb, -⟩ := id X
  unfold wb_J31_grow_164 at h
  exact z_vret X hB ⟨rfl, h⟩ (z_k3 hK1) (z_k3 hK2) dJ31_grow_164
theorem wv_J31_grow_145 {co : Nat} {o : Nat} {Qk : z_T → z_I → z_Q → Prop} (X : z_X l G A p R s m args meth c cJ31_grow 9 RJ31 "grow" none mc ms 10 164) (ho : (T0 o).1 = 17) (hoc : (T0 o).2.2 = co) : ∀ (n : Nat) {cells slots : Nat} {T : z_T} {I : z_I} {Q : z_Q} {kc : Nat} {ks : Nat} {x5 : Option Nat} {x7 : Int32} {x8 : Int32} {H : Heap} {locs : List Loc} {ls : Array Slot}, z_HB G (z_co co) A s.heap T0 I0 Q0 T I Q H locs → cells + kc ≤ mc → slots + ks ≤ ms → lv_has ls 9 [(5, va_rf x5), (7, .int x7), (8, .int x8)] → wl_J31_grow_145 G.2.2 co o Qk n T I Q kc ks x5 x7 x8 → W p l e R s m args below meth c H locs cells slots (z_MQ below G (z_co co) A T0 I0 Q0 (z_qv Qk) z_no args s mc ms) (F0 m 145 ls []) := by
  intro n
  induction n with
  | zero =>
    intro cells slots T I Q kc ks x5 x7 x8 H locs ls hB hK1 hK2 hl h
    exact h.elim
  | succ n ih =>
    intro cells slots T I Q kc ks x5 x7 x8 H locs ls hB hK1 hK2 hl h
    obtain ⟨hx, hb, -⟩ := id X
    unfold wl_J31_grow_145 at h
    refine lv_iload hx hb dJ31_grow_145 (lv_at hl 1 rfl) ?_
    refine lv_iload hx hb dJ31_grow_147 (lv_at hl 2 rfl) ?_
    refine lv_icmp_ge (tgt := 164) hx hb dJ31_grow_149 (by decide) (fun c31 => ?_) (fun c31 => ?_)
    · replace h := h.1 c31
      exact ww_J31_grow_164 X ho hoc  hB hK1 hK2 (lv_sub hl [] rfl) h
    · replace h := h.2 c31
      refine z_aload (x := x5) hx hb dJ31_grow_152 (lv_at hl 0 rfl) ?_
      refine lv_iload hx hb dJ31_grow_154 (lv_at hl 1 rfl) ?_
      refine lv_null hx hb dJ31_grow_156 ?_
      refine z_stk (st' := [va_rf none, .int x7, va_rf x5]) rfl ?_
      obtain ⟨a32, rfl, h⟩ := h
      obtain ⟨hk_a32, h⟩ := h
      obtain ⟨hc_a32, h⟩ := h
      obtain ⟨h1, h⟩ := h
      obtain ⟨Q33, eQ33⟩ : ∃ z, z = z_up Q a32 x7.toNatClampNeg none := ⟨_, rfl⟩
      replace h := h Q33 eQ33
      refine z_aastX (k := 2) (x := none) X hB (by decide) hk_a32 hc_a32 h1 (fun _ h => by cases h) dJ31_grow_157 (fun H locs hB => ?_)
      rw [← eQ33] at hB
      obtain ⟨y34, ey34⟩ : ∃ z : Int32, z = x7 + 1 := ⟨_, rfl⟩
      replace h := h y34 ey34
      refine lv_iinc (v := y34) (lv' := [(7, .int y34), (5, .ref a32), (8, .int x8)]) hx hb dJ31_grow_158 hl (k := 1) rfl (by rw [ey34]; rfl) (by decide) rfl (fun ls hl9 => ?_)
      replace hl := hl9
      clear hl9
      refine lv_goto (tgt := 145) hx hb dJ31_grow_161 (by decide) ?_
      exact ih hB hK1 hK2 (lv_sub hl [1, 0, 2] rfl) h
theorem ww_J31_grow_96 {co : Nat} {o : Nat} {Qk : z_T → z_I → z_Q → Prop} (X : z_X l G A p R s m args meth c cJ31_grow 9 RJ31 "grow" none mc ms 10 164) (ho : (T0 o).1 = 17) (hoc : (T0 o).2.2 = co) {cells slots : Nat} {T : z_T} {I : z_I} {Q : z_Q} {kc : Nat} {ks : Nat} {x2 : Int32} {x3 : Int32} {x5 : Option Nat} {H : Heap} {locs : List Loc} {ls : Array Slot} (hB : z_HB G (z_co co) A s.heap T0 I0 Q0 T I Q H locs) (hK1 : cells + kc ≤ mc) (hK2 : slots + ks ≤ ms) (hl : lv_has ls 9 [(0, .ref o), (2, .int x2), (3, .int x3), (5, va_rf x5)]) (h : wb_J31_grow_96 G.2.2 co o Qk T I Q kc ks x2 x3 x5) : W p l e R s m args below meth c H locs cells slots (z_MQ below G (z_co co) A T0 I0 Q0 (z_qv Qk) z_no args s mc ms) (F0 m 96 ls []) := by
  obtain ⟨hx, hb, -⟩ := id X
  unfold wb_J31_grow_96 at h
  refine lv_iload_n hx hb dJ31_grow_96 rfl (lv_at hl 2 rfl) ?_
  refine lv_iload_n hx hb dJ31_grow_97 rfl (lv_at hl 1 rfl) ?_
  refine lv_isub hx hb dJ31_grow_98 ?_
  refine lv_topi (fun y25 ey25 => ?_)
  replace h := h y25 ey25
  refine lv_istore (lv' := [(6, .int y25), (0, .ref o), (2, .int x2), (3, .int x3), (5, va_rf x5)]) hx hb dJ31_grow_99 hl (by decide) (by simp [z_cat, z_rfs, z_catq]) (fun ls hl9 => ?_)
  replace hl := hl9
  clear hl9
  refine z_aload (x := x5) hx hb dJ31_grow_101 (lv_at hl 4 rfl) ?_
  refine lv_aload_n (x := o) hx hb dJ31_grow_103 rfl (lv_at hl 1 rfl) ?_
  refine z_geti X hB.1 kc_J31 in_J31 (j := 1) (Nat.le_of_ble_eq_true rfl) q1129 (fun _ h => h) rfl (by decide) (z_fo hB ho (by decide)) dJ31_grow_104 ?_
  refine z_aload (x := x5) hx hb dJ31_grow_107 (lv_at hl 4 rfl) ?_
  refine lv_aload_n (x := o) hx hb dJ31_grow_109 rfl (lv_at hl 1 rfl) ?_
  refine z_geti X hB.1 kc_J31 in_J31 (j := 1) (Nat.le_of_ble_eq_true rfl) q1129 (fun _ h => h) rfl (by decide) (z_fo hB ho (by decide)) dJ31_grow_110 ?_
  refine lv_iload hx hb dJ31_grow_113 (lv_at hl 0 rfl) ?_
  refine lv_iadd hx hb dJ31_grow_115 ?_
  refine lv_iload_n hx hb dJ31_grow_116 rfl (lv_at hl 2 rfl) ?_
  refine lv_aload_n (x := o) hx hb dJ31_grow_117 rfl (lv_at hl 1 rfl) ?_
  refine z_geti X hB.1 kc_J31 in_J31 (j := 1) (Nat.le_of_ble_eq_true rfl) q1129 (fun _ h => h) rfl (by decide) (z_fo hB ho (by decide)) dJ31_grow_118 ?_
  refine lv_isub hx hb dJ31_grow_121 ?_
  obtain ⟨a26, rfl, h⟩ := h
  obtain ⟨hk_a26, h⟩ := h
  obtain ⟨hc_a26, h⟩ := h
  obtain ⟨h1, h⟩ := h
  obtain ⟨h2, h⟩ := h
  obtain ⟨Q27, eQ27⟩ : ∃ z, z = z_row Q a26 (va_cpy (Q a26) (Q a26) (I o 1).toNatClampNeg ((I o 1) + y25).toNatClampNeg (x2 - (I o 1)).toNatClampNeg) := ⟨_, rfl⟩
  replace h := h Q27 eQ27
  refine z_copyq (rest := []) X hB hl.1 hk_a26 hk_a26 hc_a26 h1 h2 q2253 (by decide) (Nat.le_of_ble_eq_true rfl) dJ31_grow_122 (fun H locs hB => ?_)
  rw [← eQ27] at hB
  refine lv_aload_n (x := o) hx hb dJ31_grow_125 rfl (lv_at hl 1 rfl) ?_
  refine z_geti X hB.1 kc_J31 in_J31 (j := 1) (Nat.le_of_ble_eq_true rfl) q1129 (fun _ h => h) rfl (by decide) (z_fo hB ho (by decide)) dJ31_grow_126 ?_
  refine lv_topi (fun y28 ey28 => ?_)
  replace h := h y28 ey28
  refine lv_istore (lv' := [(7, .int y28), (6, .int y25), (0, .ref o), (2, .int x2), (3, .int x3), (5, .ref a26)]) hx hb dJ31_grow_129 hl (by decide) rfl (fun ls hl9 => ?_)
  replace hl := hl9
  clear hl9
  refine lv_aload_n (x := o) hx hb dJ31_grow_131 rfl (lv_at hl 2 rfl) ?_
  refine lv_dup hx hb dJ31_grow_132 rfl ?_
  refine z_geti X hB.1 kc_J31 in_J31 (j := 1) (Nat.le_of_ble_eq_true rfl) q1129 (fun _ h => h) rfl (by decide) (z_fo hB ho (by decide)) dJ31_grow_133 ?_
  refine lv_iload hx hb dJ31_grow_136 (lv_at hl 1 rfl) ?_
  refine lv_iadd hx hb dJ31_grow_138 ?_
  refine lv_dup_x1 hx hb dJ31_grow_139 rfl rfl ?_
  obtain ⟨I29, eI29⟩ : ∃ z, z = z_up I o 1 ((I o 1) + y25) := ⟨_, rfl⟩
  replace h := h I29 eI29
  refine z_puti (x := ((I o 1) + y25)) eI29 tyJ31 X hB kc_J31 in_J31 tyJ31_ok nmJ31 (j := 1) (Nat.le_of_ble_eq_true rfl) q1129 (fun _ h => h) rfl rfl (by decide) (z_fo hB ho (by decide)) (z_foc hB ho (by decide) hoc) rfl (Or.inl rfl) dJ31_grow_140 (fun H locs hB => ?_)
  refine lv_topi (fun y30 ey30 => ?_)
  replace h := h y30 ey30
  refine lv_istore (lv' := [(8, .int y30), (7, .int y28), (6, .int y25), (0, .ref o), (2, .int x2), (3, .int x3), (5, .ref a26)]) hx hb dJ31_grow_143 hl (by decide) rfl (fun ls hl9 => ?_)
  replace hl := hl9
  clear hl9
  obtain ⟨w, h⟩ := h
  exact wv_J31_grow_145 X ho hoc  w hB hK1 hK2 (lv_sub hl [6, 1, 0] rfl) h
theorem ww_J31_grow_49 {co : Nat} {o : Nat} {Qk : z_T → z_I → z_Q → Prop} (X : z_X l G A p R s m args meth c cJ31_grow 9 RJ31 "grow" none mc ms 10 164) (ho : (T0 o).1 = 17) (hoc : (T0 o).2.2 = co) {cells slots : Nat} {T : z_T} {I : z_I} {Q : z_Q} {kc : Nat} {ks : Nat} {x2 : Int32} {x3 : Int32} {H : Heap} {locs : List Loc} {ls : Array Slot} (hB : z_HB G (z_co co) A s.heap T0 I0 Q0 T I Q H locs) (hK1 : cells + kc ≤ mc) (hK2 : slots + ks ≤ ms) (hl : lv_has ls 9 [(0, .ref o), (2, .int x2), (3, .int x3)]) (h : wb_J31_grow_49 G.2.2 co o Qk T I Q kc ks x2 x3) : W p l e R s m args below meth c H locs cells slots (z_MQ below G (z_co co) A T0 I0 Q0 (z_qv Qk) z_no args s mc ms) (F0 m 49 ls []) := by
  obtain ⟨hx, hb, -⟩ := id X
  unfold wb_J31_grow_49 at h
  refine lv_aload_n (x := o) hx hb dJ31_grow_49 rfl (lv_at hl 0 rfl) ?_
  refine lv_aload_n (x := o) hx hb dJ31_grow_50 rfl (lv_at hl 0 rfl) ?_
  refine z_getq X hB.1 kc_J31 in_J31 (j := 0) (Nat.le_of_ble_eq_true rfl) q1126 (fun _ h => h) rfl (by decide) (z_fo hB ho (by decide)) dJ31_grow_51 ?_
  refine lv_iload_n hx hb dJ31_grow_54 rfl (lv_at hl 2 rfl) ?_
  obtain ⟨kc14, ks15, g1, g2, h⟩ := h
  refine z_callr (z_runS (rest := [.ref o]) [va_rf (Q o 0), .int x3] pk_J17_copyOf_2 (met_J17_copyOf_2 co (Q o 0) x3 kc14 ks15 _ h) X hB hB.2.2.2.2.2.2 q2244 rfl hl.1 (Nat.le_of_ble_eq_true rfl) dJ31_grow_55 (z_k1 hK1 g1) (z_k1 hK2 g2) (by decide) (by decide)) hB (fun _ h => h) (fun r13 T16 I17 Q18 H locs h9 hF hB => ?_)
  replace h := h9
  clear h9
  replace h := h hF
  replace hK1 := z_k2 hK1 g1
  replace hK2 := z_k2 hK2 g2
  refine lv_dup_x1 hx hb dJ31_grow_58 z_cat rfl ?_
  obtain ⟨Q19, eQ19⟩ : ∃ z, z = z_up Q18 o 0 r13 := ⟨_, rfl⟩
  replace h := h Q19 eQ19
  refine z_putq (x := r13) eQ19 tyJ31 X hB kc_J31 in_J31 tyJ31_ok nmJ31 (j := 0) (Nat.le_of_ble_eq_true rfl) q1126 (fun _ h => h) rfl rfl (by decide) (z_fo hB ho (by decide)) (z_foc hB ho (by decide) hoc) rfl (Or.inr ⟨_, rfl⟩) dJ31_grow_59 (fun H locs hB => ?_)
  refine z_astore (x := r13) (lv' := [(5, va_rf r13), (0, .ref o), (2, .int x2), (3, .int x3)]) hx hb dJ31_grow_62 hl (by decide) rfl (fun ls hl9 => ?_)
  replace hl := hl9
  clear hl9
  refine lv_aload_n (x := o) hx hb dJ31_grow_64 rfl (lv_at hl 1 rfl) ?_
  refine z_geti X hB.1 kc_J31 in_J31 (j := 2) (Nat.le_of_ble_eq_true rfl) q1130 (fun _ h => h) rfl (by decide) (z_fo hB ho (by decide)) dJ31_grow_65 ?_
  refine lv_aload_n (x := o) hx hb dJ31_grow_68 rfl (lv_at hl 1 rfl) ?_
  refine z_geti X hB.1 kc_J31 in_J31 (j := 1) (Nat.le_of_ble_eq_true rfl) q1129 (fun _ h => h) rfl (by decide) (z_fo hB ho (by decide)) dJ31_grow_69 ?_
  refine lv_icmp_lt (tgt := 96) hx hb dJ31_grow_72 (by decide) (fun c20 => ?_) (fun c20 => ?_)
  · replace h := h.1 c20
    exact ww_J31_grow_96 X ho hoc  hB hK1 hK2 (lv_sub hl [1, 2, 3, 0] rfl) h
  · replace h := h.2 c20
    refine lv_aload_n (x := o) hx hb dJ31_grow_75 rfl (lv_at hl 1 rfl) ?_
    refine z_geti X hB.1 kc_J31 in_J31 (j := 2) (Nat.le_of_ble_eq_true rfl) q1130 (fun _ h => h) rfl (by decide) (z_fo hB ho (by decide)) dJ31_grow_76 ?_
    refine lv_aload_n (x := o) hx hb dJ31_grow_79 rfl (lv_at hl 1 rfl) ?_
    refine z_geti X hB.1 kc_J31 in_J31 (j := 1) (Nat.le_of_ble_eq_true rfl) q1129 (fun _ h => h) rfl (by decide) (z_fo hB ho (by decide)) dJ31_grow_80 ?_
    refine lv_icmp_ne (tgt := 164) hx hb dJ31_grow_83 (by decide) (fun c21 => ?_) (fun c21 => ?_)
    · replace h := h.1 c21
      exact ww_J31_grow_164 X ho hoc  hB hK1 hK2 (lv_sub hl [] rfl) h
    · replace h := h.2 c21
      refine z_aload (x := r13) hx hb dJ31_grow_86 (lv_at hl 0 rfl) ?_
      refine lv_aload_n (x := o) hx hb dJ31_grow_88 rfl (lv_at hl 1 rfl) ?_
      refine z_geti X hB.1 kc_J31 in_J31 (j := 1) (Nat.le_of_ble_eq_true rfl) q1129 (fun _ h => h) rfl (by decide) (z_fo hB ho (by decide)) dJ31_grow_89 ?_
      obtain ⟨a22, rfl, h⟩ := h
      obtain ⟨hk_a22, h⟩ := h
      obtain ⟨h1, h⟩ := h
      refine z_aald (k := 2) X hB.1 (by decide) hk_a22 h1 dJ31_grow_92 ?_
      refine z_ifnull (tgt := 164) hx hb dJ31_grow_93 (by decide) (fun c23 => ?_) (fun a24 c23 => ?_)
      · replace h := h.1 c23
        exact ww_J31_grow_164 X ho hoc  hB hK1 hK2 (lv_sub hl [] rfl) h
      · replace h := h.2 a24 c23
        exact ww_J31_grow_96 X ho hoc  hB hK1 hK2 (lv_sub hl [1, 2, 3, 0] rfl) h
theorem ww_J31_grow_41 {co : Nat} {o : Nat} {Qk : z_T → z_I → z_Q → Prop} (X : z_X l G A p R s m args meth c cJ31_grow 9 RJ31 "grow" none mc ms 10 164) (ho : (T0 o).1 = 17) (hoc : (T0 o).2.2 = co) {cells slots : Nat} {T : z_T} {I : z_I} {Q : z_Q} {kc : Nat} {ks : Nat} {x1 : Int32} {x2 : Int32} {x4 : Int32} {H : Heap} {locs : List Loc} {ls : Array Slot} (hB : z_HB G (z_co co) A s.heap T0 I0 Q0 T I Q H locs) (hK1 : cells + kc ≤ mc) (hK2 : slots + ks ≤ ms) (hl : lv_has ls 9 [(0, .ref o), (1, .int x1), (2, .int x2), (4, .int x4)]) (h : wb_J31_grow_41 G.2.2 co o Qk T I Q kc ks x1 x2 x4) : W p l e R s m args below meth c H locs cells slots (z_MQ below G (z_co co) A T0 I0 Q0 (z_qv Qk) z_no args s mc ms) (F0 m 41 ls []) := by
  obtain ⟨hx, hb, -⟩ := id X
  unfold wb_J31_grow_41 at h
  refine lv_aload_n (x := o) hx hb dJ31_grow_41 rfl (lv_at hl 0 rfl) ?_
  refine lv_iload_n hx hb dJ31_grow_42 rfl (lv_at hl 1 rfl) ?_
  refine lv_iload hx hb dJ31_grow_43 (lv_at hl 3 rfl) ?_
  obtain ⟨kc8, ks9, g1, g2, h⟩ := h
  refine z_calli (z_runV (rest := []) [.int x1, .int x4] pk_J31_newCapacity (met_J31_newCapacity co o x1 x4 kc8 ks9 _ h) X hB hB.2.2.2.2.2.2 q2233 kc_J31 (by decide) (z_fo hB ho (by decide)) rfl hl.1 (Nat.le_of_ble_eq_true rfl) dJ31_grow_45 (z_k1 hK1 g1) (z_k1 hK2 g2) (by decide) (by decide)) hB (fun _ h => h) (fun r7 T10 I11 Q12 H locs h9 hF hB => ?_)
  replace h := h9
  clear h9
  replace h := h hF
  replace hK1 := z_k2 hK1 g1
  replace hK2 := z_k2 hK2 g2
  refine lv_istore_n (lv' := [(3, .int r7), (0, .ref o), (1, .int x1), (2, .int x2), (4, .int x4)]) hx hb dJ31_grow_48 rfl hl (by decide) rfl (fun ls hl9 => ?_)
  replace hl := hl9
  clear hl9
  exact ww_J31_grow_49 X ho hoc  hB hK1 hK2 (lv_sub hl [1, 3, 0] rfl) h
theorem ww_J31_grow_21 {co : Nat} {o : Nat} {Qk : z_T → z_I → z_Q → Prop} (X : z_X l G A p R s m args meth c cJ31_grow 9 RJ31 "grow" none mc ms 10 164) (ho : (T0 o).1 = 17) (hoc : (T0 o).2.2 = co) {cells slots : Nat} {T : z_T} {I : z_I} {Q : z_Q} {kc : Nat} {ks : Nat} {x1 : Int32} {x2 : Int32} {s0 : Int32} {H : Heap} {locs : List Loc} {ls : Array Slot} (hB : z_HB G (z_co co) A s.heap T0 I0 Q0 T I Q H locs) (hK1 : cells + kc ≤ mc) (hK2 : slots + ks ≤ ms) (hl : lv_has ls 9 [(0, .ref o), (1, .int x1), (2, .int x2)]) (h : wb_J31_grow_21 G.2.2 co o Qk T I Q kc ks x1 x2 s0) : W p l e R s m args below meth c H locs cells slots (z_MQ below G (z_co co) A T0 I0 Q0 (z_qv Qk) z_no args s mc ms) (F0 m 21 ls [.int s0]) := by
  obtain ⟨hx, hb, -⟩ := id X
  unfold wb_J31_grow_21 at h
  refine lv_istore (lv' := [(4, .int s0), (0, .ref o), (1, .int x1), (2, .int x2)]) hx hb dJ31_grow_21 hl (by decide) rfl (fun ls hl9 => ?_)
  replace hl := hl9
  clear hl9
  refine lv_iload hx hb dJ31_grow_23 (lv_at hl 0 rfl) ?_
  refine lv_iload_n hx hb dJ31_grow_25 rfl (lv_at hl 2 rfl) ?_
  refine lv_icmp_lt (tgt := 41) hx hb dJ31_grow_26 (by decide) (fun c4 => ?_) (fun c4 => ?_)
  · replace h := h.1 c4
    exact ww_J31_grow_41 X ho hoc  hB hK1 hK2 (lv_sub hl [1, 2, 3, 0] rfl) h
  · replace h := h.2 c4
    refine lv_iload_n hx hb dJ31_grow_29 rfl (lv_at hl 3 rfl) ?_
    refine lv_iload hx hb dJ31_grow_30 (lv_at hl 0 rfl) ?_
    refine lv_iadd hx hb dJ31_grow_32 ?_
    refine lv_dup hx hb dJ31_grow_33 rfl ?_
    refine lv_topi (fun y5 ey5 => ?_)
    replace h := h y5 ey5
    refine lv_istore_n (lv' := [(3, .int y5), (4, .int s0), (0, .ref o), (1, .int x1), (2, .int x2)]) hx hb dJ31_grow_34 rfl hl (by decide) rfl (fun ls hl9 => ?_)
    replace hl := hl9
    clear hl9
    refine lv_ldc hx hb X.2.2.2.1 (X.2.2.2.2.1 _ q2232) dJ31_grow_35 ?_
    refine lv_isub hx hb dJ31_grow_37 ?_
    refine lv_if_le (tgt := 49) hx hb dJ31_grow_38 (by decide) (fun c6 => ?_) (fun c6 => ?_)
    · replace h := h.1 c6
      exact ww_J31_grow_49 X ho hoc  hB hK1 hK2 (lv_sub hl [2, 4, 0] rfl) h
    · replace h := h.2 c6
      exact ww_J31_grow_41 X ho hoc  hB hK1 hK2 (lv_sub hl [2, 3, 4, 1] rfl) h
theorem ww_J31_grow_0 {co : Nat} {o : Nat} {Qk : z_T → z_I → z_Q → Prop} (X : z_X l G A p R s m args meth c cJ31_grow 9 RJ31 "grow" none mc ms 10 164) (ho : (T0 o).1 = 17) (hoc : (T0 o).2.2 = co) {cells slots : Nat} {T : z_T} {I : z_I} {Q : z_Q} {kc : Nat} {ks : Nat} {x1 : Int32} {H : Heap} {locs : List Loc} {ls : Array Slot} (hB : z_HB G (z_co co) A s.heap T0 I0 Q0 T I Q H locs) (hK1 : cells + kc ≤ mc) (hK2 : slots + ks ≤ ms) (hl : lv_has ls 9 [(0, .ref o), (1, .int x1)]) (h : wb_J31_grow_0 G.2.2 co o Qk T I Q kc ks x1) : W p l e R s m args below meth c H locs cells slots (z_MQ below G (z_co co) A T0 I0 Q0 (z_qv Qk) z_no args s mc ms) (F0 m 0 ls []) := by
  obtain ⟨hx, hb, -⟩ := id X
  unfold wb_J31_grow_0 at h
  refine lv_aload_n (x := o) hx hb dJ31_grow_0 rfl (lv_at hl 0 rfl) ?_
  refine z_getq X hB.1 kc_J31 in_J31 (j := 0) (Nat.le_of_ble_eq_true rfl) q1126 (fun _ h => h) rfl (by decide) (z_fo hB ho (by decide)) dJ31_grow_1 ?_
  obtain ⟨a1, ea1, h⟩ := h
  refine z_stk (st' := [.ref a1]) (by rw [ea1] <;> rfl) ?_
  obtain ⟨hk_a1, h⟩ := h
  refine z_alen (k := 2) X hB.1 (by decide) hk_a1 dJ31_grow_4 ?_
  refine lv_topi (fun y2 ey2 => ?_)
  replace h := h y2 ey2
  refine lv_istore_n (lv' := [(2, .int y2), (0, .ref o), (1, .int x1)]) hx hb dJ31_grow_5 rfl hl (by decide) rfl (fun ls hl9 => ?_)
  replace hl := hl9
  clear hl9
  refine lv_iload_n hx hb dJ31_grow_6 rfl (lv_at hl 0 rfl) ?_
  refine lv_bipush (v := 64) hx hb dJ31_grow_7 (by decide) ?_
  refine lv_icmp_ge (tgt := 18) hx hb dJ31_grow_9 (by decide) (fun c3 => ?_) (fun c3 => ?_)
  · replace h := h.1 c3
    refine lv_iload_n hx hb dJ31_grow_18 rfl (lv_at hl 0 rfl) ?_
    refine lv_iconst (v := 1) hx hb dJ31_grow_19 (by decide) ?_
    refine lv_ishr hx hb dJ31_grow_20 ?_
    exact ww_J31_grow_21 X ho hoc  hB hK1 hK2 (lv_sub hl [1, 2, 0] rfl) h
  · replace h := h.2 c3
    refine lv_iload_n hx hb dJ31_grow_12 rfl (lv_at hl 0 rfl) ?_
    refine lv_iconst (v := 2) hx hb dJ31_grow_13 (by decide) ?_
    refine lv_iadd hx hb dJ31_grow_14 ?_
    refine lv_goto (tgt := 21) hx hb dJ31_grow_15 (by decide) ?_
    exact ww_J31_grow_21 X ho hoc  hB hK1 hK2 (lv_sub hl [1, 2, 0] rfl) h
theorem pk_J31_grow : z_PV RJ31 yJ31_grow cJ31_grow 9 none 1 := ⟨q2230, qs18, q128, q2231, by decide +kernel⟩
theorem met_J31_grow {l : Launch} {G : z_E} {T : z_T} {I : z_I} {Q : z_Q} (co : Nat) (o : Nat) (x1 : Int32) (kc : Nat) (ks : Nat) (Qk : z_T → z_I → z_Q → Prop) (h : wp_J31_grow G.2.2 co T I Q o x1 kc ks Qk) : z_GM l G yJ31_grow (ws_ yJ31_grow cJ31_grow 9 none) 10 164 kc ks [.ref o, .int x1] (z_co co) T I Q (z_qv Qk) z_no := by
  obtain ⟨ho, hoc, h⟩ := h
  refine z_body (own := RJ31) (nm := "grow") (by decide +kernel) rfl rfl (Nat.le_of_ble_eq_true rfl) (fun p e R s m below meth c A ls X hB hl => ?_)
  exact ww_J31_grow_0 X ho hoc hB z_k0 z_k0 hl h
/-! J31_addLast -/
theorem ww_J31_addLast_50 {co : Nat} {o : Nat} {Qk : z_T → z_I → z_Q → Prop} (X : z_X l G A p R s m args meth c cJ31_addLast 3 RJ31 "addLast" none mc ms 11 192) (ho : (T0 o).1 = 17) (hoc : (T0 o).2.2 = co) {cells slots : Nat} {T : z_T} {I : z_I} {Q : z_Q} {kc : Nat} {ks : Nat} {H : Heap} {locs : List Loc} {ls : Array Slot} (hB : z_HB G (z_co co) A s.heap T0 I0 Q0 T I Q H locs) (hK1 : cells + kc ≤ mc) (hK2 : slots + ks ≤ ms) (hl : lv_has ls 3 []) (h : wb_J31_addLast_50 G.2.2 co o Qk T I Q kc ks) : W p l e R s m args below meth c H locs cells slots (z_MQ below G (z_co co) A T0 I0 Q0 (z_qv Qk) z_no args s mc ms) (F0 m 50 ls []) := by
  obtain ⟨hx, hb, -⟩ := id X
  unfold wb_J31_addLast_50 at h
  exact z_vret X hB ⟨rfl, h⟩ (z_k3 hK1) (z_k3 hK2) dJ31_addLast_50
theorem ww_J31_addLast_0 {co : Nat} {o : Nat} {Qk : z_T → z_I → z_Q → Prop} (X : z_X l G A p R s m args meth c cJ31_addLast 3 RJ31 "addLast" none mc ms 11 192) (ho : (T0 o).1 = 17) (hoc : (T0 o).2.2 = co) {cells slots : Nat} {T : z_T} {I : z_I} {Q : z_Q} {kc : Nat} {ks : Nat} {x1 : Option Nat} {H : Heap} {locs : List Loc} {ls : Array Slot} (hB : z_HB G (z_co co) A s.heap T0 I0 Q0 T I Q H locs) (hK1 : cells + kc ≤ mc) (hK2 : slots + ks ≤ ms) (hl : lv_has ls 3 [(0, .ref o), (1, va_rf x1)]) (h : wb_J31_addLast_0 G.2.2 co o Qk T I Q kc ks x1) : W p l e R s m args below meth c H locs cells slots (z_MQ below G (z_co co) A T0 I0 Q0 (z_qv Qk) z_no args s mc ms) (F0 m 0 ls []) := by
  obtain ⟨hx, hb, -⟩ := id X
  unfold wb_J31_addLast_0 at h
  refine z_aload_n (x := x1) hx hb dJ31_addLast_0 rfl (lv_at hl 1 rfl) ?_
  refine z_ifnonnull (tgt := 12) hx hb dJ31_addLast_1 (by decide) (fun a2 c1 => ?_) (fun c1 => ?_)
  · replace h := h.2 a2 c1
    subst c1
    refine lv_aload_n (x := o) hx hb dJ31_addLast_12 rfl (lv_at hl 0 rfl) ?_
    refine z_getq X hB.1 kc_J31 in_J31 (j := 0) (Nat.le_of_ble_eq_true rfl) q1126 (fun _ h => h) rfl (by decide) (z_fo hB ho (by decide)) dJ31_addLast_13 ?_
    obtain ⟨y3, ey3⟩ : ∃ z : Option Nat, z = (Q o 0) := ⟨_, rfl⟩
    replace h := h y3 ey3
    refine z_stk (st' := [va_rf y3]) (by rw [ey3]) ?_
    refine z_astore_n (x := y3) (lv' := [(2, va_rf y3), (0, .ref o), (1, .ref a2)]) hx hb dJ31_addLast_16 rfl hl (by decide) rfl (fun ls hl9 => ?_)
    replace hl := hl9
    clear hl9
    refine z_aload_n (x := y3) hx hb dJ31_addLast_17 rfl (lv_at hl 0 rfl) ?_
    refine lv_aload_n (x := o) hx hb dJ31_addLast_18 rfl (lv_at hl 1 rfl) ?_
    refine z_geti X hB.1 kc_J31 in_J31 (j := 2) (Nat.le_of_ble_eq_true rfl) q1130 (fun _ h => h) rfl (by decide) (z_fo hB ho (by decide)) dJ31_addLast_19 ?_
    refine lv_aload_n (x := a2) hx hb dJ31_addLast_22 rfl (lv_at hl 2 rfl) ?_
    obtain ⟨a4, rfl, h⟩ := h
    obtain ⟨hk_a4, h⟩ := h
    obtain ⟨hc_a4, h⟩ := h
    obtain ⟨h1, h⟩ := h
    obtain ⟨h2, h⟩ := h
    obtain ⟨Q5, eQ5⟩ : ∃ z, z = z_up Q a4 (I o 2).toNatClampNeg (some a2) := ⟨_, rfl⟩
    replace h := h Q5 eQ5
    refine z_aastX (k := 2) (x := (some a2)) X hB (by decide) hk_a4 hc_a4 h1 h2 dJ31_addLast_23 (fun H locs hB => ?_)
    rw [← eQ5] at hB
    refine lv_aload_n (x := o) hx hb dJ31_addLast_24 rfl (lv_at hl 1 rfl) ?_
    refine z_geti X hB.1 kc_J31 in_J31 (j := 1) (Nat.le_of_ble_eq_true rfl) q1129 (fun _ h => h) rfl (by decide) (z_fo hB ho (by decide)) dJ31_addLast_25 ?_
    refine lv_aload_n (x := o) hx hb dJ31_addLast_28 rfl (lv_at hl 1 rfl) ?_
    refine lv_aload_n (x := o) hx hb dJ31_addLast_29 rfl (lv_at hl 1 rfl) ?_
    refine z_geti X hB.1 kc_J31 in_J31 (j := 2) (Nat.le_of_ble_eq_true rfl) q1130 (fun _ h => h) rfl (by decide) (z_fo hB ho (by decide)) dJ31_addLast_30 ?_
    refine lv_aload_n (x := a4) hx hb dJ31_addLast_33 rfl (lv_at hl 0 rfl) ?_
    refine z_alen (k := 2) X hB.1 (by decide) hk_a4 dJ31_addLast_34 ?_
    refine z_callip (z_runS (rest := [.ref o, .int (I o 1)]) [.int (I o 2), .int (nI (T a4).2.1)] pk_J31_inc (met_J31_inc (I o 2) (nI (T a4).2.1) _ h) X hB (fun h => h) q2227 rfl hl.1 (Nat.le_of_ble_eq_true rfl) dJ31_addLast_35 (z_k4 hK1) (z_k4 hK2) (by decide) (by decide)) hB (fun r6 H locs h9 hB => ?_)
    replace h := h9
    clear h9
    refine lv_dup_x1 hx hb dJ31_addLast_38 rfl rfl ?_
    obtain ⟨I7, eI7⟩ : ∃ z, z = z_up I o 2 r6 := ⟨_, rfl⟩
    replace h := h I7 eI7
    refine z_puti (x := r6) eI7 tyJ31 X hB kc_J31 in_J31 tyJ31_ok nmJ31 (j := 2) (Nat.le_of_ble_eq_true rfl) q1130 (fun _ h => h) rfl rfl (by decide) (z_fo hB ho (by decide)) (z_foc hB ho (by decide) hoc) rfl (Or.inl rfl) dJ31_addLast_39 (fun H locs hB => ?_)
    refine lv_icmp_ne (tgt := 50) hx hb dJ31_addLast_42 (by decide) (fun c8 => ?_) (fun c8 => ?_)
    · replace h := h.1 c8
      exact ww_J31_addLast_50 X ho hoc  hB hK1 hK2 (lv_sub hl [] rfl) h
    · replace h := h.2 c8
      refine lv_aload_n (x := o) hx hb dJ31_addLast_45 rfl (lv_at hl 1 rfl) ?_
      refine lv_iconst (v := 1) hx hb dJ31_addLast_46 (by decide) ?_
      obtain ⟨kc10, ks11, g1, g2, h⟩ := h
      refine z_callv (z_runV (rest := []) [.int 1] pk_J31_grow (met_J31_grow co o 1 kc10 ks11 _ h) X hB hB.2.2.2.2.2.2 q2228 kc_J31 (by decide) (z_fo hB ho (by decide)) rfl hl.1 (Nat.le_of_ble_eq_true rfl) dJ31_addLast_47 (z_k1 hK1 g1) (z_k1 hK2 g2) (by decide) (by decide)) hB (fun _ h => h) (fun T12 I13 Q14 H locs h9 hF hB => ?_)
      replace h := h9
      clear h9
      replace h := h hF
      have hc_a4 : (T12 a4).2.2 = co := by rw [z_te hF hk_a4 (by decide)]; exact hc_a4
      have hk_a4 := z_tk hF hk_a4 (by decide)
      replace hK1 := z_k2 hK1 g1
      replace hK2 := z_k2 hK2 g2
      exact ww_J31_addLast_50 X ho hoc  hB hK1 hK2 (lv_sub hl [] rfl) h
  · replace h := h.1 c1
    subst c1
    exact h.elim
theorem pk_J31_addLast : z_PV RJ31 yJ31_addLast cJ31_addLast 3 none 1 := ⟨q2224, q2225, q128, q2226, by decide +kernel⟩
theorem met_J31_addLast {l : Launch} {G : z_E} {T : z_T} {I : z_I} {Q : z_Q} (co : Nat) (o : Nat) (x1 : Option Nat) (kc : Nat) (ks : Nat) (Qk : z_T → z_I → z_Q → Prop) (h : wp_J31_addLast G.2.2 co T I Q o x1 kc ks Qk) : z_GM l G yJ31_addLast (ws_ yJ31_addLast cJ31_addLast 3 none) 11 192 kc ks [.ref o, va_rf x1] (z_co co) T I Q (z_qv Qk) z_no := by
  obtain ⟨ho, hoc, h⟩ := h
  refine z_body (own := RJ31) (nm := "addLast") (by decide +kernel) rfl rfl (by cases x1 <;> exact Nat.le_of_ble_eq_true rfl) (fun p e R s m below meth c A ls X hB hl => ?_)
  replace hl : lv_has ls 3 [(0, .ref o), (1, va_rf x1)] := by cases x1 <;> exact hl
  exact ww_J31_addLast_0 X ho hoc hB z_k0 z_k0 hl h
/-! J31_elementAt -/
theorem ww_J31_elementAt_0 {T : z_T} {I : z_I} {Q : z_Q} {Qk : Option Nat → Prop} (X : z_X l G A p R s m args meth c cJ31_elementAt 2 RJ31 "elementAt" (some (.object "java/lang/Object")) 0 0 8 120) {x0 : Option Nat} {x1 : Int32} {H : Heap} {locs : List Loc} {ls : Array Slot} (hB : z_HB G z_none A s.heap T I Q T I Q H locs) (hl : lv_has ls 2 [(0, va_rf x0), (1, .int x1)]) (h : wb_J31_elementAt_0 T I Q Qk x0 x1) : W p l e R s m args below meth c H locs 0 0 (z_MQ below G z_none A T I Q (z_pr Qk T I Q) z_no args s 0 0) (F0 m 0 ls []) := by
  obtain ⟨hx, hb, -⟩ := id X
  unfold wb_J31_elementAt_0 at h
  refine z_aload_n (x := x0) hx hb dJ31_elementAt_0 rfl (lv_at hl 0 rfl) ?_
  refine lv_iload_n hx hb dJ31_elementAt_1 rfl (lv_at hl 1 rfl) ?_
  obtain ⟨a1, rfl, h⟩ := h
  obtain ⟨hk_a1, h⟩ := h
  obtain ⟨h1, h⟩ := h
  refine z_aald (k := 2) X hB.1 (by decide) hk_a1 h1 dJ31_elementAt_2 ?_
  exact z_aret (v := (Q a1 x1.toNatClampNeg)) X (by first | exact Or.inl ⟨_, rfl⟩ | exact Or.inr ⟨_, rfl⟩) hB ⟨_, rfl, h, rfl, rfl, rfl⟩ (Nat.le_refl 0) (Nat.le_refl 0) dJ31_elementAt_3
theorem pk_J31_elementAt : z_PS yJ31_elementAt cJ31_elementAt 2 (some (.object "java/lang/Object")) 2 := ⟨q2509, q128, q2510, by decide +kernel⟩
theorem met_J31_elementAt {l : Launch} {G : z_E} {T : z_T} {I : z_I} {Q : z_Q} (x0 : Option Nat) (x1 : Int32) (Qk : Option Nat → Prop) (h : wp_J31_elementAt T I Q x0 x1 Qk) : z_GM l G yJ31_elementAt (ws_ yJ31_elementAt cJ31_elementAt 2 (some (.object "java/lang/Object"))) 8 120 0 0 [va_rf x0, .int x1] z_none T I Q (z_pr Qk T I Q) z_no := by
  refine z_body (own := RJ31) (nm := "elementAt") (by decide +kernel) rfl rfl (by cases x0 <;> exact Nat.le_of_ble_eq_true rfl) (fun p e R s m below meth c A ls X hB hl => ?_)
  replace hl : lv_has ls 2 [(0, va_rf x0), (1, .int x1)] := by cases x0 <;> exact hl
  exact ww_J31_elementAt_0 X hB hl h
/-! J31_pollFirst -/
theorem ww_J31_pollFirst_34 {co : Nat} {o : Nat} {Qk : Option Nat → z_T → z_I → z_Q → Prop} (X : z_X l G A p R s m args meth c cJ31_pollFirst 4 RJ31 "pollFirst" (some (.object "java/lang/Object")) 0 0 9 141) (ho : (T0 o).1 = 17) (hoc : (T0 o).2.2 = co) {T : z_T} {I : z_I} {Q : z_Q} {x3 : Option Nat} {H : Heap} {locs : List Loc} {ls : Array Slot} (hB : z_HB G (z_co co) A s.heap T0 I0 Q0 T I Q H locs) (hl : lv_has ls 4 [(3, va_rf x3)]) (h : wb_J31_pollFirst_34 co o Qk T I Q x3) : W p l e R s m args below meth c H locs 0 0 (z_MQ below G (z_co co) A T0 I0 Q0 (z_qr Qk) z_no args s 0 0) (F0 m 34 ls []) := by
  obtain ⟨hx, hb, -⟩ := id X
  unfold wb_J31_pollFirst_34 at h
  refine z_aload_n (x := x3) hx hb dJ31_pollFirst_34 rfl (lv_at hl 0 rfl) ?_
  exact z_aret (v := x3) X (by first | exact Or.inl ⟨_, rfl⟩ | exact Or.inr ⟨_, rfl⟩) hB ⟨_, rfl, h⟩ (Nat.le_refl 0) (Nat.le_refl 0) dJ31_pollFirst_35
theorem ww_J31_pollFirst_0 {co : Nat} {o : Nat} {Qk : Option Nat → z_T → z_I → z_Q → Prop} (X : z_X l G A p R s m args meth c cJ31_pollFirst 4 RJ31 "pollFirst" (some (.object "java/lang/Object")) 0 0 9 141) (ho : (T0 o).1 = 17) (hoc : (T0 o).2.2 = co) {T : z_T} {I : z_I} {Q : z_Q} {H : Heap} {locs : List Loc} {ls : Array Slot} (hB : z_HB G (z_co co) A s.heap T0 I0 Q0 T I Q H locs) (hl : lv_has ls 4 [(0, .ref o)]) (h : wb_J31_pollFirst_0 co o Qk T I Q) : W p l e R s m args below meth c H locs 0 0 (z_MQ below G (z_co co) A T0 I0 Q0 (z_qr Qk) z_no args s 0 0) (F0 m 0 ls []) := by
  obtain ⟨hx, hb, -⟩ := id X
  unfold wb_J31_pollFirst_0 at h
  refine lv_aload_n (x := o) hx hb dJ31_pollFirst_0 rfl (lv_at hl 0 rfl) ?_
  refine z_getq X hB.1 kc_J31 in_J31 (j := 0) (Nat.le_of_ble_eq_true rfl) q1126 (fun _ h => h) rfl (by decide) (z_fo hB ho (by decide)) dJ31_pollFirst_1 ?_
  refine lv_dup hx hb dJ31_pollFirst_4 z_cat ?_
  obtain ⟨y1, ey1⟩ : ∃ z : Option Nat, z = (Q o 0) := ⟨_, rfl⟩
  replace h := h y1 ey1
  refine z_stk (st' := [va_rf y1, va_rf y1]) (by rw [ey1]) ?_
  refine z_astore_n (x := y1) (lv' := [(1, va_rf y1), (0, .ref o)]) hx hb dJ31_pollFirst_5 rfl hl (by decide) rfl (fun ls hl9 => ?_)
  replace hl := hl9
  clear hl9
  refine lv_aload_n (x := o) hx hb dJ31_pollFirst_6 rfl (lv_at hl 1 rfl) ?_
  refine z_geti X hB.1 kc_J31 in_J31 (j := 1) (Nat.le_of_ble_eq_true rfl) q1129 (fun _ h => h) rfl (by decide) (z_fo hB ho (by decide)) dJ31_pollFirst_7 ?_
  refine lv_dup hx hb dJ31_pollFirst_10 rfl ?_
  refine lv_topi (fun y2 ey2 => ?_)
  replace h := h y2 ey2
  refine lv_istore_n (i := 2) (lv' := [(2, .int y2), (1, va_rf y1), (0, .ref o)]) hx hb dJ31_pollFirst_11 rfl hl (by decide) (by simp [z_cat, z_rfs, z_catq]) (fun ls hl9 => ?_)
  replace hl := hl9
  clear hl9
  refine z_callrp (z_runS (rest := []) [va_rf y1, .int (I o 1)] pk_J31_elementAt (met_J31_elementAt y1 (I o 1) _ h) X hB (fun h => h) q2508 rfl hl.1 (Nat.le_of_ble_eq_true rfl) dJ31_pollFirst_12 (Nat.le_refl 0) (Nat.le_refl 0) (by decide) (by decide)) hB (fun r3 H locs h9 hB => ?_)
  replace h := h9
  clear h9
  refine z_astore_n (x := r3) (lv' := [(3, va_rf r3), (2, .int y2), (1, va_rf y1), (0, .ref o)]) hx hb dJ31_pollFirst_15 rfl hl (by decide) rfl (fun ls hl9 => ?_)
  replace hl := hl9
  clear hl9
  refine z_aload_n (x := r3) hx hb dJ31_pollFirst_16 rfl (lv_at hl 0 rfl) ?_
  refine z_ifnull (tgt := 34) hx hb dJ31_pollFirst_17 (by decide) (fun c4 => ?_) (fun a5 c4 => ?_)
  · replace h := h.1 c4
    subst c4
    exact ww_J31_pollFirst_34 X ho hoc  hB (lv_sub hl [0] rfl) h
  · replace h := h.2 a5 c4
    subst c4
    refine z_aload_n (x := y1) hx hb dJ31_pollFirst_20 rfl (lv_at hl 2 rfl) ?_
    refine lv_iload_n hx hb dJ31_pollFirst_21 rfl (lv_at hl 1 rfl) ?_
    refine lv_null hx hb dJ31_pollFirst_22 ?_
    refine z_stk (st' := [va_rf none, .int y2, va_rf y1]) rfl ?_
    obtain ⟨a6, rfl, h⟩ := h
    obtain ⟨hk_a6, h⟩ := h
    obtain ⟨hc_a6, h⟩ := h
    obtain ⟨h1, h⟩ := h
    obtain ⟨Q7, eQ7⟩ : ∃ z, z = z_up Q a6 y2.toNatClampNeg none := ⟨_, rfl⟩
    replace h := h Q7 eQ7
    refine z_aastX (k := 2) (x := none) X hB (by decide) hk_a6 hc_a6 h1 (fun _ h => by cases h) dJ31_pollFirst_23 (fun H locs hB => ?_)
    rw [← eQ7] at hB
    refine lv_aload_n (x := o) hx hb dJ31_pollFirst_24 rfl (lv_at hl 3 rfl) ?_
    refine lv_iload_n hx hb dJ31_pollFirst_25 rfl (lv_at hl 1 rfl) ?_
    refine lv_aload_n (x := a6) hx hb dJ31_pollFirst_26 rfl (lv_at hl 2 rfl) ?_
    refine z_alen (k := 2) X hB.1 (by decide) hk_a6 dJ31_pollFirst_27 ?_
    refine z_callip (z_runS (rest := [.ref o]) [.int y2, .int (nI (T a6).2.1)] pk_J31_inc (met_J31_inc y2 (nI (T a6).2.1) _ h) X hB (fun h => h) q2227 rfl hl.1 (Nat.le_of_ble_eq_true rfl) dJ31_pollFirst_28 (Nat.le_refl 0) (Nat.le_refl 0) (by decide) (by decide)) hB (fun r8 H locs h9 hB => ?_)
    replace h := h9
    clear h9
    obtain ⟨I9, eI9⟩ : ∃ z, z = z_up I o 1 r8 := ⟨_, rfl⟩
    replace h := h I9 eI9
    refine z_puti (x := r8) eI9 tyJ31 X hB kc_J31 in_J31 tyJ31_ok nmJ31 (j := 1) (Nat.le_of_ble_eq_true rfl) q1129 (fun _ h => h) rfl rfl (by decide) (z_fo hB ho (by decide)) (z_foc hB ho (by decide) hoc) rfl (Or.inl rfl) dJ31_pollFirst_31 (fun H locs hB => ?_)
    exact ww_J31_pollFirst_34 X ho hoc  hB (lv_sub hl [0] rfl) h
theorem pk_J31_pollFirst : z_PV RJ31 yJ31_pollFirst cJ31_pollFirst 4 (some (.object "java/lang/Object")) 0 := ⟨q2505, q2506, q128, q2507, by decide +kernel⟩
theorem met_J31_pollFirst {l : Launch} {G : z_E} {T : z_T} {I : z_I} {Q : z_Q} (co : Nat) (o : Nat) (Qk : Option Nat → z_T → z_I → z_Q → Prop) (h : wp_J31_pollFirst co T I Q o Qk) : z_GM l G yJ31_pollFirst (ws_ yJ31_pollFirst cJ31_pollFirst 4 (some (.object "java/lang/Object"))) 9 141 0 0 [.ref o] (z_co co) T I Q (z_qr Qk) z_no := by
  obtain ⟨ho, hoc, h⟩ := h
  refine z_body (own := RJ31) (nm := "pollFirst") (by decide +kernel) rfl rfl (Nat.le_of_ble_eq_true rfl) (fun p e R s m below meth c A ls X hB hl => ?_)
  exact ww_J31_pollFirst_0 X ho hoc hB hl h
/-! J31_removeFirst -/
theorem ww_J31_removeFirst_0 {co : Nat} {o : Nat} {Qk : Option Nat → z_T → z_I → z_Q → Prop} (X : z_X l G A p R s m args meth c cJ31_removeFirst 2 RJ31 "removeFirst" (some (.object "java/lang/Object")) 0 0 10 164) (ho : (T0 o).1 = 17) {T : z_T} {I : z_I} {Q : z_Q} {H : Heap} {locs : List Loc} {ls : Array Slot} (hB : z_HB G (z_co co) A s.heap T0 I0 Q0 T I Q H locs) (hl : lv_has ls 2 [(0, .ref o)]) (h : wb_J31_removeFirst_0 co o Qk T I Q) : W p l e R s m args below meth c H locs 0 0 (z_MQ below G (z_co co) A T0 I0 Q0 (z_qr Qk) z_no args s 0 0) (F0 m 0 ls []) := by
  obtain ⟨hx, hb, -⟩ := id X
  unfold wb_J31_removeFirst_0 at h
  refine lv_aload_n (x := o) hx hb dJ31_removeFirst_0 rfl (lv_at hl 0 rfl) ?_
  refine z_callr (z_runV (rest := []) [] pk_J31_pollFirst (met_J31_pollFirst co o _ h) X hB hB.2.2.2.2.2.2 q2504 kc_J31 (by decide) (z_fo hB ho (by decide)) rfl hl.1 (Nat.le_of_ble_eq_true rfl) dJ31_removeFirst_1 (Nat.le_refl 0) (Nat.le_refl 0) (by decide) (by decide)) hB (fun _ h => h) (fun r1 T2 I3 Q4 H locs h9 hF hB => ?_)
  replace h := h9
  clear h9
  replace h := h hF
  refine z_astore_n (x := r1) (lv' := [(1, va_rf r1), (0, .ref o)]) hx hb dJ31_removeFirst_4 rfl hl (by decide) rfl (fun ls hl9 => ?_)
  replace hl := hl9
  clear hl9
  refine z_aload_n (x := r1) hx hb dJ31_removeFirst_5 rfl (lv_at hl 0 rfl) ?_
  refine z_ifnonnull (tgt := 17) hx hb dJ31_removeFirst_6 (by decide) (fun a6 c5 => ?_) (fun c5 => ?_)
  · replace h := h.2 a6 c5
    subst c5
    refine lv_aload_n (x := a6) hx hb dJ31_removeFirst_17 rfl (lv_at hl 0 rfl) ?_
    exact z_aret (v := (some a6)) X (by first | exact Or.inl ⟨_, rfl⟩ | exact Or.inr ⟨_, rfl⟩) hB ⟨_, rfl, h⟩ (Nat.le_refl 0) (Nat.le_refl 0) dJ31_removeFirst_18
  · replace h := h.1 c5
    subst c5
    exact h.elim
theorem pk_J31_removeFirst : z_PV RJ31 yJ31_removeFirst cJ31_removeFirst 2 (some (.object "java/lang/Object")) 0 := ⟨q2501, q2502, q128, q2503, by decide +kernel⟩
theorem met_J31_removeFirst {l : Launch} {G : z_E} {T : z_T} {I : z_I} {Q : z_Q} (co : Nat) (o : Nat) (Qk : Option Nat → z_T → z_I → z_Q → Prop) (h : wp_J31_removeFirst co T I Q o Qk) : z_GM l G yJ31_removeFirst (ws_ yJ31_removeFirst cJ31_removeFirst 2 (some (.object "java/lang/Object"))) 10 164 0 0 [.ref o] (z_co co) T I Q (z_qr Qk) z_no := by
  obtain ⟨ho, h⟩ := h
  refine z_body (own := RJ31) (nm := "removeFirst") (by decide +kernel) rfl rfl (Nat.le_of_ble_eq_true rfl) (fun p e R s m below meth c A ls X hB hl => ?_)
  exact ww_J31_removeFirst_0 X ho hB hl h
/-! J31_sub -/
theorem ww_J31_sub_12 {Qk : Int32 → Prop} (X : z_X l G A p R s m args meth c cJ31_sub 3 RJ31 "sub" (some .int) 0 0 8 120) {x0 : Int32} {H : Heap} {locs : List Loc} {ls : Array Slot} (hB : z_HB G z_none A s.heap T I Q T I Q H locs) (hl : lv_has ls 3 [(0, .int x0)]) (h : wb_J31_sub_12 Qk x0) : W p l e R s m args below meth c H locs 0 0 (z_MQ below G z_none A T I Q (z_pi Qk T I Q) z_no args s 0 0) (F0 m 12 ls []) := by
  obtain ⟨hx, hb, -⟩ := id X
  unfold wb_J31_sub_12 at h
  refine lv_iload_n hx hb dJ31_sub_12 rfl (lv_at hl 0 rfl) ?_
  exact z_iret X hB ⟨_, rfl, h, rfl, rfl, rfl⟩ (Nat.le_refl 0) (Nat.le_refl 0) dJ31_sub_13
theorem ww_J31_sub_0 {Qk : Int32 → Prop} (X : z_X l G A p R s m args meth c cJ31_sub 3 RJ31 "sub" (some .int) 0 0 8 120) {x0 : Int32} {x1 : Int32} {x2 : Int32} {H : Heap} {locs : List Loc} {ls : Array Slot} (hB : z_HB G z_none A s.heap T I Q T I Q H locs) (hl : lv_has ls 3 [(0, .int x0), (1, .int x1), (2, .int x2)]) (h : wb_J31_sub_0 Qk x0 x1 x2) : W p l e R s m args below meth c H locs 0 0 (z_MQ below G z_none A T I Q (z_pi Qk T I Q) z_no args s 0 0) (F0 m 0 ls []) := by
  obtain ⟨hx, hb, -⟩ := id X
  unfold wb_J31_sub_0 at h
  refine lv_iload_n hx hb dJ31_sub_0 rfl (lv_at hl 0 rfl) ?_
  refine lv_iload_n hx hb dJ31_sub_1 rfl (lv_at hl 1 rfl) ?_
  refine lv_isub hx hb dJ31_sub_2 ?_
  refine lv_dup hx hb dJ31_sub_3 rfl ?_
  refine lv_topi (fun y1 ey1 => ?_)
  replace h := h y1 ey1
  refine lv_istore_n (lv' := [(0, .int y1), (1, .int x1), (2, .int x2)]) hx hb dJ31_sub_4 rfl hl (by decide) rfl (fun ls hl9 => ?_)
  replace hl := hl9
  clear hl9
  refine lv_if_ge (tgt := 12) hx hb dJ31_sub_5 (by decide) (fun c2 => ?_) (fun c2 => ?_)
  · replace h := h.1 c2
    exact ww_J31_sub_12 X  hB (lv_sub hl [0] rfl) h
  · replace h := h.2 c2
    refine lv_iload_n hx hb dJ31_sub_8 rfl (lv_at hl 0 rfl) ?_
    refine lv_iload_n hx hb dJ31_sub_9 rfl (lv_at hl 2 rfl) ?_
    refine lv_iadd hx hb dJ31_sub_10 ?_
    refine lv_topi (fun y3 ey3 => ?_)
    replace h := h y3 ey3
    refine lv_istore_n (lv' := [(0, .int y3), (1, .int x1), (2, .int x2)]) hx hb dJ31_sub_11 rfl hl (by decide) rfl (fun ls hl9 => ?_)
    replace hl := hl9
    clear hl9
    exact ww_J31_sub_12 X  hB (lv_sub hl [0] rfl) h
theorem pk_J31_sub : z_PS yJ31_sub cJ31_sub 3 (some .int) 3 := ⟨q2203, q128, q2204, by decide +kernel⟩
theorem met_J31_sub {l : Launch} {G : z_E} {T : z_T} {I : z_I} {Q : z_Q} (x0 : Int32) (x1 : Int32) (x2 : Int32) (Qk : Int32 → Prop) (h : wp_J31_sub x0 x1 x2 Qk) : z_GM l G yJ31_sub (ws_ yJ31_sub cJ31_sub 3 (some .int)) 8 120 0 0 [.int x0, .int x1, .int x2] z_none T I Q (z_pi Qk T I Q) z_no := by
  refine z_body (own := RJ31) (nm := "sub") (by decide +kernel) rfl rfl (Nat.le_of_ble_eq_true rfl) (fun p e R s m below meth c A ls X hB hl => ?_)
  exact ww_J31_sub_0 X hB hl h
/-! J31_size -/
theorem ww_J31_size_0 {T : z_T} {I : z_I} {Q : z_Q} {o : Nat} {Qk : Int32 → Prop} (X : z_X l G A p R s m args meth c cJ31_size 1 RJ31 "size" (some .int) 0 0 9 142) (ho : (T o).1 = 17) {H : Heap} {locs : List Loc} {ls : Array Slot} (hB : z_HB G z_none A s.heap T I Q T I Q H locs) (hl : lv_has ls 1 [(0, .ref o)]) (h : wb_J31_size_0 T I Q o Qk ) : W p l e R s m args below meth c H locs 0 0 (z_MQ below G z_none A T I Q (z_pi Qk T I Q) z_no args s 0 0) (F0 m 0 ls []) := by
  obtain ⟨hx, hb, -⟩ := id X
  unfold wb_J31_size_0 at h
  refine lv_aload_n (x := o) hx hb dJ31_size_0 rfl (lv_at hl 0 rfl) ?_
  refine z_geti X hB.1 kc_J31 in_J31 (j := 2) (Nat.le_of_ble_eq_true rfl) q1130 (fun _ h => h) rfl (by decide) ho dJ31_size_1 ?_
  refine lv_aload_n (x := o) hx hb dJ31_size_4 rfl (lv_at hl 0 rfl) ?_
  refine z_geti X hB.1 kc_J31 in_J31 (j := 1) (Nat.le_of_ble_eq_true rfl) q1129 (fun _ h => h) rfl (by decide) ho dJ31_size_5 ?_
  refine lv_aload_n (x := o) hx hb dJ31_size_8 rfl (lv_at hl 0 rfl) ?_
  refine z_getq X hB.1 kc_J31 in_J31 (j := 0) (Nat.le_of_ble_eq_true rfl) q1126 (fun _ h => h) rfl (by decide) ho dJ31_size_9 ?_
  obtain ⟨a1, ea1, h⟩ := h
  refine z_stk (st' := [.ref a1, .int (I o 1), .int (I o 2)]) (by rw [ea1] <;> rfl) ?_
  obtain ⟨hk_a1, h⟩ := h
  refine z_alen (k := 2) X hB.1 (by decide) hk_a1 dJ31_size_12 ?_
  refine z_callip (z_runS (rest := []) [.int (I o 2), .int (I o 1), .int (nI (T a1).2.1)] pk_J31_sub (met_J31_sub (I o 2) (I o 1) (nI (T a1).2.1) _ h) X hB (fun h => h) q2202 rfl hl.1 (Nat.le_of_ble_eq_true rfl) dJ31_size_13 (Nat.le_refl 0) (Nat.le_refl 0) (by decide) (by decide)) hB (fun r2 H locs h9 hB => ?_)
  replace h := h9
  clear h9
  exact z_iret X hB ⟨_, rfl, h, rfl, rfl, rfl⟩ (Nat.le_refl 0) (Nat.le_refl 0) dJ31_size_16
theorem pk_J31_size : z_PV RJ31 yJ31_size cJ31_size 1 (some .int) 0 := ⟨q2199, q2200, q128, q2201, by decide +kernel⟩
theorem met_J31_size {l : Launch} {G : z_E} {T : z_T} {I : z_I} {Q : z_Q} (o : Nat) (Qk : Int32 → Prop) (h : wp_J31_size T I Q o Qk) : z_GM l G yJ31_size (ws_ yJ31_size cJ31_size 1 (some .int)) 9 142 0 0 [.ref o] z_none T I Q (z_pi Qk T I Q) z_no := by
  obtain ⟨ho, h⟩ := h
  refine z_body (own := RJ31) (nm := "size") (by decide +kernel) rfl rfl (Nat.le_of_ble_eq_true rfl) (fun p e R s m below meth c A ls X hB hl => ?_)
  exact ww_J31_size_0 X ho hB hl h
/-! X11_init -/
theorem ww_X11_init_0 {co : Nat} {o : Nat} {Qk : z_T → z_I → z_Q → Prop} (X : z_X l G A p R s m args meth c cX11_init 5 RX11 "<init>" none mc ms 8 120) (ho : (T0 o).1 = 8) (hoc : (T0 o).2.2 = co) {cells slots : Nat} {T : z_T} {I : z_I} {Q : z_Q} {kc : Nat} {ks : Nat} {x1 : Int32} {x2 : Int32} {x3 : Int32} {x4 : Int32} {H : Heap} {locs : List Loc} {ls : Array Slot} (hB : z_HB G (z_co co) A s.heap T0 I0 Q0 T I Q H locs) (hK1 : cells + kc ≤ mc) (hK2 : slots + ks ≤ ms) (hl : lv_has ls 5 [(0, .ref o), (1, .int x1), (2, .int x2), (3, .int x3), (4, .int x4)]) (h : wb_X11_init_0 co o Qk T I Q kc ks x1 x2 x3 x4) : W p l e R s m args below meth c H locs cells slots (z_MQ below G (z_co co) A T0 I0 Q0 (z_qv Qk) z_no args s mc ms) (F0 m 0 ls []) := by
  obtain ⟨hx, hb, -⟩ := id X
  unfold wb_X11_init_0 at h
  refine lv_aload_n (x := o) hx hb dX11_init_0 rfl (lv_at hl 0 rfl) ?_
  refine z_objInit (rest := []) X q2863 hl.1 dX11_init_1 (by decide) (Nat.le_of_ble_eq_true rfl) ?_
  refine lv_aload_n (x := o) hx hb dX11_init_4 rfl (lv_at hl 0 rfl) ?_
  refine lv_iconst (v := 4) hx hb dX11_init_5 (by decide) ?_
  obtain ⟨g1, g2, h⟩ := h
  refine z_newa (k := 0) (n := 4) (col := co) (.int) rfl (by decide) X hB q1170 (by decide) rfl (Nat.le_of_ble_eq_true rfl) rfl (z_k1 hK1 g1) (z_k1 hK2 g2) dX11_init_6 (fun a1 H hq hB => ?_)
  obtain ⟨T2, eT2⟩ : ∃ z, z = z_t T a1 (100, 4, co) := ⟨_, rfl⟩
  obtain ⟨I3, eI3⟩ : ∃ z, z = z_row I a1 (fun _ => 0) := ⟨_, rfl⟩
  obtain ⟨Q4, eQ4⟩ : ∃ z, z = z_row Q a1 (fun _ => none) := ⟨_, rfl⟩
  rw [← eT2, ← eI3, ← eQ4] at hB
  replace h := h a1 T2 I3 Q4 hq eT2 eI3 eQ4
  have hk_a1 := z_tq eT2
  have hc_a1 : (T2 a1).2.2 = co := by rw [z_tqc eT2]
  replace hK1 := z_k2 hK1 g1
  replace hK2 := z_k2 hK2 g2
  refine lv_dup hx hb dX11_init_8 rfl ?_
  refine lv_iconst (v := 0) hx hb dX11_init_9 (by decide) ?_
  refine lv_iload_n hx hb dX11_init_10 rfl (lv_at hl 1 rfl) ?_
  obtain ⟨h1, h⟩ := h
  obtain ⟨I5, eI5⟩ : ∃ z, z = z_up I3 a1 (0 : Int32).toNatClampNeg x1 := ⟨_, rfl⟩
  replace h := h I5 eI5
  refine z_iast (x := x1) X hB hk_a1 hc_a1 h1 dX11_init_11 (fun H locs hB => ?_)
  rw [← eI5] at hB
  refine lv_dup hx hb dX11_init_12 rfl ?_
  refine lv_iconst (v := 1) hx hb dX11_init_13 (by decide) ?_
  refine lv_iload_n hx hb dX11_init_14 rfl (lv_at hl 2 rfl) ?_
  obtain ⟨h1, h⟩ := h
  obtain ⟨I6, eI6⟩ : ∃ z, z = z_up I5 a1 (1 : Int32).toNatClampNeg x2 := ⟨_, rfl⟩
  replace h := h I6 eI6
  refine z_iast (x := x2) X hB hk_a1 hc_a1 h1 dX11_init_15 (fun H locs hB => ?_)
  rw [← eI6] at hB
  refine lv_dup hx hb dX11_init_16 rfl ?_
  refine lv_iconst (v := 2) hx hb dX11_init_17 (by decide) ?_
  refine lv_iload_n hx hb dX11_init_18 rfl (lv_at hl 3 rfl) ?_
  obtain ⟨h1, h⟩ := h
  obtain ⟨I7, eI7⟩ : ∃ z, z = z_up I6 a1 (2 : Int32).toNatClampNeg x3 := ⟨_, rfl⟩
  replace h := h I7 eI7
  refine z_iast (x := x3) X hB hk_a1 hc_a1 h1 dX11_init_19 (fun H locs hB => ?_)
  rw [← eI7] at hB
  refine lv_dup hx hb dX11_init_20 rfl ?_
  refine lv_iconst (v := 3) hx hb dX11_init_21 (by decide) ?_
  refine lv_iload hx hb dX11_init_22 (lv_at hl 4 rfl) ?_
  obtain ⟨h1, h⟩ := h
  obtain ⟨I8, eI8⟩ : ∃ z, z = z_up I7 a1 (3 : Int32).toNatClampNeg x4 := ⟨_, rfl⟩
  replace h := h I8 eI8
  refine z_iast (x := x4) X hB hk_a1 hc_a1 h1 dX11_init_24 (fun H locs hB => ?_)
  rw [← eI8] at hB
  obtain ⟨Q9, eQ9⟩ : ∃ z, z = z_up Q4 o 0 (some a1) := ⟨_, rfl⟩
  replace h := h Q9 eQ9
  refine z_putqF (x := (some a1)) eQ9 tyX11 X hB kc_X11 in_X11 tyX11_ok nmX11 (j := 0) (Nat.le_of_ble_eq_true rfl) q2864 (fun _ h => h) rfl rfl rfl (by decide) (z_fo hB ho (by decide)) (z_foc hB ho (by decide) hoc) rfl (Or.inr ⟨_, rfl⟩) dX11_init_25 (fun H locs hB => ?_)
  exact z_vret X hB ⟨rfl, h⟩ (z_k3 hK1) (z_k3 hK2) dX11_init_28
theorem pk_X11_init : z_PI yX11_init cX11_init 5 4 := ⟨q2861, q156, q2862, rfl, by decide +kernel⟩
theorem met_X11_init {l : Launch} {G : z_E} {T : z_T} {I : z_I} {Q : z_Q} (co : Nat) (o : Nat) (x1 : Int32) (x2 : Int32) (x3 : Int32) (x4 : Int32) (kc : Nat) (ks : Nat) (Qk : z_T → z_I → z_Q → Prop) (h : wp_X11_init co T I Q o x1 x2 x3 x4 kc ks Qk) : z_GM l G yX11_init (ws_ yX11_init cX11_init 5 none) 8 120 kc ks [.ref o, .int x1, .int x2, .int x3, .int x4] (z_co co) T I Q (z_qv Qk) z_no := by
  obtain ⟨ho, hoc, h⟩ := h
  refine z_body (own := RX11) (nm := "<init>") (by decide +kernel) rfl rfl (Nat.le_of_ble_eq_true rfl) (fun p e R s m below meth c A ls X hB hl => ?_)
  exact ww_X11_init_0 X ho hoc hB z_k0 z_k0 hl h
/-! X2_note -/
theorem ww_X2_note_24 {co : Nat} {o : Nat} {Qk : z_T → z_I → z_Q → Prop} (X : z_X l G A p R s m args meth c cX2_note 5 RX2 "note" none mc ms 12 214) (ho : (T0 o).1 = 3) {cells slots : Nat} {T : z_T} {I : z_I} {Q : z_Q} {kc : Nat} {ks : Nat} {x1 : Int32} {x2 : Int32} {x3 : Int32} {H : Heap} {locs : List Loc} {ls : Array Slot} (hB : z_HB G (z_co co) A s.heap T0 I0 Q0 T I Q H locs) (hK1 : cells + kc ≤ mc) (hK2 : slots + ks ≤ ms) (hl : lv_has ls 5 [(0, .ref o), (1, .int x1), (2, .int x2), (3, .int x3)]) (h : wb_X2_note_24 G.2.2 co o Qk T I Q kc ks x1 x2 x3) : W p l e R s m args below meth c H locs cells slots (z_MQ below G (z_co co) A T0 I0 Q0 (z_qv Qk) z_no args s mc ms) (F0 m 24 ls []) := by
  obtain ⟨hx, hb, -⟩ := id X
  unfold wb_X2_note_24 at h
  refine lv_aload_n (x := o) hx hb dX2_note_24 rfl (lv_at hl 0 rfl) ?_
  refine z_getq X hB.1 kc_X2 in_X2 (j := 4) (Nat.le_of_ble_eq_true rfl) q1248 (fun _ h => h) rfl (by decide) (z_fo hB ho (by decide)) dX2_note_25 ?_
  obtain ⟨g1, g2, h⟩ := h
  refine z_new (col := co) tyX11 X hB kc_X11 in_X11 tyX11_ok q2353 q2859 q156 (by decide) (z_dvX11) rfl (z_k1 hK1 g1) (z_k1 hK2 g2) dX2_note_28 (fun a8 H hq hB => ?_)
  obtain ⟨T9, eT9⟩ : ∃ z, z = z_t T a8 (8, 0, co) := ⟨_, rfl⟩
  obtain ⟨I10, eI10⟩ : ∃ z, z = z_row I a8 (fun _ => 0) := ⟨_, rfl⟩
  obtain ⟨Q11, eQ11⟩ : ∃ z, z = z_row Q a8 (fun _ => none) := ⟨_, rfl⟩
  rw [← eT9, ← eI10, ← eQ11] at hB
  replace h := h a8 T9 I10 Q11 hq eT9 eI10 eQ11
  have hk_a8 := z_tq eT9
  have hc_a8 : (T9 a8).2.2 = co := by rw [z_tqc eT9]
  replace hK1 := z_k2 hK1 g1
  replace hK2 := z_k2 hK2 g2
  refine lv_dup hx hb dX2_note_31 rfl ?_
  refine lv_aload_n (x := o) hx hb dX2_note_32 rfl (lv_at hl 0 rfl) ?_
  refine z_geti X hB.1 kc_X2 in_X2 (j := 6) (Nat.le_of_ble_eq_true rfl) q1253 (fun _ h => h) rfl (by decide) (z_fo hB ho (by decide)) dX2_note_33 ?_
  refine lv_iload_n hx hb dX2_note_36 rfl (lv_at hl 1 rfl) ?_
  refine lv_iload_n hx hb dX2_note_37 rfl (lv_at hl 2 rfl) ?_
  refine lv_iload_n hx hb dX2_note_38 rfl (lv_at hl 3 rfl) ?_
  obtain ⟨kc13, ks14, g1, g2, h⟩ := h
  refine z_callv (z_runI (rest := [.ref a8, va_rf (Q o 4)]) [.int (I10 o 6), .int x1, .int x2, .int x3] pk_X11_init (met_X11_init co a8 (I10 o 6) x1 x2 x3 kc13 ks14 _ h) X hB hB.2.2.2.2.2.2 q2860 rfl hl.1 (by simp [z_cat, z_cati, z_catl, z_catf, z_catd, z_catq]) dX2_note_39 (z_k1 hK1 g1) (z_k1 hK2 g2) (by decide) (by decide)) hB (fun _ h => h) (fun T15 I16 Q17 H locs h9 hF hB => ?_)
  replace h := h9
  clear h9
  replace h := h hF
  have hc_a8 : (T15 a8).2.2 = co := by rw [z_te hF hk_a8 (by decide)]; exact hc_a8
  have hk_a8 := z_tk hF hk_a8 (by decide)
  replace hK1 := z_k2 hK1 g1
  replace hK2 := z_k2 hK2 g2
  obtain ⟨a18, ea18, h⟩ := h
  refine z_stk (st' := [.ref a8, .ref a18]) (by rw [ea18] <;> rfl) ?_
  obtain ⟨hk_a18, h⟩ := h
  obtain ⟨kc20, ks21, g1, g2, h⟩ := h
  refine z_callv (z_runV (rest := []) [.ref a8] pk_J31_addLast (met_J31_addLast co a18 (some a8) kc20 ks21 _ h) X hB hB.2.2.2.2.2.2 q2354 kc_J31 (by decide) hk_a18 rfl hl.1 (Nat.le_of_ble_eq_true rfl) dX2_note_42 (z_k1 hK1 g1) (z_k1 hK2 g2) (by decide) (by decide)) hB (fun _ h => h) (fun T22 I23 Q24 H locs h9 hF hB => ?_)
  replace h := h9
  clear h9
  replace h := h hF
  replace hK1 := z_k2 hK1 g1
  replace hK2 := z_k2 hK2 g2
  exact z_vret X hB ⟨rfl, h⟩ (z_k3 hK1) (z_k3 hK2) dX2_note_45
theorem ww_X2_note_0 {co : Nat} {o : Nat} {Qk : z_T → z_I → z_Q → Prop} (X : z_X l G A p R s m args meth c cX2_note 5 RX2 "note" none mc ms 12 214) (ho : (T0 o).1 = 3) {cells slots : Nat} {T : z_T} {I : z_I} {Q : z_Q} {kc : Nat} {ks : Nat} {x1 : Int32} {x2 : Int32} {x3 : Int32} {H : Heap} {locs : List Loc} {ls : Array Slot} (hB : z_HB G (z_co co) A s.heap T0 I0 Q0 T I Q H locs) (hK1 : cells + kc ≤ mc) (hK2 : slots + ks ≤ ms) (hl : lv_has ls 5 [(0, .ref o), (1, .int x1), (2, .int x2), (3, .int x3)]) (h : wb_X2_note_0 G.2.2 co o Qk T I Q kc ks x1 x2 x3) : W p l e R s m args below meth c H locs cells slots (z_MQ below G (z_co co) A T0 I0 Q0 (z_qv Qk) z_no args s mc ms) (F0 m 0 ls []) := by
  obtain ⟨hx, hb, -⟩ := id X
  unfold wb_X2_note_0 at h
  refine lv_aload_n (x := o) hx hb dX2_note_0 rfl (lv_at hl 0 rfl) ?_
  refine z_getq X hB.1 kc_X2 in_X2 (j := 4) (Nat.le_of_ble_eq_true rfl) q1248 (fun _ h => h) rfl (by decide) (z_fo hB ho (by decide)) dX2_note_1 ?_
  obtain ⟨a1, ea1, h⟩ := h
  refine z_stk (st' := [.ref a1]) (by rw [ea1] <;> rfl) ?_
  obtain ⟨hk_a1, h⟩ := h
  refine z_callip (z_runV (rest := []) [] pk_J31_size (met_J31_size a1 _ h) X hB (fun h => h) q2857 kc_J31 (by decide) hk_a1 rfl hl.1 (Nat.le_of_ble_eq_true rfl) dX2_note_4 (z_k4 hK1) (z_k4 hK2) (by decide) (by decide)) hB (fun r2 H locs h9 hB => ?_)
  replace h := h9
  clear h9
  refine lv_bipush (v := 24) hx hb dX2_note_7 (by decide) ?_
  refine lv_icmp_ne (tgt := 24) hx hb dX2_note_9 (by decide) (fun c3 => ?_) (fun c3 => ?_)
  · replace h := h.1 c3
    exact ww_X2_note_24 X ho  hB hK1 hK2 (lv_sub hl [0, 1, 2, 3] rfl) h
  · replace h := h.2 c3
    refine lv_aload_n (x := o) hx hb dX2_note_12 rfl (lv_at hl 0 rfl) ?_
    refine z_getq X hB.1 kc_X2 in_X2 (j := 4) (Nat.le_of_ble_eq_true rfl) q1248 (fun _ h => h) rfl (by decide) (z_fo hB ho (by decide)) dX2_note_13 ?_
    refine z_stk (st' := [.ref a1]) (by rw [ea1] <;> rfl) ?_
    refine z_callr (z_runV (rest := []) [] pk_J31_removeFirst (met_J31_removeFirst co a1 _ h) X hB hB.2.2.2.2.2.2 q2858 kc_J31 (by decide) hk_a1 rfl hl.1 (Nat.le_of_ble_eq_true rfl) dX2_note_16 (z_k4 hK1) (z_k4 hK2) (by decide) (by decide)) hB (fun _ h => h) (fun r4 T5 I6 Q7 H locs h9 hF hB => ?_)
    replace h := h9
    clear h9
    replace h := h hF
    obtain ⟨h2, h⟩ := h
    refine z_castR X hB.1 kc_X11 (by decide) h2 q2353 (Or.inl rfl) dX2_note_19 ?_
    refine z_astore (x := r4) (lv' := [(4, va_rf r4), (0, .ref o), (1, .int x1), (2, .int x2), (3, .int x3)]) hx hb dX2_note_22 hl (by decide) rfl (fun ls hl9 => ?_)
    replace hl := hl9
    clear hl9
    exact ww_X2_note_24 X ho  hB hK1 hK2 (lv_sub hl [1, 2, 3, 4] rfl) h
theorem pk_X2_note : z_PV RX2 yX2_note cX2_note 5 none 3 := ⟨q2854, q2855, q95, q2856, by decide +kernel⟩
theorem met_X2_note {l : Launch} {G : z_E} {T : z_T} {I : z_I} {Q : z_Q} (co : Nat) (o : Nat) (x1 : Int32) (x2 : Int32) (x3 : Int32) (kc : Nat) (ks : Nat) (Qk : z_T → z_I → z_Q → Prop) (h : wp_X2_note G.2.2 co T I Q o x1 x2 x3 kc ks Qk) : z_GM l G yX2_note (ws_ yX2_note cX2_note 5 none) 12 214 kc ks [.ref o, .int x1, .int x2, .int x3] (z_co co) T I Q (z_qv Qk) z_no := by
  obtain ⟨ho, h⟩ := h
  refine z_body (own := RX2) (nm := "note") (by decide +kernel) rfl rfl (Nat.le_of_ble_eq_true rfl) (fun p e R s m below meth c A ls X hB hl => ?_)
  exact ww_X2_note_0 X ho hB z_k0 z_k0 hl h
/-! X4_work -/
theorem ww_X4_work_0 {co : Nat} {o : Nat} {Qk : z_T → z_I → z_Q → Prop} (X : z_X l G A p R s m args meth c cX4_work 1 RX4 "work" none 0 0 9 140) (ho : (T0 o).1 = 4) (hoc : (T0 o).2.2 = co) {T : z_T} {I : z_I} {Q : z_Q} {H : Heap} {locs : List Loc} {ls : Array Slot} (hB : z_HB G (z_co co) A s.heap T0 I0 Q0 T I Q H locs) (hl : lv_has ls 1 [(0, .ref o)]) (h : wb_X4_work_0 co o Qk T I Q) : W p l e R s m args below meth c H locs 0 0 (z_MQ below G (z_co co) A T0 I0 Q0 (z_qv Qk) z_no args s 0 0) (F0 m 0 ls []) := by
  obtain ⟨hx, hb, -⟩ := id X
  unfold wb_X4_work_0 at h
  refine lv_aload_n (x := o) hx hb dX4_work_0 rfl (lv_at hl 0 rfl) ?_
  refine lv_iconst (v := 1) hx hb dX4_work_1 (by decide) ?_
  obtain ⟨I1, eI1⟩ : ∃ z, z = z_up I o 4 1 := ⟨_, rfl⟩
  replace h := h I1 eI1
  refine z_puti (x := 1) eI1 tyX4 X hB kc_X4 in_X4 tyX4_ok nmX4 (j := 4) (Nat.le_of_ble_eq_true rfl) q1187 (fun _ h => h) rfl rfl (by decide) (z_fo hB ho (by decide)) (z_foc hB ho (by decide) hoc) rfl (Or.inl rfl) dX4_work_2 (fun H locs hB => ?_)
  refine lv_aload_n (x := o) hx hb dX4_work_5 rfl (lv_at hl 0 rfl) ?_
  refine lv_aload_n (x := o) hx hb dX4_work_6 rfl (lv_at hl 0 rfl) ?_
  refine z_callrp (z_runV (rest := [.ref o]) [] pk_X4_order (met_X4_order o _ h) X hB (fun h => h) q1336 kc_X4 (by decide) (z_fo hB ho (by decide)) rfl hl.1 (Nat.le_of_ble_eq_true rfl) dX4_work_7 (Nat.le_refl 0) (Nat.le_refl 0) (by decide) (by decide)) hB (fun r2 H locs h9 hB => ?_)
  replace h := h9
  clear h9
  obtain ⟨a3, rfl, h⟩ := h
  obtain ⟨hk_a3, h⟩ := h
  refine z_getiN X hB.1 kc_X8 in_X8 (j := 3) (Nat.le_of_ble_eq_true rfl) q2653 (fun _ h => h) rfl (by decide) hk_a3 dX4_work_10 ?_
  obtain ⟨I4, eI4⟩ : ∃ z, z = z_up I1 o 6 (I1 a3 3) := ⟨_, rfl⟩
  replace h := h I4 eI4
  refine z_puti (x := (I1 a3 3)) eI4 tyX4 X hB kc_X4 in_X4 tyX4_ok nmX4 (j := 6) (Nat.le_of_ble_eq_true rfl) q1191 (fun _ h => h) rfl rfl (by decide) (z_fo hB ho (by decide)) (z_foc hB ho (by decide) hoc) rfl (Or.inl rfl) dX4_work_13 (fun H locs hB => ?_)
  exact z_vret X hB ⟨rfl, h⟩ (Nat.le_refl 0) (Nat.le_refl 0) dX4_work_16
theorem pk_X4_work : z_PV RX4 yX4_work cX4_work 1 none 0 := ⟨q2851, qs30, q130, q2852, by decide +kernel⟩
theorem met_X4_work {l : Launch} {G : z_E} {T : z_T} {I : z_I} {Q : z_Q} (co : Nat) (o : Nat) (Qk : z_T → z_I → z_Q → Prop) (h : wp_X4_work co T I Q o Qk) : z_GM l G yX4_work (ws_ yX4_work cX4_work 1 none) 9 140 0 0 [.ref o] (z_co co) T I Q (z_qv Qk) z_no := by
  obtain ⟨ho, hoc, h⟩ := h
  refine z_body (own := RX4) (nm := "work") (by decide +kernel) rfl rfl (Nat.le_of_ble_eq_true rfl) (fun p e R s m below meth c A ls X hB hl => ?_)
  exact ww_X4_work_0 X ho hoc hB hl h
/-! X4_zone -/
theorem ww_X4_zone_23 {T : z_T} {I : z_I} {Q : z_Q} {o : Nat} {Qk : Int32 → Prop} (X : z_X l G A p R s m args meth c cX4_zone 1 RX4 "zone" (some .int) 0 0 9 140) (ho : (T o).1 = 4) {s0 : Int32} {H : Heap} {locs : List Loc} {ls : Array Slot} (hB : z_HB G z_none A s.heap T I Q T I Q H locs) (hl : lv_has ls 1 []) (h : wb_X4_zone_23 T I Q o Qk s0) : W p l e R s m args below meth c H locs 0 0 (z_MQ below G z_none A T I Q (z_pi Qk T I Q) z_no args s 0 0) (F0 m 23 ls [.int s0]) := by
  obtain ⟨hx, hb, -⟩ := id X
  unfold wb_X4_zone_23 at h
  exact z_iret X hB ⟨_, rfl, h, rfl, rfl, rfl⟩ (Nat.le_refl 0) (Nat.le_refl 0) dX4_zone_23
theorem ww_X4_zone_0 {T : z_T} {I : z_I} {Q : z_Q} {o : Nat} {Qk : Int32 → Prop} (X : z_X l G A p R s m args meth c cX4_zone 1 RX4 "zone" (some .int) 0 0 9 140) (ho : (T o).1 = 4) {H : Heap} {locs : List Loc} {ls : Array Slot} (hB : z_HB G z_none A s.heap T I Q T I Q H locs) (hl : lv_has ls 1 [(0, .ref o)]) (h : wb_X4_zone_0 T I Q o Qk ) : W p l e R s m args below meth c H locs 0 0 (z_MQ below G z_none A T I Q (z_pi Qk T I Q) z_no args s 0 0) (F0 m 0 ls []) := by
  obtain ⟨hx, hb, -⟩ := id X
  unfold wb_X4_zone_0 at h
  refine lv_aload_n (x := o) hx hb dX4_zone_0 rfl (lv_at hl 0 rfl) ?_
  refine z_geti X hB.1 kc_X4 in_X4 (j := 4) (Nat.le_of_ble_eq_true rfl) q1187 (fun _ h => h) rfl (by decide) ho dX4_zone_1 ?_
  refine lv_if_ne (tgt := 11) hx hb dX4_zone_4 (by decide) (fun c1 => ?_) (fun c1 => ?_)
  · replace h := h.1 c1
    refine lv_aload_n (x := o) hx hb dX4_zone_11 rfl (lv_at hl 0 rfl) ?_
    refine z_callrp (z_runV (rest := []) [] pk_X4_order (met_X4_order o _ h) X hB (fun h => h) q1336 kc_X4 (by decide) ho rfl hl.1 (Nat.le_of_ble_eq_true rfl) dX4_zone_12 (Nat.le_refl 0) (Nat.le_refl 0) (by decide) (by decide)) hB (fun r2 H locs h9 hB => ?_)
    replace h := h9
    clear h9
    obtain ⟨a3, rfl, h⟩ := h
    obtain ⟨hk_a3, h⟩ := h
    refine z_getqN X hB.1 kc_X8 in_X8 (j := 2) (Nat.le_of_ble_eq_true rfl) q2648 (fun _ h => h) rfl (by decide) hk_a3 dX4_zone_15 ?_
    refine lv_aload_n (x := o) hx hb dX4_zone_18 rfl (lv_at hl 0 rfl) ?_
    refine z_geti X hB.1 kc_X4 in_X4 (j := 5) (Nat.le_of_ble_eq_true rfl) q1190 (fun _ h => h) rfl (by decide) ho dX4_zone_19 ?_
    obtain ⟨a4, ea4, h⟩ := h
    refine z_stk (st' := [.int (I o 5), .ref a4]) (by rw [ea4] <;> rfl) ?_
    obtain ⟨hk_a4, h⟩ := h
    obtain ⟨h1, h⟩ := h
    refine z_iald X hB.1 hk_a4 h1 dX4_zone_22 ?_
    exact ww_X4_zone_23 X ho  hB (lv_sub hl [] rfl) h
  · replace h := h.2 c1
    refine lv_iconst (v := (-1)) hx hb dX4_zone_7 (by decide) ?_
    refine lv_goto (tgt := 23) hx hb dX4_zone_8 (by decide) ?_
    exact ww_X4_zone_23 X ho  hB (lv_sub hl [] rfl) h
theorem pk_X4_zone : z_PV RX4 yX4_zone cX4_zone 1 (some .int) 0 := ⟨q2762, q2763, q130, q2764, by decide +kernel⟩
theorem met_X4_zone {l : Launch} {G : z_E} {T : z_T} {I : z_I} {Q : z_Q} (o : Nat) (Qk : Int32 → Prop) (h : wp_X4_zone T I Q o Qk) : z_GM l G yX4_zone (ws_ yX4_zone cX4_zone 1 (some .int)) 9 140 0 0 [.ref o] z_none T I Q (z_pi Qk T I Q) z_no := by
  obtain ⟨ho, h⟩ := h
  refine z_body (own := RX4) (nm := "zone") (by decide +kernel) rfl rfl (Nat.le_of_ble_eq_true rfl) (fun p e R s m below meth c A ls X hB hl => ?_)
  exact ww_X4_zone_0 X ho hB hl h
/-! X4_arrive -/
theorem ww_X4_arrive_0 {co : Nat} {o : Nat} {Qk : z_T → z_I → z_Q → Prop} (X : z_X l G A p R s m args meth c cX4_arrive 2 RX4 "arrive" none mc ms 13 238) (ho : (T0 o).1 = 4) (hoc : (T0 o).2.2 = co) {cells slots : Nat} {T : z_T} {I : z_I} {Q : z_Q} {kc : Nat} {ks : Nat} {H : Heap} {locs : List Loc} {ls : Array Slot} (hB : z_HB G (z_co co) A s.heap T0 I0 Q0 T I Q H locs) (hK1 : cells + kc ≤ mc) (hK2 : slots + ks ≤ ms) (hl : lv_has ls 2 [(0, .ref o)]) (h : wb_X4_arrive_0 G.2.2 co o Qk T I Q kc ks) : W p l e R s m args below meth c H locs cells slots (z_MQ below G (z_co co) A T0 I0 Q0 (z_qv Qk) z_no args s mc ms) (F0 m 0 ls []) := by
  obtain ⟨hx, hb, -⟩ := id X
  unfold wb_X4_arrive_0 at h
  refine lv_aload_n (x := o) hx hb dX4_arrive_0 rfl (lv_at hl 0 rfl) ?_
  refine z_callip (z_runV (rest := []) [] pk_X4_zone (met_X4_zone o _ h) X hB (fun h => h) q2761 kc_X4 (by decide) (z_fo hB ho (by decide)) rfl hl.1 (Nat.le_of_ble_eq_true rfl) dX4_arrive_1 (z_k4 hK1) (z_k4 hK2) (by decide) (by decide)) hB (fun r1 H locs h9 hB => ?_)
  replace h := h9
  clear h9
  refine lv_istore_n (lv' := [(1, .int r1), (0, .ref o)]) hx hb dX4_arrive_4 rfl hl (by decide) rfl (fun ls hl9 => ?_)
  replace hl := hl9
  clear hl9
  refine lv_aload_n (x := o) hx hb dX4_arrive_5 rfl (lv_at hl 1 rfl) ?_
  refine lv_dup hx hb dX4_arrive_6 rfl ?_
  refine z_geti X hB.1 kc_X4 in_X4 (j := 5) (Nat.le_of_ble_eq_true rfl) q1190 (fun _ h => h) rfl (by decide) (z_fo hB ho (by decide)) dX4_arrive_7 ?_
  refine lv_iconst (v := 1) hx hb dX4_arrive_10 (by decide) ?_
  refine lv_iadd hx hb dX4_arrive_11 ?_
  obtain ⟨I2, eI2⟩ : ∃ z, z = z_up I o 5 ((I o 5) + 1) := ⟨_, rfl⟩
  replace h := h I2 eI2
  refine z_puti (x := ((I o 5) + 1)) eI2 tyX4 X hB kc_X4 in_X4 tyX4_ok nmX4 (j := 5) (Nat.le_of_ble_eq_true rfl) q1190 (fun _ h => h) rfl rfl (by decide) (z_fo hB ho (by decide)) (z_foc hB ho (by decide) hoc) rfl (Or.inl rfl) dX4_arrive_12 (fun H locs hB => ?_)
  refine lv_aload_n (x := o) hx hb dX4_arrive_15 rfl (lv_at hl 1 rfl) ?_
  refine z_callv (z_runV (rest := []) [] pk_X4_work (met_X4_work co o _ h) X hB hB.2.2.2.2.2.2 q2849 kc_X4 (by decide) (z_fo hB ho (by decide)) rfl hl.1 (Nat.le_of_ble_eq_true rfl) dX4_arrive_16 (z_k4 hK1) (z_k4 hK2) (by decide) (by decide)) hB (fun _ h => h) (fun T4 I5 Q6 H locs h9 hF hB => ?_)
  replace h := h9
  clear h9
  replace h := h hF
  refine lv_aload_n (x := o) hx hb dX4_arrive_19 rfl (lv_at hl 1 rfl) ?_
  refine z_getq X hB.1 kc_X4 in_X4 (j := 13) (Nat.le_of_ble_eq_true rfl) q1204 (fun _ h => h) rfl (by decide) (z_fo hB ho (by decide)) dX4_arrive_20 ?_
  refine lv_aload_n (x := o) hx hb dX4_arrive_23 rfl (lv_at hl 1 rfl) ?_
  refine z_geti X hB.1 kc_X4 in_X4 (j := 0) (Nat.le_of_ble_eq_true rfl) q1178 (fun _ h => h) rfl (by decide) (z_fo hB ho (by decide)) dX4_arrive_24 ?_
  refine lv_iconst (v := 2) hx hb dX4_arrive_27 (by decide) ?_
  refine lv_iload_n hx hb dX4_arrive_28 rfl (lv_at hl 0 rfl) ?_
  obtain ⟨a7, ea7, h⟩ := h
  refine z_stk (st' := [.int r1, .int 2, .int (I5 o 0), .ref a7]) (by rw [ea7] <;> rfl) ?_
  obtain ⟨hk_a7, h⟩ := h
  obtain ⟨kc9, ks10, g1, g2, h⟩ := h
  refine z_callv (z_runV (rest := []) [.int (I5 o 0), .int 2, .int r1] pk_X2_note (met_X2_note co a7 (I5 o 0) 2 r1 kc9 ks10 _ h) X hB hB.2.2.2.2.2.2 q2853 kc_X2 (by decide) hk_a7 rfl hl.1 (Nat.le_of_ble_eq_true rfl) dX4_arrive_29 (z_k1 hK1 g1) (z_k1 hK2 g2) (by decide) (by decide)) hB (fun _ h => h) (fun T11 I12 Q13 H locs h9 hF hB => ?_)
  replace h := h9
  clear h9
  replace h := h hF
  replace hK1 := z_k2 hK1 g1
  replace hK2 := z_k2 hK2 g2
  exact z_vret X hB ⟨rfl, h⟩ (z_k3 hK1) (z_k3 hK2) dX4_arrive_32
theorem pk_X4_arrive : z_PV RX4 yX4_arrive cX4_arrive 2 none 0 := ⟨q2898, qs35, q130, q2899, by decide +kernel⟩
theorem met_X4_arrive {l : Launch} {G : z_E} {T : z_T} {I : z_I} {Q : z_Q} (co : Nat) (o : Nat) (kc : Nat) (ks : Nat) (Qk : z_T → z_I → z_Q → Prop) (h : wp_X4_arrive G.2.2 co T I Q o kc ks Qk) : z_GM l G yX4_arrive (ws_ yX4_arrive cX4_arrive 2 none) 13 238 kc ks [.ref o] (z_co co) T I Q (z_qv Qk) z_no := by
  obtain ⟨ho, hoc, h⟩ := h
  refine z_body (own := RX4) (nm := "arrive") (by decide +kernel) rfl rfl (Nat.le_of_ble_eq_true rfl) (fun p e R s m below meth c A ls X hB hl => ?_)
  exact ww_X4_arrive_0 X ho hoc hB z_k0 z_k0 hl h
/-! X2_newPart -/
theorem ww_X2_newPart_0 {co : Nat} {o : Nat} {Qk : Int32 → z_T → z_I → z_Q → Prop} (X : z_X l G A p R s m args meth c cX2_newPart 1 RX2 "newPart" (some .int) 0 0 8 120) (ho : (T0 o).1 = 3) (hoc : (T0 o).2.2 = co) {T : z_T} {I : z_I} {Q : z_Q} {H : Heap} {locs : List Loc} {ls : Array Slot} (hB : z_HB G (z_co co) A s.heap T0 I0 Q0 T I Q H locs) (hl : lv_has ls 1 [(0, .ref o)]) (h : wb_X2_newPart_0 co o Qk T I Q) : W p l e R s m args below meth c H locs 0 0 (z_MQ below G (z_co co) A T0 I0 Q0 (z_qi Qk) z_no args s 0 0) (F0 m 0 ls []) := by
  obtain ⟨hx, hb, -⟩ := id X
  unfold wb_X2_newPart_0 at h
  refine lv_aload_n (x := o) hx hb dX2_newPart_0 rfl (lv_at hl 0 rfl) ?_
  refine lv_dup hx hb dX2_newPart_1 rfl ?_
  refine z_geti X hB.1 kc_X2 in_X2 (j := 7) (Nat.le_of_ble_eq_true rfl) q1256 (fun _ h => h) rfl (by decide) (z_fo hB ho (by decide)) dX2_newPart_2 ?_
  refine lv_iconst (v := 1) hx hb dX2_newPart_5 (by decide) ?_
  refine lv_iadd hx hb dX2_newPart_6 ?_
  obtain ⟨I1, eI1⟩ : ∃ z, z = z_up I o 7 ((I o 7) + 1) := ⟨_, rfl⟩
  replace h := h I1 eI1
  refine z_puti (x := ((I o 7) + 1)) eI1 tyX2 X hB kc_X2 in_X2 tyX2_ok nmX2 (j := 7) (Nat.le_of_ble_eq_true rfl) q1256 (fun _ h => h) rfl rfl (by decide) (z_fo hB ho (by decide)) (z_foc hB ho (by decide) hoc) rfl (Or.inl rfl) dX2_newPart_7 (fun H locs hB => ?_)
  refine lv_aload_n (x := o) hx hb dX2_newPart_10 rfl (lv_at hl 0 rfl) ?_
  refine z_geti X hB.1 kc_X2 in_X2 (j := 7) (Nat.le_of_ble_eq_true rfl) q1256 (fun _ h => h) rfl (by decide) (z_fo hB ho (by decide)) dX2_newPart_11 ?_
  refine lv_iconst (v := 1) hx hb dX2_newPart_14 (by decide) ?_
  refine lv_isub hx hb dX2_newPart_15 ?_
  exact z_iret X hB ⟨_, rfl, h⟩ (Nat.le_refl 0) (Nat.le_refl 0) dX2_newPart_16
theorem pk_X2_newPart : z_PV RX2 yX2_newPart cX2_newPart 1 (some .int) 0 := ⟨q2541, q2542, q95, q2543, by decide +kernel⟩
theorem met_X2_newPart {l : Launch} {G : z_E} {T : z_T} {I : z_I} {Q : z_Q} (co : Nat) (o : Nat) (Qk : Int32 → z_T → z_I → z_Q → Prop) (h : wp_X2_newPart co T I Q o Qk) : z_GM l G yX2_newPart (ws_ yX2_newPart cX2_newPart 1 (some .int)) 8 120 0 0 [.ref o] (z_co co) T I Q (z_qi Qk) z_no := by
  obtain ⟨ho, hoc, h⟩ := h
  refine z_body (own := RX2) (nm := "newPart") (by decide +kernel) rfl rfl (Nat.le_of_ble_eq_true rfl) (fun p e R s m below meth c A ls X hB hl => ?_)
  exact ww_X2_newPart_0 X ho hoc hB hl h
/-! X3_put -/
theorem ww_X3_put_0 {co : Nat} {o : Nat} {Qk : z_T → z_I → z_Q → Prop} (X : z_X l G A p R s m args meth c cX3_put 2 RX3 "put" none mc ms 12 214) (ho : (T0 o).1 = 5) (hoc : (T0 o).2.2 = co) {cells slots : Nat} {T : z_T} {I : z_I} {Q : z_Q} {kc : Nat} {ks : Nat} {x1 : Int32} {H : Heap} {locs : List Loc} {ls : Array Slot} (hB : z_HB G (z_co co) A s.heap T0 I0 Q0 T I Q H locs) (hK1 : cells + kc ≤ mc) (hK2 : slots + ks ≤ ms) (hl : lv_has ls 2 [(0, .ref o), (1, .int x1)]) (h : wb_X3_put_0 G.2.2 co o Qk T I Q kc ks x1) : W p l e R s m args below meth c H locs cells slots (z_MQ below G (z_co co) A T0 I0 Q0 (z_qv Qk) z_no args s mc ms) (F0 m 0 ls []) := by
  obtain ⟨hx, hb, -⟩ := id X
  unfold wb_X3_put_0 at h
  refine lv_aload_n (x := o) hx hb dX3_put_0 rfl (lv_at hl 0 rfl) ?_
  refine z_getq X hB.1 kc_X3 in_X3 (j := 0) (Nat.le_of_ble_eq_true rfl) q1145 (fun _ h => h) rfl (by decide) (z_fo hB ho (by decide)) dX3_put_1 ?_
  refine lv_iload_n hx hb dX3_put_4 rfl (lv_at hl 1 rfl) ?_
  refine z_callrp (z_runS (rest := [va_rf (Q o 0)]) [.int x1] pk_J21_valueOf (met_J21_valueOf x1 _ h) X hB (fun h => h) q2548 rfl hl.1 (by simp [z_cat, z_cati, z_catl, z_catf, z_catd, z_catq]) dX3_put_5 (z_k4 hK1) (z_k4 hK2) (by decide) (by decide)) hB (fun r1 H locs h9 hB => ?_)
  replace h := h9
  clear h9
  obtain ⟨a2, ea2, h⟩ := h
  refine z_stk (st' := [va_rf r1, .ref a2]) (by rw [ea2] <;> rfl) ?_
  obtain ⟨hk_a2, h⟩ := h
  obtain ⟨kc4, ks5, g1, g2, h⟩ := h
  refine z_callv (z_runV (rest := []) [va_rf r1] pk_J31_addLast (met_J31_addLast co a2 r1 kc4 ks5 _ h) X hB hB.2.2.2.2.2.2 q2223 kc_J31 (by decide) hk_a2 rfl hl.1 (Nat.le_of_ble_eq_true rfl) dX3_put_8 (z_k1 hK1 g1) (z_k1 hK2 g2) (by decide) (by decide)) hB (fun _ h => h) (fun T6 I7 Q8 H locs h9 hF hB => ?_)
  replace h := h9
  clear h9
  replace h := h hF
  replace hK1 := z_k2 hK1 g1
  replace hK2 := z_k2 hK2 g2
  refine lv_aload_n (x := o) hx hb dX3_put_11 rfl (lv_at hl 0 rfl) ?_
  refine lv_dup hx hb dX3_put_12 rfl ?_
  refine z_geti X hB.1 kc_X3 in_X3 (j := 4) (Nat.le_of_ble_eq_true rfl) q1155 (fun _ h => h) rfl (by decide) (z_fo hB ho (by decide)) dX3_put_13 ?_
  refine lv_iconst (v := 1) hx hb dX3_put_16 (by decide) ?_
  refine lv_iadd hx hb dX3_put_17 ?_
  obtain ⟨I9, eI9⟩ : ∃ z, z = z_up I7 o 4 ((I7 o 4) + 1) := ⟨_, rfl⟩
  replace h := h I9 eI9
  refine z_puti (x := ((I7 o 4) + 1)) eI9 tyX3 X hB kc_X3 in_X3 tyX3_ok nmX3 (j := 4) (Nat.le_of_ble_eq_true rfl) q1155 (fun _ h => h) rfl rfl (by decide) (z_fo hB ho (by decide)) (z_foc hB ho (by decide) hoc) rfl (Or.inl rfl) dX3_put_18 (fun H locs hB => ?_)
  exact z_vret X hB ⟨rfl, h⟩ (z_k3 hK1) (z_k3 hK2) dX3_put_21
theorem pk_X3_put : z_PV RX3 yX3_put cX3_put 2 none 1 := ⟨q2545, q2546, q129, q2547, by decide +kernel⟩
theorem met_X3_put {l : Launch} {G : z_E} {T : z_T} {I : z_I} {Q : z_Q} (co : Nat) (o : Nat) (x1 : Int32) (kc : Nat) (ks : Nat) (Qk : z_T → z_I → z_Q → Prop) (h : wp_X3_put G.2.2 co T I Q o x1 kc ks Qk) : z_GM l G yX3_put (ws_ yX3_put cX3_put 2 none) 12 214 kc ks [.ref o, .int x1] (z_co co) T I Q (z_qv Qk) z_no := by
  obtain ⟨ho, hoc, h⟩ := h
  refine z_body (own := RX3) (nm := "put") (by decide +kernel) rfl rfl (Nat.le_of_ble_eq_true rfl) (fun p e R s m below meth c A ls X hB hl => ?_)
  exact ww_X3_put_0 X ho hoc hB z_k0 z_k0 hl h
/-! J21_intValue -/
theorem ww_J21_intValue_0 {T : z_T} {I : z_I} {Q : z_Q} {o : Nat} {Qk : Int32 → Prop} (X : z_X l G A p R s m args meth c cJ21_intValue 1 RJ21 "intValue" (some .int) 0 0 8 120) (ho : ((T o).1 = 26 ∨ (T o).1 = 99)) {H : Heap} {locs : List Loc} {ls : Array Slot} (hB : z_HB G z_none A s.heap T I Q T I Q H locs) (hl : lv_has ls 1 [(0, .ref o)]) (h : wb_J21_intValue_0 T I Q o Qk ) : W p l e R s m args below meth c H locs 0 0 (z_MQ below G z_none A T I Q (z_pi Qk T I Q) z_no args s 0 0) (F0 m 0 ls []) := by
  obtain ⟨hx, hb, -⟩ := id X
  unfold wb_J21_intValue_0 at h
  refine lv_aload_n (x := o) hx hb dJ21_intValue_0 rfl (lv_at hl 0 rfl) ?_
  refine z_getI X hB.1 ho q2563 dJ21_intValue_1 ?_
  exact z_iret X hB ⟨_, rfl, h, rfl, rfl, rfl⟩ (Nat.le_refl 0) (Nat.le_refl 0) dJ21_intValue_4
theorem pk_J21_intValue : z_PV RJ21 yJ21_intValue cJ21_intValue 1 (some .int) 0 := ⟨q2090, q2091, q118, q2092, by decide +kernel⟩
theorem met_J21_intValue {l : Launch} {G : z_E} {T : z_T} {I : z_I} {Q : z_Q} (o : Nat) (Qk : Int32 → Prop) (h : wp_J21_intValue T I Q o Qk) : z_GM l G yJ21_intValue (ws_ yJ21_intValue cJ21_intValue 1 (some .int)) 8 120 0 0 [.ref o] z_none T I Q (z_pi Qk T I Q) z_no := by
  obtain ⟨ho, h⟩ := h
  refine z_body (own := RJ21) (nm := "intValue") (by decide +kernel) rfl rfl (Nat.le_of_ble_eq_true rfl) (fun p e R s m below meth c A ls X hB hl => ?_)
  exact ww_J21_intValue_0 X ho hB hl h
/-! X3_take -/
theorem ww_X3_take_0 {co : Nat} {o : Nat} {Qk : Int32 → z_T → z_I → z_Q → Prop} (X : z_X l G A p R s m args meth c cX3_take 1 RX3 "take" (some .int) 0 0 11 185) (ho : (T0 o).1 = 5) (hoc : (T0 o).2.2 = co) {T : z_T} {I : z_I} {Q : z_Q} {H : Heap} {locs : List Loc} {ls : Array Slot} (hB : z_HB G (z_co co) A s.heap T0 I0 Q0 T I Q H locs) (hl : lv_has ls 1 [(0, .ref o)]) (h : wb_X3_take_0 co o Qk T I Q) : W p l e R s m args below meth c H locs 0 0 (z_MQ below G (z_co co) A T0 I0 Q0 (z_qi Qk) z_no args s 0 0) (F0 m 0 ls []) := by
  obtain ⟨hx, hb, -⟩ := id X
  unfold wb_X3_take_0 at h
  refine lv_aload_n (x := o) hx hb dX3_take_0 rfl (lv_at hl 0 rfl) ?_
  refine lv_dup hx hb dX3_take_1 rfl ?_
  refine z_geti X hB.1 kc_X3 in_X3 (j := 5) (Nat.le_of_ble_eq_true rfl) q1156 (fun _ h => h) rfl (by decide) (z_fo hB ho (by decide)) dX3_take_2 ?_
  refine lv_iconst (v := 1) hx hb dX3_take_5 (by decide) ?_
  refine lv_iadd hx hb dX3_take_6 ?_
  obtain ⟨I1, eI1⟩ : ∃ z, z = z_up I o 5 ((I o 5) + 1) := ⟨_, rfl⟩
  replace h := h I1 eI1
  refine z_puti (x := ((I o 5) + 1)) eI1 tyX3 X hB kc_X3 in_X3 tyX3_ok nmX3 (j := 5) (Nat.le_of_ble_eq_true rfl) q1156 (fun _ h => h) rfl rfl (by decide) (z_fo hB ho (by decide)) (z_foc hB ho (by decide) hoc) rfl (Or.inl rfl) dX3_take_7 (fun H locs hB => ?_)
  refine lv_aload_n (x := o) hx hb dX3_take_10 rfl (lv_at hl 0 rfl) ?_
  refine z_getq X hB.1 kc_X3 in_X3 (j := 0) (Nat.le_of_ble_eq_true rfl) q1145 (fun _ h => h) rfl (by decide) (z_fo hB ho (by decide)) dX3_take_11 ?_
  obtain ⟨a2, ea2, h⟩ := h
  refine z_stk (st' := [.ref a2]) (by rw [ea2] <;> rfl) ?_
  obtain ⟨hk_a2, h⟩ := h
  refine z_callr (z_runV (rest := []) [] pk_J31_removeFirst (met_J31_removeFirst co a2 _ h) X hB hB.2.2.2.2.2.2 q2892 kc_J31 (by decide) hk_a2 rfl hl.1 (Nat.le_of_ble_eq_true rfl) dX3_take_14 (Nat.le_refl 0) (Nat.le_refl 0) (by decide) (by decide)) hB (fun _ h => h) (fun r3 T4 I5 Q6 H locs h9 hF hB => ?_)
  replace h := h9
  clear h9
  replace h := h hF
  obtain ⟨h2, h⟩ := h
  refine z_castIR X hB.1 h2 q2222 dX3_take_17 ?_
  obtain ⟨a7, rfl, h⟩ := h
  obtain ⟨hk_a7, h⟩ := h
  refine z_callip (z_runVI (rest := []) [] pk_J21_intValue (met_J21_intValue a7 _ h) X hB (fun h => h) q2893 hk_a7 rfl hl.1 (Nat.le_of_ble_eq_true rfl) dX3_take_20 (Nat.le_refl 0) (Nat.le_refl 0) (by decide) (by decide)) hB (fun r8 H locs h9 hB => ?_)
  replace h := h9
  clear h9
  exact z_iret X hB ⟨_, rfl, h⟩ (Nat.le_refl 0) (Nat.le_refl 0) dX3_take_23
theorem pk_X3_take : z_PV RX3 yX3_take cX3_take 1 (some .int) 0 := ⟨q2889, q2890, q129, q2891, by decide +kernel⟩
theorem met_X3_take {l : Launch} {G : z_E} {T : z_T} {I : z_I} {Q : z_Q} (co : Nat) (o : Nat) (Qk : Int32 → z_T → z_I → z_Q → Prop) (h : wp_X3_take co T I Q o Qk) : z_GM l G yX3_take (ws_ yX3_take cX3_take 1 (some .int)) 11 185 0 0 [.ref o] (z_co co) T I Q (z_qi Qk) z_no := by
  obtain ⟨ho, hoc, h⟩ := h
  refine z_body (own := RX3) (nm := "take") (by decide +kernel) rfl rfl (Nat.le_of_ble_eq_true rfl) (fun p e R s m below meth c A ls X hB hl => ?_)
  exact ww_X3_take_0 X ho hoc hB hl h
/-! X4_end -/
theorem ww_X4_end_122 {co : Nat} {o : Nat} {Qk : z_T → z_I → z_Q → Prop} (X : z_X l G A p R s m args meth c cX4_end 3 RX4 "end" none mc ms 13 238) (ho : (T0 o).1 = 4) (hoc : (T0 o).2.2 = co) {cells slots : Nat} {T : z_T} {I : z_I} {Q : z_Q} {kc : Nat} {ks : Nat} {H : Heap} {locs : List Loc} {ls : Array Slot} (hB : z_HB G (z_co co) A s.heap T0 I0 Q0 T I Q H locs) (hK1 : cells + kc ≤ mc) (hK2 : slots + ks ≤ ms) (hl : lv_has ls 3 [(0, .ref o)]) (h : wb_X4_end_122 G.2.2 co o Qk T I Q kc ks) : W p l e R s m args below meth c H locs cells slots (z_MQ below G (z_co co) A T0 I0 Q0 (z_qv Qk) z_no args s mc ms) (F0 m 122 ls []) := by
  obtain ⟨hx, hb, -⟩ := id X
  unfold wb_X4_end_122 at h
  refine lv_aload_n (x := o) hx hb dX4_end_122 rfl (lv_at hl 0 rfl) ?_
  refine z_getq X hB.1 kc_X4 in_X4 (j := 13) (Nat.le_of_ble_eq_true rfl) q1204 (fun _ h => h) rfl (by decide) (z_fo hB ho (by decide)) dX4_end_123 ?_
  refine lv_aload_n (x := o) hx hb dX4_end_126 rfl (lv_at hl 0 rfl) ?_
  refine z_geti X hB.1 kc_X4 in_X4 (j := 0) (Nat.le_of_ble_eq_true rfl) q1178 (fun _ h => h) rfl (by decide) (z_fo hB ho (by decide)) dX4_end_127 ?_
  refine lv_iconst (v := 3) hx hb dX4_end_130 (by decide) ?_
  refine lv_aload_n (x := o) hx hb dX4_end_131 rfl (lv_at hl 0 rfl) ?_
  refine z_callip (z_runV (rest := [.int 3, .int (I o 0), va_rf (Q o 13)]) [] pk_X4_zone (met_X4_zone o _ h) X hB (fun h => h) q2761 kc_X4 (by decide) (z_fo hB ho (by decide)) rfl hl.1 (by simp [z_cat, z_cati, z_catl, z_catf, z_catd, z_catq]) dX4_end_132 (z_k4 hK1) (z_k4 hK2) (by decide) (by decide)) hB (fun r40 H locs h9 hB => ?_)
  replace h := h9
  clear h9
  obtain ⟨a41, ea41, h⟩ := h
  refine z_stk (st' := [.int r40, .int 3, .int (I o 0), .ref a41]) (by rw [ea41] <;> rfl) ?_
  obtain ⟨hk_a41, h⟩ := h
  obtain ⟨kc43, ks44, g1, g2, h⟩ := h
  refine z_callv (z_runV (rest := []) [.int (I o 0), .int 3, .int r40] pk_X2_note (met_X2_note co a41 (I o 0) 3 r40 kc43 ks44 _ h) X hB hB.2.2.2.2.2.2 q2853 kc_X2 (by decide) hk_a41 rfl hl.1 (Nat.le_of_ble_eq_true rfl) dX4_end_135 (z_k1 hK1 g1) (z_k1 hK2 g2) (by decide) (by decide)) hB (fun _ h => h) (fun T45 I46 Q47 H locs h9 hF hB => ?_)
  replace h := h9
  clear h9
  replace h := h hF
  replace hK1 := z_k2 hK1 g1
  replace hK2 := z_k2 hK2 g2
  refine lv_aload_n (x := o) hx hb dX4_end_138 rfl (lv_at hl 0 rfl) ?_
  refine z_getq X hB.1 kc_X4 in_X4 (j := 3) (Nat.le_of_ble_eq_true rfl) q1185 (fun _ h => h) rfl (by decide) (z_fo hB ho (by decide)) dX4_end_139 ?_
  refine lv_iconst (v := 2) hx hb dX4_end_142 (by decide) ?_
  obtain ⟨a48, ea48, h⟩ := h
  refine z_stk (st' := [.int 2, .ref a48]) (by rw [ea48] <;> rfl) ?_
  obtain ⟨hk_a48, h⟩ := h
  obtain ⟨hc_a48, h⟩ := h
  obtain ⟨I49, eI49⟩ : ∃ z, z = z_up I46 a48 2 2 := ⟨_, rfl⟩
  replace h := h I49 eI49
  refine z_putiN (x := 2) eI49 tyX6 X hB kc_X6 in_X6 tyX6_ok nmX6 (j := 2) (Nat.le_of_ble_eq_true rfl) q2292 (fun _ h => h) rfl rfl (by decide) hk_a48 hc_a48 rfl (Or.inl rfl) dX4_end_143 (fun H locs hB => ?_)
  refine lv_aload_n (x := o) hx hb dX4_end_146 rfl (lv_at hl 0 rfl) ?_
  refine z_getq X hB.1 kc_X4 in_X4 (j := 3) (Nat.le_of_ble_eq_true rfl) q1185 (fun _ h => h) rfl (by decide) (z_fo hB ho (by decide)) dX4_end_147 ?_
  refine z_stk (st' := [.ref a48]) (by rw [ea48] <;> rfl) ?_
  refine lv_aload_n (x := o) hx hb dX4_end_150 rfl (lv_at hl 0 rfl) ?_
  refine z_getq X hB.1 kc_X4 in_X4 (j := 13) (Nat.le_of_ble_eq_true rfl) q1204 (fun _ h => h) rfl (by decide) (z_fo hB ho (by decide)) dX4_end_151 ?_
  obtain ⟨a50, ea50, h⟩ := h
  refine z_stk (st' := [.ref a50, .ref a48]) (by rw [ea50] <;> rfl) ?_
  obtain ⟨hk_a50, h⟩ := h
  refine z_getiN X hB.1 kc_X2 in_X2 (j := 6) (Nat.le_of_ble_eq_true rfl) q1254 (fun _ h => h) rfl (by decide) hk_a50 dX4_end_154 ?_
  obtain ⟨I51, eI51⟩ : ∃ z, z = z_up I49 a48 4 (I49 a50 6) := ⟨_, rfl⟩
  replace h := h I51 eI51
  refine z_putiN (x := (I49 a50 6)) eI51 tyX6 X hB kc_X6 in_X6 tyX6_ok nmX6 (j := 4) (Nat.le_of_ble_eq_true rfl) q2297 (fun _ h => h) rfl rfl (by decide) hk_a48 hc_a48 rfl (Or.inl rfl) dX4_end_157 (fun H locs hB => ?_)
  refine lv_aload_n (x := o) hx hb dX4_end_160 rfl (lv_at hl 0 rfl) ?_
  refine z_getq X hB.1 kc_X4 in_X4 (j := 13) (Nat.le_of_ble_eq_true rfl) q1204 (fun _ h => h) rfl (by decide) (z_fo hB ho (by decide)) dX4_end_161 ?_
  refine z_stk (st' := [.ref a50]) (by rw [ea50] <;> rfl) ?_
  refine lv_dup hx hb dX4_end_164 rfl ?_
  refine z_getiN X hB.1 kc_X2 in_X2 (j := 11) (Nat.le_of_ble_eq_true rfl) q1267 (fun _ h => h) rfl (by decide) hk_a50 dX4_end_165 ?_
  refine lv_aload_n (x := o) hx hb dX4_end_168 rfl (lv_at hl 0 rfl) ?_
  refine z_getq X hB.1 kc_X4 in_X4 (j := 3) (Nat.le_of_ble_eq_true rfl) q1185 (fun _ h => h) rfl (by decide) (z_fo hB ho (by decide)) dX4_end_169 ?_
  refine z_stk (st' := [.ref a48, .int (I51 a50 11), .ref a50]) (by rw [ea48] <;> rfl) ?_
  refine z_getiN X hB.1 kc_X6 in_X6 (j := 4) (Nat.le_of_ble_eq_true rfl) q2297 (fun _ h => h) rfl (by decide) hk_a48 dX4_end_172 ?_
  refine lv_aload_n (x := o) hx hb dX4_end_175 rfl (lv_at hl 0 rfl) ?_
  refine z_getq X hB.1 kc_X4 in_X4 (j := 3) (Nat.le_of_ble_eq_true rfl) q1185 (fun _ h => h) rfl (by decide) (z_fo hB ho (by decide)) dX4_end_176 ?_
  refine z_stk (st' := [.ref a48, .int (I51 a48 4), .int (I51 a50 11), .ref a50]) (by rw [ea48] <;> rfl) ?_
  refine z_getiN X hB.1 kc_X6 in_X6 (j := 3) (Nat.le_of_ble_eq_true rfl) q2295 (fun _ h => h) rfl (by decide) hk_a48 dX4_end_179 ?_
  refine lv_isub hx hb dX4_end_182 ?_
  refine lv_iadd hx hb dX4_end_183 ?_
  obtain ⟨hc_a50, h⟩ := h
  obtain ⟨I52, eI52⟩ : ∃ z, z = z_up I51 a50 11 ((I51 a50 11) + ((I51 a48 4) - (I51 a48 3))) := ⟨_, rfl⟩
  replace h := h I52 eI52
  refine z_putiN (x := ((I51 a50 11) + ((I51 a48 4) - (I51 a48 3)))) eI52 tyX2 X hB kc_X2 in_X2 tyX2_ok nmX2 (j := 11) (Nat.le_of_ble_eq_true rfl) q1267 (fun _ h => h) rfl rfl (by decide) hk_a50 hc_a50 rfl (Or.inl rfl) dX4_end_184 (fun H locs hB => ?_)
  refine lv_aload_n (x := o) hx hb dX4_end_187 rfl (lv_at hl 0 rfl) ?_
  refine z_getq X hB.1 kc_X4 in_X4 (j := 13) (Nat.le_of_ble_eq_true rfl) q1204 (fun _ h => h) rfl (by decide) (z_fo hB ho (by decide)) dX4_end_188 ?_
  refine z_stk (st' := [.ref a50]) (by rw [ea50] <;> rfl) ?_
  refine lv_dup hx hb dX4_end_191 rfl ?_
  refine z_getiN X hB.1 kc_X2 in_X2 (j := 9) (Nat.le_of_ble_eq_true rfl) q1263 (fun _ h => h) rfl (by decide) hk_a50 dX4_end_192 ?_
  refine lv_iconst (v := 1) hx hb dX4_end_195 (by decide) ?_
  refine lv_iadd hx hb dX4_end_196 ?_
  obtain ⟨I53, eI53⟩ : ∃ z, z = z_up I52 a50 9 ((I52 a50 9) + 1) := ⟨_, rfl⟩
  replace h := h I53 eI53
  refine z_putiN (x := ((I52 a50 9) + 1)) eI53 tyX2 X hB kc_X2 in_X2 tyX2_ok nmX2 (j := 9) (Nat.le_of_ble_eq_true rfl) q1263 (fun _ h => h) rfl rfl (by decide) hk_a50 hc_a50 rfl (Or.inl rfl) dX4_end_197 (fun H locs hB => ?_)
  refine lv_aload_n (x := o) hx hb dX4_end_200 rfl (lv_at hl 0 rfl) ?_
  refine lv_null hx hb dX4_end_201 ?_
  refine z_stk (st' := [va_rf none, .ref o]) rfl ?_
  obtain ⟨Q54, eQ54⟩ : ∃ z, z = z_up Q47 o 3 none := ⟨_, rfl⟩
  replace h := h Q54 eQ54
  refine z_putq (x := none) eQ54 tyX4 X hB kc_X4 in_X4 tyX4_ok nmX4 (j := 3) (Nat.le_of_ble_eq_true rfl) q1185 (fun _ h => h) rfl rfl (by decide) (z_fo hB ho (by decide)) (z_foc hB ho (by decide) hoc) rfl (Or.inl ⟨_, rfl⟩) dX4_end_202 (fun H locs hB => ?_)
  refine lv_aload_n (x := o) hx hb dX4_end_205 rfl (lv_at hl 0 rfl) ?_
  refine lv_iconst (v := 0) hx hb dX4_end_206 (by decide) ?_
  obtain ⟨I55, eI55⟩ : ∃ z, z = z_up I53 o 4 0 := ⟨_, rfl⟩
  replace h := h I55 eI55
  refine z_puti (x := 0) eI55 tyX4 X hB kc_X4 in_X4 tyX4_ok nmX4 (j := 4) (Nat.le_of_ble_eq_true rfl) q1187 (fun _ h => h) rfl rfl (by decide) (z_fo hB ho (by decide)) (z_foc hB ho (by decide) hoc) rfl (Or.inl rfl) dX4_end_207 (fun H locs hB => ?_)
  exact z_vret X hB ⟨rfl, h⟩ (z_k3 hK1) (z_k3 hK2) dX4_end_210
theorem ww_X4_end_98 {co : Nat} {o : Nat} {Qk : z_T → z_I → z_Q → Prop} (X : z_X l G A p R s m args meth c cX4_end 3 RX4 "end" none mc ms 13 238) (ho : (T0 o).1 = 4) (hoc : (T0 o).2.2 = co) {cells slots : Nat} {T : z_T} {I : z_I} {Q : z_Q} {kc : Nat} {ks : Nat} {s0 : Option Nat} {s1 : Int32} {H : Heap} {locs : List Loc} {ls : Array Slot} (hB : z_HB G (z_co co) A s.heap T0 I0 Q0 T I Q H locs) (hK1 : cells + kc ≤ mc) (hK2 : slots + ks ≤ ms) (hl : lv_has ls 3 [(0, .ref o)]) (h : wb_X4_end_98 G.2.2 co o Qk T I Q kc ks s0 s1) : W p l e R s m args below meth c H locs cells slots (z_MQ below G (z_co co) A T0 I0 Q0 (z_qv Qk) z_no args s mc ms) (F0 m 98 ls [.int s1, va_rf s0]) := by
  obtain ⟨hx, hb, -⟩ := id X
  unfold wb_X4_end_98 at h
  obtain ⟨a33, rfl, h⟩ := h
  obtain ⟨hk_a33, h⟩ := h
  obtain ⟨kc35, ks36, g1, g2, h⟩ := h
  refine z_callv (z_runV (rest := []) [.int s1] pk_X3_put (met_X3_put co a33 s1 kc35 ks36 _ h) X hB hB.2.2.2.2.2.2 q2895 kc_X3 (by decide) hk_a33 rfl hl.1 (Nat.le_of_ble_eq_true rfl) dX4_end_98 (z_k1 hK1 g1) (z_k1 hK2 g2) (by decide) (by decide)) hB (fun _ h => h) (fun T37 I38 Q39 H locs h9 hF hB => ?_)
  replace h := h9
  clear h9
  replace h := h hF
  replace hK1 := z_k2 hK1 g1
  replace hK2 := z_k2 hK2 g2
  refine lv_goto (tgt := 122) hx hb dX4_end_101 (by decide) ?_
  exact ww_X4_end_122 X ho hoc  hB hK1 hK2 (lv_sub hl [0] rfl) h
theorem ww_X4_end_44 {co : Nat} {o : Nat} {Qk : z_T → z_I → z_Q → Prop} (X : z_X l G A p R s m args meth c cX4_end 3 RX4 "end" none mc ms 13 238) (ho : (T0 o).1 = 4) (hoc : (T0 o).2.2 = co) {cells slots : Nat} {T : z_T} {I : z_I} {Q : z_Q} {kc : Nat} {ks : Nat} {x1 : Int32} {H : Heap} {locs : List Loc} {ls : Array Slot} (hB : z_HB G (z_co co) A s.heap T0 I0 Q0 T I Q H locs) (hK1 : cells + kc ≤ mc) (hK2 : slots + ks ≤ ms) (hl : lv_has ls 3 [(0, .ref o), (1, .int x1)]) (h : wb_X4_end_44 G.2.2 co o Qk T I Q kc ks x1) : W p l e R s m args below meth c H locs cells slots (z_MQ below G (z_co co) A T0 I0 Q0 (z_qv Qk) z_no args s mc ms) (F0 m 44 ls []) := by
  obtain ⟨hx, hb, -⟩ := id X
  unfold wb_X4_end_44 at h
  refine lv_aload_n (x := o) hx hb dX4_end_44 rfl (lv_at hl 0 rfl) ?_
  refine z_callrp (z_runV (rest := []) [] pk_X4_order (met_X4_order o _ h) X hB (fun h => h) q1336 kc_X4 (by decide) (z_fo hB ho (by decide)) rfl hl.1 (Nat.le_of_ble_eq_true rfl) dX4_end_45 (z_k4 hK1) (z_k4 hK2) (by decide) (by decide)) hB (fun r15 H locs h9 hB => ?_)
  replace h := h9
  clear h9
  obtain ⟨a16, rfl, h⟩ := h
  obtain ⟨hk_a16, h⟩ := h
  refine z_getiN X hB.1 kc_X8 in_X8 (j := 6) (Nat.le_of_ble_eq_true rfl) q2661 (fun _ h => h) rfl (by decide) hk_a16 dX4_end_48 ?_
  refine lv_iconst (v := (-1)) hx hb dX4_end_51 (by decide) ?_
  refine lv_icmp_eq (tgt := 104) hx hb dX4_end_52 (by decide) (fun c17 => ?_) (fun c17 => ?_)
  · replace h := h.1 c17
    refine lv_iload_n hx hb dX4_end_104 rfl (lv_at hl 1 rfl) ?_
    refine lv_iconst (v := (-1)) hx hb dX4_end_105 (by decide) ?_
    refine lv_icmp_eq (tgt := 122) hx hb dX4_end_106 (by decide) (fun c18 => ?_) (fun c18 => ?_)
    · replace h := h.1 c18
      exact ww_X4_end_122 X ho hoc  hB hK1 hK2 (lv_sub hl [0] rfl) h
    · replace h := h.2 c18
      refine lv_aload_n (x := o) hx hb dX4_end_109 rfl (lv_at hl 0 rfl) ?_
      refine z_getq X hB.1 kc_X4 in_X4 (j := 13) (Nat.le_of_ble_eq_true rfl) q1204 (fun _ h => h) rfl (by decide) (z_fo hB ho (by decide)) dX4_end_110 ?_
      refine lv_dup hx hb dX4_end_113 z_cat ?_
      obtain ⟨a19, ea19, h⟩ := h
      refine z_stk (st' := [.ref a19, .ref a19]) (by rw [ea19] <;> rfl) ?_
      obtain ⟨hk_a19, h⟩ := h
      refine z_getiN X hB.1 kc_X2 in_X2 (j := 8) (Nat.le_of_ble_eq_true rfl) q1259 (fun _ h => h) rfl (by decide) hk_a19 dX4_end_114 ?_
      refine lv_iconst (v := 1) hx hb dX4_end_117 (by decide) ?_
      refine lv_iadd hx hb dX4_end_118 ?_
      obtain ⟨hc_a19, h⟩ := h
      obtain ⟨I20, eI20⟩ : ∃ z, z = z_up I a19 8 ((I a19 8) + 1) := ⟨_, rfl⟩
      replace h := h I20 eI20
      refine z_putiN (x := ((I a19 8) + 1)) eI20 tyX2 X hB kc_X2 in_X2 tyX2_ok nmX2 (j := 8) (Nat.le_of_ble_eq_true rfl) q1259 (fun _ h => h) rfl rfl (by decide) hk_a19 hc_a19 rfl (Or.inl rfl) dX4_end_119 (fun H locs hB => ?_)
      exact ww_X4_end_122 X ho hoc  hB hK1 hK2 (lv_sub hl [0] rfl) h
  · replace h := h.2 c17
    refine lv_aload_n (x := o) hx hb dX4_end_55 rfl (lv_at hl 0 rfl) ?_
    refine z_getq X hB.1 kc_X4 in_X4 (j := 13) (Nat.le_of_ble_eq_true rfl) q1204 (fun _ h => h) rfl (by decide) (z_fo hB ho (by decide)) dX4_end_56 ?_
    obtain ⟨a21, ea21, h⟩ := h
    refine z_stk (st' := [.ref a21]) (by rw [ea21] <;> rfl) ?_
    obtain ⟨hk_a21, h⟩ := h
    refine z_getqN X hB.1 kc_X2 in_X2 (j := 1) (Nat.le_of_ble_eq_true rfl) q1238 (fun _ h => h) rfl (by decide) hk_a21 dX4_end_59 ?_
    refine lv_aload_n (x := o) hx hb dX4_end_62 rfl (lv_at hl 0 rfl) ?_
    refine z_callrp (z_runV (rest := [va_rf (Q a21 1)]) [] pk_X4_order (met_X4_order o _ h) X hB (fun h => h) q1336 kc_X4 (by decide) (z_fo hB ho (by decide)) rfl hl.1 (by simp [z_cat, z_cati, z_catl, z_catf, z_catd, z_catq]) dX4_end_63 (z_k4 hK1) (z_k4 hK2) (by decide) (by decide)) hB (fun r22 H locs h9 hB => ?_)
    replace h := h9
    clear h9
    obtain ⟨a23, rfl, h⟩ := h
    obtain ⟨hk_a23, h⟩ := h
    refine z_getiN X hB.1 kc_X8 in_X8 (j := 6) (Nat.le_of_ble_eq_true rfl) q2661 (fun _ h => h) rfl (by decide) hk_a23 dX4_end_66 ?_
    obtain ⟨a24, ea24, h⟩ := h
    refine z_stk (st' := [.int (I a23 6), .ref a24]) (by rw [ea24] <;> rfl) ?_
    obtain ⟨hk_a24, h⟩ := h
    obtain ⟨h1, h⟩ := h
    refine z_aald (k := 3) X hB.1 (by decide) hk_a24 h1 dX4_end_69 ?_
    obtain ⟨y25, ey25⟩ : ∃ z : Option Nat, z = (Q a24 (I a23 6).toNatClampNeg) := ⟨_, rfl⟩
    replace h := h y25 ey25
    refine z_stk (st' := [va_rf y25]) (by rw [ey25]) ?_
    refine z_astore_n (x := y25) (lv' := [(2, va_rf y25), (0, .ref o), (1, .int x1)]) hx hb dX4_end_70 rfl hl (by decide) rfl (fun ls hl9 => ?_)
    replace hl := hl9
    clear hl9
    refine z_aload_n (x := y25) hx hb dX4_end_71 rfl (lv_at hl 0 rfl) ?_
    refine lv_dup hx hb dX4_end_72 z_cat ?_
    obtain ⟨a26, rfl, h⟩ := h
    obtain ⟨hk_a26, h⟩ := h
    refine z_getiN X hB.1 kc_X3 in_X3 (j := 2) (Nat.le_of_ble_eq_true rfl) q1151 (fun _ h => h) rfl (by decide) hk_a26 dX4_end_73 ?_
    refine lv_iconst (v := 1) hx hb dX4_end_76 (by decide) ?_
    refine lv_isub hx hb dX4_end_77 ?_
    obtain ⟨hc_a26, h⟩ := h
    obtain ⟨I27, eI27⟩ : ∃ z, z = z_up I a26 2 ((I a26 2) - 1) := ⟨_, rfl⟩
    replace h := h I27 eI27
    refine z_putiN (x := ((I a26 2) - 1)) eI27 tyX3 X hB kc_X3 in_X3 tyX3_ok nmX3 (j := 2) (Nat.le_of_ble_eq_true rfl) q1151 (fun _ h => h) rfl rfl (by decide) hk_a26 hc_a26 rfl (Or.inl rfl) dX4_end_78 (fun H locs hB => ?_)
    refine lv_aload_n (x := a26) hx hb dX4_end_81 rfl (lv_at hl 0 rfl) ?_
    refine lv_iload_n hx hb dX4_end_82 rfl (lv_at hl 2 rfl) ?_
    refine lv_iconst (v := (-1)) hx hb dX4_end_83 (by decide) ?_
    refine lv_icmp_ne (tgt := 97) hx hb dX4_end_84 (by decide) (fun c28 => ?_) (fun c28 => ?_)
    · replace h := h.1 c28
      refine lv_iload_n hx hb dX4_end_97 rfl (lv_at hl 2 rfl) ?_
      exact ww_X4_end_98 X ho hoc  hB hK1 hK2 (lv_sub hl [1] rfl) h
    · replace h := h.2 c28
      refine lv_aload_n (x := o) hx hb dX4_end_87 rfl (lv_at hl 1 rfl) ?_
      refine z_getq X hB.1 kc_X4 in_X4 (j := 13) (Nat.le_of_ble_eq_true rfl) q1204 (fun _ h => h) rfl (by decide) (z_fo hB ho (by decide)) dX4_end_88 ?_
      refine z_stk (st' := [.ref a21, .ref a26]) (by rw [ea21] <;> rfl) ?_
      refine z_calli (z_runV (rest := [.ref a26]) [] pk_X2_newPart (met_X2_newPart co a21 _ h) X hB hB.2.2.2.2.2.2 q2894 kc_X2 (by decide) hk_a21 rfl hl.1 (Nat.le_of_ble_eq_true rfl) dX4_end_91 (z_k4 hK1) (z_k4 hK2) (by decide) (by decide)) hB (fun _ h => h) (fun r29 T30 I31 Q32 H locs h9 hF hB => ?_)
      replace h := h9
      clear h9
      replace h := h hF
      have hc_a26 : (T30 a26).2.2 = co := by rw [z_te hF hk_a26 (by decide)]; exact hc_a26
      have hk_a26 := z_tk hF hk_a26 (by decide)
      refine lv_goto (tgt := 98) hx hb dX4_end_94 (by decide) ?_
      exact ww_X4_end_98 X ho hoc  hB hK1 hK2 (lv_sub hl [1] rfl) h
theorem ww_X4_end_0 {co : Nat} {o : Nat} {Qk : z_T → z_I → z_Q → Prop} (X : z_X l G A p R s m args meth c cX4_end 3 RX4 "end" none mc ms 13 238) (ho : (T0 o).1 = 4) (hoc : (T0 o).2.2 = co) {cells slots : Nat} {T : z_T} {I : z_I} {Q : z_Q} {kc : Nat} {ks : Nat} {H : Heap} {locs : List Loc} {ls : Array Slot} (hB : z_HB G (z_co co) A s.heap T0 I0 Q0 T I Q H locs) (hK1 : cells + kc ≤ mc) (hK2 : slots + ks ≤ ms) (hl : lv_has ls 3 [(0, .ref o)]) (h : wb_X4_end_0 G.2.2 co o Qk T I Q kc ks) : W p l e R s m args below meth c H locs cells slots (z_MQ below G (z_co co) A T0 I0 Q0 (z_qv Qk) z_no args s mc ms) (F0 m 0 ls []) := by
  obtain ⟨hx, hb, -⟩ := id X
  unfold wb_X4_end_0 at h
  refine lv_iconst (v := (-1)) hx hb dX4_end_0 (by decide) ?_
  refine lv_istore_n (lv' := [(1, .int (-1)), (0, .ref o)]) hx hb dX4_end_1 rfl hl (by decide) rfl (fun ls hl9 => ?_)
  replace hl := hl9
  clear hl9
  refine lv_aload_n (x := o) hx hb dX4_end_2 rfl (lv_at hl 1 rfl) ?_
  refine z_callrp (z_runV (rest := []) [] pk_X4_order (met_X4_order o _ h) X hB (fun h => h) q1336 kc_X4 (by decide) (z_fo hB ho (by decide)) rfl hl.1 (Nat.le_of_ble_eq_true rfl) dX4_end_3 (z_k4 hK1) (z_k4 hK2) (by decide) (by decide)) hB (fun r1 H locs h9 hB => ?_)
  replace h := h9
  clear h9
  obtain ⟨a2, rfl, h⟩ := h
  obtain ⟨hk_a2, h⟩ := h
  refine z_getiN X hB.1 kc_X8 in_X8 (j := 5) (Nat.le_of_ble_eq_true rfl) q2658 (fun _ h => h) rfl (by decide) hk_a2 dX4_end_6 ?_
  refine lv_iconst (v := (-1)) hx hb dX4_end_9 (by decide) ?_
  refine lv_icmp_eq (tgt := 44) hx hb dX4_end_10 (by decide) (fun c3 => ?_) (fun c3 => ?_)
  · replace h := h.1 c3
    exact ww_X4_end_44 X ho hoc  hB hK1 hK2 (lv_sub hl [1, 0] rfl) h
  · replace h := h.2 c3
    refine lv_aload_n (x := o) hx hb dX4_end_13 rfl (lv_at hl 1 rfl) ?_
    refine z_getq X hB.1 kc_X4 in_X4 (j := 13) (Nat.le_of_ble_eq_true rfl) q1204 (fun _ h => h) rfl (by decide) (z_fo hB ho (by decide)) dX4_end_14 ?_
    obtain ⟨a4, ea4, h⟩ := h
    refine z_stk (st' := [.ref a4]) (by rw [ea4] <;> rfl) ?_
    obtain ⟨hk_a4, h⟩ := h
    refine z_getqN X hB.1 kc_X2 in_X2 (j := 1) (Nat.le_of_ble_eq_true rfl) q1238 (fun _ h => h) rfl (by decide) hk_a4 dX4_end_17 ?_
    refine lv_aload_n (x := o) hx hb dX4_end_20 rfl (lv_at hl 1 rfl) ?_
    refine z_callrp (z_runV (rest := [va_rf (Q a4 1)]) [] pk_X4_order (met_X4_order o _ h) X hB (fun h => h) q1336 kc_X4 (by decide) (z_fo hB ho (by decide)) rfl hl.1 (by simp [z_cat, z_cati, z_catl, z_catf, z_catd, z_catq]) dX4_end_21 (z_k4 hK1) (z_k4 hK2) (by decide) (by decide)) hB (fun r5 H locs h9 hB => ?_)
    replace h := h9
    clear h9
    obtain ⟨a6, rfl, h⟩ := h
    obtain ⟨hk_a6, h⟩ := h
    refine z_getiN X hB.1 kc_X8 in_X8 (j := 5) (Nat.le_of_ble_eq_true rfl) q2658 (fun _ h => h) rfl (by decide) hk_a6 dX4_end_24 ?_
    obtain ⟨a7, ea7, h⟩ := h
    refine z_stk (st' := [.int (I a6 5), .ref a7]) (by rw [ea7] <;> rfl) ?_
    obtain ⟨hk_a7, h⟩ := h
    obtain ⟨h1, h⟩ := h
    refine z_aald (k := 3) X hB.1 (by decide) hk_a7 h1 dX4_end_27 ?_
    obtain ⟨y8, ey8⟩ : ∃ z : Option Nat, z = (Q a7 (I a6 5).toNatClampNeg) := ⟨_, rfl⟩
    replace h := h y8 ey8
    refine z_stk (st' := [va_rf y8]) (by rw [ey8]) ?_
    refine z_astore_n (x := y8) (lv' := [(2, va_rf y8), (1, .int (-1)), (0, .ref o)]) hx hb dX4_end_28 rfl hl (by decide) rfl (fun ls hl9 => ?_)
    replace hl := hl9
    clear hl9
    refine z_aload_n (x := y8) hx hb dX4_end_29 rfl (lv_at hl 0 rfl) ?_
    obtain ⟨a9, rfl, h⟩ := h
    obtain ⟨hk_a9, h⟩ := h
    refine z_calli (z_runV (rest := []) [] pk_X3_take (met_X3_take co a9 _ h) X hB hB.2.2.2.2.2.2 q2888 kc_X3 (by decide) hk_a9 rfl hl.1 (Nat.le_of_ble_eq_true rfl) dX4_end_30 (z_k4 hK1) (z_k4 hK2) (by decide) (by decide)) hB (fun _ h => h) (fun r10 T11 I12 Q13 H locs h9 hF hB => ?_)
    replace h := h9
    clear h9
    replace h := h hF
    have hk_a9 := z_tk hF hk_a9 (by decide)
    refine lv_istore_n (lv' := [(1, .int r10), (2, .ref a9), (0, .ref o)]) hx hb dX4_end_33 rfl hl (by decide) rfl (fun ls hl9 => ?_)
    replace hl := hl9
    clear hl9
    refine lv_aload_n (x := a9) hx hb dX4_end_34 rfl (lv_at hl 1 rfl) ?_
    refine lv_dup hx hb dX4_end_35 rfl ?_
    refine z_getiN X hB.1 kc_X3 in_X3 (j := 3) (Nat.le_of_ble_eq_true rfl) q1154 (fun _ h => h) rfl (by decide) hk_a9 dX4_end_36 ?_
    refine lv_iconst (v := 1) hx hb dX4_end_39 (by decide) ?_
    refine lv_isub hx hb dX4_end_40 ?_
    obtain ⟨hc_a9, h⟩ := h
    obtain ⟨I14, eI14⟩ : ∃ z, z = z_up I12 a9 3 ((I12 a9 3) - 1) := ⟨_, rfl⟩
    replace h := h I14 eI14
    refine z_putiN (x := ((I12 a9 3) - 1)) eI14 tyX3 X hB kc_X3 in_X3 tyX3_ok nmX3 (j := 3) (Nat.le_of_ble_eq_true rfl) q1154 (fun _ h => h) rfl rfl (by decide) hk_a9 hc_a9 rfl (Or.inl rfl) dX4_end_41 (fun H locs hB => ?_)
    exact ww_X4_end_44 X ho hoc  hB hK1 hK2 (lv_sub hl [2, 0] rfl) h
theorem pk_X4_end : z_PV RX4 yX4_end cX4_end 3 none 0 := ⟨q2886, qs34, q130, q2887, by decide +kernel⟩
theorem met_X4_end {l : Launch} {G : z_E} {T : z_T} {I : z_I} {Q : z_Q} (co : Nat) (o : Nat) (kc : Nat) (ks : Nat) (Qk : z_T → z_I → z_Q → Prop) (h : wp_X4_end G.2.2 co T I Q o kc ks Qk) : z_GM l G yX4_end (ws_ yX4_end cX4_end 3 none) 13 238 kc ks [.ref o] (z_co co) T I Q (z_qv Qk) z_no := by
  obtain ⟨ho, hoc, h⟩ := h
  refine z_body (own := RX4) (nm := "end") (by decide +kernel) rfl rfl (Nat.le_of_ble_eq_true rfl) (fun p e R s m below meth c A ls X hB hl => ?_)
  exact ww_X4_end_0 X ho hoc hB z_k0 z_k0 hl h
/-! X4_hasNeighbors -/
theorem ww_X4_hasNeighbors_85 {T : z_T} {I : z_I} {Q : z_Q} {o : Nat} {k49 : Int32 → Int32 → Option Nat → Int32 → Int32 → Prop} {Qk : Int32 → Prop} (X : z_X l G A p R s m args meth c cX4_hasNeighbors 8 RX4 "hasNeighbors" (some .boolean) 0 0 10 161) (ho : (T o).1 = 4) (hk49 : ∀ {x2 : Int32} {x3 : Int32} {x4 : Option Nat} {x5 : Int32} {x6 : Int32} {H : Heap} {locs : List Loc} {ls : Array Slot}, z_HB G z_none A s.heap T I Q T I Q H locs → lv_has ls 8 [(0, .ref o), (2, .int x2), (3, .int x3), (4, va_rf x4), (5, .int x5), (6, .int x6)] → k49 x2 x3 x4 x5 x6 → W p l e R s m args below meth c H locs 0 0 (z_MQ below G z_none A T I Q (z_pz Qk T I Q) z_no args s 0 0) (F0 m 49 ls [])) {x2 : Int32} {x4 : Option Nat} {x5 : Int32} {x6 : Int32} {s0 : Int32} {s1 : Int32} {H : Heap} {locs : List Loc} {ls : Array Slot} (hB : z_HB G z_none A s.heap T I Q T I Q H locs) (hl : lv_has ls 8 [(0, .ref o), (2, .int x2), (4, va_rf x4), (5, .int x5), (6, .int x6)]) (h : wb_X4_hasNeighbors_85 T I Q o k49 Qk x2 x4 x5 x6 s0 s1) : W p l e R s m args below meth c H locs 0 0 (z_MQ below G z_none A T I Q (z_pz Qk T I Q) z_no args s 0 0) (F0 m 85 ls [.int s1, .int s0]) := by
  obtain ⟨hx, hb, -⟩ := id X
  unfold wb_X4_hasNeighbors_85 at h
  refine lv_ior hx hb dX4_hasNeighbors_85 ?_
  refine lv_topi (fun y15 ey15 => ?_)
  replace h := h y15 ey15
  refine lv_istore_n (lv' := [(3, .int y15), (0, .ref o), (2, .int x2), (4, va_rf x4), (5, .int x5), (6, .int x6)]) hx hb dX4_hasNeighbors_86 rfl hl (by decide) rfl (fun ls hl9 => ?_)
  replace hl := hl9
  clear hl9
  obtain ⟨y16, ey16⟩ : ∃ z : Int32, z = x6 + 1 := ⟨_, rfl⟩
  replace h := h y16 ey16
  refine lv_iinc (v := y16) (lv' := [(6, .int y16), (3, .int y15), (0, .ref o), (2, .int x2), (4, va_rf x4), (5, .int x5)]) hx hb dX4_hasNeighbors_87 hl (k := 5) rfl (by rw [ey16]; rfl) (by decide) rfl (fun ls hl9 => ?_)
  replace hl := hl9
  clear hl9
  refine lv_goto (tgt := 49) hx hb dX4_hasNeighbors_90 (by decide) ?_
  exact hk49 hB (lv_sub hl [2, 3, 1, 4, 5, 0] rfl) h
theorem ww_X4_hasNeighbors_84 {T : z_T} {I : z_I} {Q : z_Q} {o : Nat} {k49 : Int32 → Int32 → Option Nat → Int32 → Int32 → Prop} {Qk : Int32 → Prop} (X : z_X l G A p R s m args meth c cX4_hasNeighbors 8 RX4 "hasNeighbors" (some .boolean) 0 0 10 161) (ho : (T o).1 = 4) (hk49 : ∀ {x2 : Int32} {x3 : Int32} {x4 : Option Nat} {x5 : Int32} {x6 : Int32} {H : Heap} {locs : List Loc} {ls : Array Slot}, z_HB G z_none A s.heap T I Q T I Q H locs → lv_has ls 8 [(0, .ref o), (2, .int x2), (3, .int x3), (4, va_rf x4), (5, .int x5), (6, .int x6)] → k49 x2 x3 x4 x5 x6 → W p l e R s m args below meth c H locs 0 0 (z_MQ below G z_none A T I Q (z_pz Qk T I Q) z_no args s 0 0) (F0 m 49 ls [])) {x2 : Int32} {x4 : Option Nat} {x5 : Int32} {x6 : Int32} {s0 : Int32} {H : Heap} {locs : List Loc} {ls : Array Slot} (hB : z_HB G z_none A s.heap T I Q T I Q H locs) (hl : lv_has ls 8 [(0, .ref o), (2, .int x2), (4, va_rf x4), (5, .int x5), (6, .int x6)]) (h : wb_X4_hasNeighbors_84 T I Q o k49 Qk x2 x4 x5 x6 s0) : W p l e R s m args below meth c H locs 0 0 (z_MQ below G z_none A T I Q (z_pz Qk T I Q) z_no args s 0 0) (F0 m 84 ls [.int s0]) := by
  obtain ⟨hx, hb, -⟩ := id X
  unfold wb_X4_hasNeighbors_84 at h
  refine lv_iconst (v := 0) hx hb dX4_hasNeighbors_84 (by decide) ?_
  exact ww_X4_hasNeighbors_85 X ho hk49 hB (lv_sub hl [0, 1, 2, 3, 4] rfl) h
theorem wv_X4_hasNeighbors_49 {T : z_T} {I : z_I} {Q : z_Q} {o : Nat} {Qk : Int32 → Prop} (X : z_X l G A p R s m args meth c cX4_hasNeighbors 8 RX4 "hasNeighbors" (some .boolean) 0 0 10 161) (ho : (T o).1 = 4) : ∀ (n : Nat) {x2 : Int32} {x3 : Int32} {x4 : Option Nat} {x5 : Int32} {x6 : Int32} {H : Heap} {locs : List Loc} {ls : Array Slot}, z_HB G z_none A s.heap T I Q T I Q H locs → lv_has ls 8 [(0, .ref o), (2, .int x2), (3, .int x3), (4, va_rf x4), (5, .int x5), (6, .int x6)] → wl_X4_hasNeighbors_49 T I Q o Qk n x2 x3 x4 x5 x6 → W p l e R s m args below meth c H locs 0 0 (z_MQ below G z_none A T I Q (z_pz Qk T I Q) z_no args s 0 0) (F0 m 49 ls []) := by
  intro n
  induction n with
  | zero =>
    intro x2 x3 x4 x5 x6 H locs ls hB hl h
    exact h.elim
  | succ n ih =>
    intro x2 x3 x4 x5 x6 H locs ls hB hl h
    obtain ⟨hx, hb, -⟩ := id X
    unfold wl_X4_hasNeighbors_49 at h
    refine lv_iload hx hb dX4_hasNeighbors_49 (lv_at hl 5 rfl) ?_
    refine lv_iload hx hb dX4_hasNeighbors_51 (lv_at hl 4 rfl) ?_
    refine lv_icmp_ge (tgt := 93) hx hb dX4_hasNeighbors_53 (by decide) (fun c8 => ?_) (fun c8 => ?_)
    · replace h := h.1 c8
      refine lv_iload_n hx hb dX4_hasNeighbors_93 rfl (lv_at hl 2 rfl) ?_
      obtain ⟨hz, h⟩ := h
      exact z_zret X hB hz ⟨_, rfl, hz, h, rfl, rfl, rfl⟩ (Nat.le_refl 0) (Nat.le_refl 0) dX4_hasNeighbors_94
    · replace h := h.2 c8
      refine z_aload (x := x4) hx hb dX4_hasNeighbors_56 (lv_at hl 3 rfl) ?_
      refine lv_iload hx hb dX4_hasNeighbors_58 (lv_at hl 5 rfl) ?_
      obtain ⟨a9, rfl, h⟩ := h
      obtain ⟨hk_a9, h⟩ := h
      obtain ⟨h1, h⟩ := h
      refine z_aald (k := 4) X hB.1 (by decide) hk_a9 h1 dX4_hasNeighbors_60 ?_
      obtain ⟨y10, ey10⟩ : ∃ z : Option Nat, z = (Q a9 x6.toNatClampNeg) := ⟨_, rfl⟩
      replace h := h y10 ey10
      refine z_stk (st' := [va_rf y10]) (by rw [ey10]) ?_
      refine z_astore (x := y10) (lv' := [(7, va_rf y10), (0, .ref o), (2, .int x2), (3, .int x3), (4, .ref a9), (5, .int x5), (6, .int x6)]) hx hb dX4_hasNeighbors_61 hl (by decide) rfl (fun ls hl9 => ?_)
      replace hl := hl9
      clear hl9
      refine lv_iload_n hx hb dX4_hasNeighbors_63 rfl (lv_at hl 3 rfl) ?_
      refine z_aload (x := y10) hx hb dX4_hasNeighbors_64 (lv_at hl 0 rfl) ?_
      refine lv_aload_n (x := o) hx hb dX4_hasNeighbors_66 rfl (lv_at hl 1 rfl) ?_
      refine lv_acmp_eq (rx := y10) (ry := o) (tgt := 84) hx hb dX4_hasNeighbors_67 (by decide) (fun c11 => ?_) (fun c11 => ?_)
      · replace h := h.1 c11
        exact ww_X4_hasNeighbors_84 X ho (fun hB hl h => ih hB hl h) hB (lv_sub hl [1, 2, 4, 5, 6] rfl) h
      · replace h := h.2 c11
        refine z_aload (x := y10) hx hb dX4_hasNeighbors_70 (lv_at hl 0 rfl) ?_
        obtain ⟨a12, rfl, h⟩ := h
        obtain ⟨hk_a12, h⟩ := h
        refine z_callip (z_runV (rest := [.int x3]) [] pk_X4_held (met_X4_held a12 _ h) X hB (fun h => h) q2765 kc_X4 (by decide) hk_a12 rfl hl.1 (Nat.le_of_ble_eq_true rfl) dX4_hasNeighbors_72 (Nat.le_refl 0) (Nat.le_refl 0) (by decide) (by decide)) hB (fun r13 H locs h9 hB => ?_)
        replace h := h9
        clear h9
        refine lv_iload_n hx hb dX4_hasNeighbors_75 rfl (lv_at hl 2 rfl) ?_
        refine lv_iand hx hb dX4_hasNeighbors_76 ?_
        refine lv_if_eq (tgt := 84) hx hb dX4_hasNeighbors_77 (by decide) (fun c14 => ?_) (fun c14 => ?_)
        · replace h := h.1 c14
          exact ww_X4_hasNeighbors_84 X ho (fun hB hl h => ih hB hl h) hB (lv_sub hl [1, 2, 4, 5, 6] rfl) h
        · replace h := h.2 c14
          refine lv_iconst (v := 1) hx hb dX4_hasNeighbors_80 (by decide) ?_
          refine lv_goto (tgt := 85) hx hb dX4_hasNeighbors_81 (by decide) ?_
          exact ww_X4_hasNeighbors_85 X ho (fun hB hl h => ih hB hl h) hB (lv_sub hl [1, 2, 4, 5, 6] rfl) h
theorem ww_X4_hasNeighbors_28 {T : z_T} {I : z_I} {Q : z_Q} {o : Nat} {Qk : Int32 → Prop} (X : z_X l G A p R s m args meth c cX4_hasNeighbors 8 RX4 "hasNeighbors" (some .boolean) 0 0 10 161) (ho : (T o).1 = 4) {s0 : Int32} {s1 : Int32} {H : Heap} {locs : List Loc} {ls : Array Slot} (hB : z_HB G z_none A s.heap T I Q T I Q H locs) (hl : lv_has ls 8 [(0, .ref o)]) (h : wb_X4_hasNeighbors_28 T I Q o Qk s0 s1) : W p l e R s m args below meth c H locs 0 0 (z_MQ below G z_none A T I Q (z_pz Qk T I Q) z_no args s 0 0) (F0 m 28 ls [.int s1, .int s0]) := by
  obtain ⟨hx, hb, -⟩ := id X
  unfold wb_X4_hasNeighbors_28 at h
  refine lv_ior hx hb dX4_hasNeighbors_28 ?_
  refine lv_topi (fun y3 ey3 => ?_)
  replace h := h y3 ey3
  refine lv_istore_n (lv' := [(2, .int y3), (0, .ref o)]) hx hb dX4_hasNeighbors_29 rfl hl (by decide) rfl (fun ls hl9 => ?_)
  replace hl := hl9
  clear hl9
  refine lv_iconst (v := 0) hx hb dX4_hasNeighbors_30 (by decide) ?_
  refine lv_istore_n (lv' := [(3, .int 0), (2, .int y3), (0, .ref o)]) hx hb dX4_hasNeighbors_31 rfl hl (by decide) rfl (fun ls hl9 => ?_)
  replace hl := hl9
  clear hl9
  refine lv_aload_n (x := o) hx hb dX4_hasNeighbors_32 rfl (lv_at hl 2 rfl) ?_
  refine z_getq X hB.1 kc_X4 in_X4 (j := 13) (Nat.le_of_ble_eq_true rfl) q1204 (fun _ h => h) rfl (by decide) ho dX4_hasNeighbors_33 ?_
  obtain ⟨a4, ea4, h⟩ := h
  refine z_stk (st' := [.ref a4]) (by rw [ea4] <;> rfl) ?_
  obtain ⟨hk_a4, h⟩ := h
  refine z_getqN X hB.1 kc_X2 in_X2 (j := 2) (Nat.le_of_ble_eq_true rfl) q1244 (fun _ h => h) rfl (by decide) hk_a4 dX4_hasNeighbors_36 ?_
  obtain ⟨y5, ey5⟩ : ∃ z : Option Nat, z = (Q a4 2) := ⟨_, rfl⟩
  replace h := h y5 ey5
  refine z_stk (st' := [va_rf y5]) (by rw [ey5]) ?_
  refine z_astore (x := y5) (lv' := [(4, va_rf y5), (3, .int 0), (2, .int y3), (0, .ref o)]) hx hb dX4_hasNeighbors_39 hl (by decide) rfl (fun ls hl9 => ?_)
  replace hl := hl9
  clear hl9
  refine z_aload (x := y5) hx hb dX4_hasNeighbors_41 (lv_at hl 0 rfl) ?_
  obtain ⟨a6, rfl, h⟩ := h
  obtain ⟨hk_a6, h⟩ := h
  refine z_alen (k := 4) X hB.1 (by decide) hk_a6 dX4_hasNeighbors_43 ?_
  refine lv_topi (fun y7 ey7 => ?_)
  replace h := h y7 ey7
  refine lv_istore (lv' := [(5, .int y7), (4, .ref a6), (3, .int 0), (2, .int y3), (0, .ref o)]) hx hb dX4_hasNeighbors_44 hl (by decide) rfl (fun ls hl9 => ?_)
  replace hl := hl9
  clear hl9
  refine lv_iconst (v := 0) hx hb dX4_hasNeighbors_46 (by decide) ?_
  refine lv_istore (lv' := [(6, .int 0), (5, .int y7), (4, .ref a6), (3, .int 0), (2, .int y3), (0, .ref o)]) hx hb dX4_hasNeighbors_47 hl (by decide) rfl (fun ls hl9 => ?_)
  replace hl := hl9
  clear hl9
  obtain ⟨w, h⟩ := h
  exact wv_X4_hasNeighbors_49 X ho  w hB (lv_sub hl [5, 4, 3, 2, 1, 0] rfl) h
theorem ww_X4_hasNeighbors_13 {T : z_T} {I : z_I} {Q : z_Q} {o : Nat} {Qk : Int32 → Prop} (X : z_X l G A p R s m args meth c cX4_hasNeighbors 8 RX4 "hasNeighbors" (some .boolean) 0 0 10 161) (ho : (T o).1 = 4) {x1 : Int32} {s0 : Int32} {H : Heap} {locs : List Loc} {ls : Array Slot} (hB : z_HB G z_none A s.heap T I Q T I Q H locs) (hl : lv_has ls 8 [(0, .ref o), (1, .int x1)]) (h : wb_X4_hasNeighbors_13 T I Q o Qk x1 s0) : W p l e R s m args below meth c H locs 0 0 (z_MQ below G z_none A T I Q (z_pz Qk T I Q) z_no args s 0 0) (F0 m 13 ls [.int s0]) := by
  obtain ⟨hx, hb, -⟩ := id X
  unfold wb_X4_hasNeighbors_13 at h
  refine lv_iload_n hx hb dX4_hasNeighbors_13 rfl (lv_at hl 1 rfl) ?_
  refine lv_bipush (v := 7) hx hb dX4_hasNeighbors_14 (by decide) ?_
  refine lv_icmp_ne (tgt := 23) hx hb dX4_hasNeighbors_16 (by decide) (fun c2 => ?_) (fun c2 => ?_)
  · replace h := h.1 c2
    refine lv_iconst (v := 1) hx hb dX4_hasNeighbors_23 (by decide) ?_
    refine lv_iload_n hx hb dX4_hasNeighbors_24 rfl (lv_at hl 1 rfl) ?_
    refine lv_iconst (v := 1) hx hb dX4_hasNeighbors_25 (by decide) ?_
    refine lv_iadd hx hb dX4_hasNeighbors_26 ?_
    refine lv_ishl hx hb dX4_hasNeighbors_27 ?_
    exact ww_X4_hasNeighbors_28 X ho  hB (lv_sub hl [0] rfl) h
  · replace h := h.2 c2
    refine lv_iconst (v := 0) hx hb dX4_hasNeighbors_19 (by decide) ?_
    refine lv_goto (tgt := 28) hx hb dX4_hasNeighbors_20 (by decide) ?_
    exact ww_X4_hasNeighbors_28 X ho  hB (lv_sub hl [0] rfl) h
theorem ww_X4_hasNeighbors_0 {T : z_T} {I : z_I} {Q : z_Q} {o : Nat} {Qk : Int32 → Prop} (X : z_X l G A p R s m args meth c cX4_hasNeighbors 8 RX4 "hasNeighbors" (some .boolean) 0 0 10 161) (ho : (T o).1 = 4) {x1 : Int32} {H : Heap} {locs : List Loc} {ls : Array Slot} (hB : z_HB G z_none A s.heap T I Q T I Q H locs) (hl : lv_has ls 8 [(0, .ref o), (1, .int x1)]) (h : wb_X4_hasNeighbors_0 T I Q o Qk x1) : W p l e R s m args below meth c H locs 0 0 (z_MQ below G z_none A T I Q (z_pz Qk T I Q) z_no args s 0 0) (F0 m 0 ls []) := by
  obtain ⟨hx, hb, -⟩ := id X
  unfold wb_X4_hasNeighbors_0 at h
  refine lv_iload_n hx hb dX4_hasNeighbors_0 rfl (lv_at hl 1 rfl) ?_
  refine lv_if_ne (tgt := 8) hx hb dX4_hasNeighbors_1 (by decide) (fun c1 => ?_) (fun c1 => ?_)
  · replace h := h.1 c1
    refine lv_iconst (v := 1) hx hb dX4_hasNeighbors_8 (by decide) ?_
    refine lv_iload_n hx hb dX4_hasNeighbors_9 rfl (lv_at hl 1 rfl) ?_
    refine lv_iconst (v := 1) hx hb dX4_hasNeighbors_10 (by decide) ?_
    refine lv_isub hx hb dX4_hasNeighbors_11 ?_
    refine lv_ishl hx hb dX4_hasNeighbors_12 ?_
    exact ww_X4_hasNeighbors_13 X ho  hB (lv_sub hl [0, 1] rfl) h
  · replace h := h.2 c1
    refine lv_iconst (v := 0) hx hb dX4_hasNeighbors_4 (by decide) ?_
    refine lv_goto (tgt := 13) hx hb dX4_hasNeighbors_5 (by decide) ?_
    exact ww_X4_hasNeighbors_13 X ho  hB (lv_sub hl [0, 1] rfl) h
theorem pk_X4_hasNeighbors : z_PV RX4 yX4_hasNeighbors cX4_hasNeighbors 8 (some .boolean) 1 := ⟨q2874, qs32, q130, q2875, by decide +kernel⟩
theorem met_X4_hasNeighbors {l : Launch} {G : z_E} {T : z_T} {I : z_I} {Q : z_Q} (o : Nat) (x1 : Int32) (Qk : Int32 → Prop) (h : wp_X4_hasNeighbors T I Q o x1 Qk) : z_GM l G yX4_hasNeighbors (ws_ yX4_hasNeighbors cX4_hasNeighbors 8 (some .boolean)) 10 161 0 0 [.ref o, .int x1] z_none T I Q (z_pz Qk T I Q) z_no := by
  obtain ⟨ho, h⟩ := h
  refine z_body (own := RX4) (nm := "hasNeighbors") (by decide +kernel) rfl rfl (Nat.le_of_ble_eq_true rfl) (fun p e R s m below meth c A ls X hB hl => ?_)
  exact ww_X4_hasNeighbors_0 X ho hB hl h
/-! J31_getFirst -/
theorem ww_J31_getFirst_0 {T : z_T} {I : z_I} {Q : z_Q} {o : Nat} {Qk : Option Nat → Prop} (X : z_X l G A p R s m args meth c cJ31_getFirst 2 RJ31 "getFirst" (some (.object "java/lang/Object")) 0 0 9 141) (ho : (T o).1 = 17) {H : Heap} {locs : List Loc} {ls : Array Slot} (hB : z_HB G z_none A s.heap T I Q T I Q H locs) (hl : lv_has ls 2 [(0, .ref o)]) (h : wb_J31_getFirst_0 T I Q o Qk ) : W p l e R s m args below meth c H locs 0 0 (z_MQ below G z_none A T I Q (z_pr Qk T I Q) z_no args s 0 0) (F0 m 0 ls []) := by
  obtain ⟨hx, hb, -⟩ := id X
  unfold wb_J31_getFirst_0 at h
  refine lv_aload_n (x := o) hx hb dJ31_getFirst_0 rfl (lv_at hl 0 rfl) ?_
  refine z_getq X hB.1 kc_J31 in_J31 (j := 0) (Nat.le_of_ble_eq_true rfl) q1126 (fun _ h => h) rfl (by decide) ho dJ31_getFirst_1 ?_
  refine lv_aload_n (x := o) hx hb dJ31_getFirst_4 rfl (lv_at hl 0 rfl) ?_
  refine z_geti X hB.1 kc_J31 in_J31 (j := 1) (Nat.le_of_ble_eq_true rfl) q1129 (fun _ h => h) rfl (by decide) ho dJ31_getFirst_5 ?_
  refine z_callrp (z_runS (rest := []) [va_rf (Q o 0), .int (I o 1)] pk_J31_elementAt (met_J31_elementAt (Q o 0) (I o 1) _ h) X hB (fun h => h) q2508 rfl hl.1 (Nat.le_of_ble_eq_true rfl) dJ31_getFirst_8 (Nat.le_refl 0) (Nat.le_refl 0) (by decide) (by decide)) hB (fun r1 H locs h9 hB => ?_)
  replace h := h9
  clear h9
  refine z_astore_n (x := r1) (lv' := [(1, va_rf r1), (0, .ref o)]) hx hb dJ31_getFirst_11 rfl hl (by decide) rfl (fun ls hl9 => ?_)
  replace hl := hl9
  clear hl9
  refine z_aload_n (x := r1) hx hb dJ31_getFirst_12 rfl (lv_at hl 0 rfl) ?_
  refine z_ifnonnull (tgt := 24) hx hb dJ31_getFirst_13 (by decide) (fun a3 c2 => ?_) (fun c2 => ?_)
  · replace h := h.2 a3 c2
    subst c2
    refine lv_aload_n (x := a3) hx hb dJ31_getFirst_24 rfl (lv_at hl 0 rfl) ?_
    exact z_aret (v := (some a3)) X (by first | exact Or.inl ⟨_, rfl⟩ | exact Or.inr ⟨_, rfl⟩) hB ⟨_, rfl, h, rfl, rfl, rfl⟩ (Nat.le_refl 0) (Nat.le_refl 0) dJ31_getFirst_25
  · replace h := h.1 c2
    subst c2
    exact h.elim
theorem pk_J31_getFirst : z_PV RJ31 yJ31_getFirst cJ31_getFirst 2 (some (.object "java/lang/Object")) 0 := ⟨q2821, q2822, q128, q2823, by decide +kernel⟩
theorem met_J31_getFirst {l : Launch} {G : z_E} {T : z_T} {I : z_I} {Q : z_Q} (o : Nat) (Qk : Option Nat → Prop) (h : wp_J31_getFirst T I Q o Qk) : z_GM l G yJ31_getFirst (ws_ yJ31_getFirst cJ31_getFirst 2 (some (.object "java/lang/Object"))) 9 141 0 0 [.ref o] z_none T I Q (z_pr Qk T I Q) z_no := by
  obtain ⟨ho, h⟩ := h
  refine z_body (own := RJ31) (nm := "getFirst") (by decide +kernel) rfl rfl (Nat.le_of_ble_eq_true rfl) (fun p e R s m below meth c A ls X hB hl => ?_)
  exact ww_J31_getFirst_0 X ho hB hl h
/-! X4_reached -/
theorem ww_X4_reached_21 {T : z_T} {I : z_I} {Q : z_Q} {o : Nat} {Qk : Int32 → Prop} (X : z_X l G A p R s m args meth c cX4_reached 1 RX4 "reached" (some .int) 0 0 8 120) (ho : (T o).1 = 4) {s0 : Int32} {H : Heap} {locs : List Loc} {ls : Array Slot} (hB : z_HB G z_none A s.heap T I Q T I Q H locs) (hl : lv_has ls 1 []) (h : wb_X4_reached_21 T I Q o Qk s0) : W p l e R s m args below meth c H locs 0 0 (z_MQ below G z_none A T I Q (z_pi Qk T I Q) z_no args s 0 0) (F0 m 21 ls [.int s0]) := by
  obtain ⟨hx, hb, -⟩ := id X
  unfold wb_X4_reached_21 at h
  exact z_iret X hB ⟨_, rfl, h, rfl, rfl, rfl⟩ (Nat.le_refl 0) (Nat.le_refl 0) dX4_reached_21
theorem ww_X4_reached_0 {T : z_T} {I : z_I} {Q : z_Q} {o : Nat} {Qk : Int32 → Prop} (X : z_X l G A p R s m args meth c cX4_reached 1 RX4 "reached" (some .int) 0 0 8 120) (ho : (T o).1 = 4) {H : Heap} {locs : List Loc} {ls : Array Slot} (hB : z_HB G z_none A s.heap T I Q T I Q H locs) (hl : lv_has ls 1 [(0, .ref o)]) (h : wb_X4_reached_0 T I Q o Qk ) : W p l e R s m args below meth c H locs 0 0 (z_MQ below G z_none A T I Q (z_pi Qk T I Q) z_no args s 0 0) (F0 m 0 ls []) := by
  obtain ⟨hx, hb, -⟩ := id X
  unfold wb_X4_reached_0 at h
  refine lv_aload_n (x := o) hx hb dX4_reached_0 rfl (lv_at hl 0 rfl) ?_
  refine z_geti X hB.1 kc_X4 in_X4 (j := 4) (Nat.le_of_ble_eq_true rfl) q1187 (fun _ h => h) rfl (by decide) ho dX4_reached_1 ?_
  refine lv_iconst (v := 2) hx hb dX4_reached_4 (by decide) ?_
  refine lv_icmp_ne (tgt := 17) hx hb dX4_reached_5 (by decide) (fun c1 => ?_) (fun c1 => ?_)
  · replace h := h.1 c1
    refine lv_aload_n (x := o) hx hb dX4_reached_17 rfl (lv_at hl 0 rfl) ?_
    refine z_geti X hB.1 kc_X4 in_X4 (j := 5) (Nat.le_of_ble_eq_true rfl) q1190 (fun _ h => h) rfl (by decide) ho dX4_reached_18 ?_
    exact ww_X4_reached_21 X ho  hB (lv_sub hl [] rfl) h
  · replace h := h.2 c1
    refine lv_aload_n (x := o) hx hb dX4_reached_8 rfl (lv_at hl 0 rfl) ?_
    refine z_geti X hB.1 kc_X4 in_X4 (j := 5) (Nat.le_of_ble_eq_true rfl) q1190 (fun _ h => h) rfl (by decide) ho dX4_reached_9 ?_
    refine lv_iconst (v := 1) hx hb dX4_reached_12 (by decide) ?_
    refine lv_iadd hx hb dX4_reached_13 ?_
    refine lv_goto (tgt := 21) hx hb dX4_reached_14 (by decide) ?_
    exact ww_X4_reached_21 X ho  hB (lv_sub hl [] rfl) h
theorem pk_X4_reached : z_PV RX4 yX4_reached cX4_reached 1 (some .int) 0 := ⟨q1345, q1346, q130, q1347, by decide +kernel⟩
theorem met_X4_reached {l : Launch} {G : z_E} {T : z_T} {I : z_I} {Q : z_Q} (o : Nat) (Qk : Int32 → Prop) (h : wp_X4_reached T I Q o Qk) : z_GM l G yX4_reached (ws_ yX4_reached cX4_reached 1 (some .int)) 8 120 0 0 [.ref o] z_none T I Q (z_pi Qk T I Q) z_no := by
  obtain ⟨ho, h⟩ := h
  refine z_body (own := RX4) (nm := "reached") (by decide +kernel) rfl rfl (Nat.le_of_ble_eq_true rfl) (fun p e R s m below meth c A ls X hB hl => ?_)
  exact ww_X4_reached_0 X ho hB hl h
/-! X3_hasPart -/
theorem ww_X3_hasPart_19 {T : z_T} {I : z_I} {Q : z_Q} {o : Nat} {Qk : Int32 → Prop} (X : z_X l G A p R s m args meth c cX3_hasPart 1 RX3 "hasPart" (some .boolean) 0 0 10 162) (ho : (T o).1 = 5) {s0 : Int32} {H : Heap} {locs : List Loc} {ls : Array Slot} (hB : z_HB G z_none A s.heap T I Q T I Q H locs) (hl : lv_has ls 1 []) (h : wb_X3_hasPart_19 T I Q o Qk s0) : W p l e R s m args below meth c H locs 0 0 (z_MQ below G z_none A T I Q (z_pz Qk T I Q) z_no args s 0 0) (F0 m 19 ls [.int s0]) := by
  obtain ⟨hx, hb, -⟩ := id X
  unfold wb_X3_hasPart_19 at h
  obtain ⟨hz, h⟩ := h
  exact z_zret X hB hz ⟨_, rfl, hz, h, rfl, rfl, rfl⟩ (Nat.le_refl 0) (Nat.le_refl 0) dX3_hasPart_19
theorem ww_X3_hasPart_0 {T : z_T} {I : z_I} {Q : z_Q} {o : Nat} {Qk : Int32 → Prop} (X : z_X l G A p R s m args meth c cX3_hasPart 1 RX3 "hasPart" (some .boolean) 0 0 10 162) (ho : (T o).1 = 5) {H : Heap} {locs : List Loc} {ls : Array Slot} (hB : z_HB G z_none A s.heap T I Q T I Q H locs) (hl : lv_has ls 1 [(0, .ref o)]) (h : wb_X3_hasPart_0 T I Q o Qk ) : W p l e R s m args below meth c H locs 0 0 (z_MQ below G z_none A T I Q (z_pz Qk T I Q) z_no args s 0 0) (F0 m 0 ls []) := by
  obtain ⟨hx, hb, -⟩ := id X
  unfold wb_X3_hasPart_0 at h
  refine lv_aload_n (x := o) hx hb dX3_hasPart_0 rfl (lv_at hl 0 rfl) ?_
  refine z_getq X hB.1 kc_X3 in_X3 (j := 0) (Nat.le_of_ble_eq_true rfl) q1145 (fun _ h => h) rfl (by decide) ho dX3_hasPart_1 ?_
  obtain ⟨a1, ea1, h⟩ := h
  refine z_stk (st' := [.ref a1]) (by rw [ea1] <;> rfl) ?_
  obtain ⟨hk_a1, h⟩ := h
  refine z_callip (z_runV (rest := []) [] pk_J31_size (met_J31_size a1 _ h) X hB (fun h => h) q2539 kc_J31 (by decide) hk_a1 rfl hl.1 (Nat.le_of_ble_eq_true rfl) dX3_hasPart_4 (Nat.le_refl 0) (Nat.le_refl 0) (by decide) (by decide)) hB (fun r2 H locs h9 hB => ?_)
  replace h := h9
  clear h9
  refine lv_aload_n (x := o) hx hb dX3_hasPart_7 rfl (lv_at hl 0 rfl) ?_
  refine z_geti X hB.1 kc_X3 in_X3 (j := 3) (Nat.le_of_ble_eq_true rfl) q1153 (fun _ h => h) rfl (by decide) ho dX3_hasPart_8 ?_
  refine lv_icmp_le (tgt := 18) hx hb dX3_hasPart_11 (by decide) (fun c3 => ?_) (fun c3 => ?_)
  · replace h := h.1 c3
    refine lv_iconst (v := 0) hx hb dX3_hasPart_18 (by decide) ?_
    exact ww_X3_hasPart_19 X ho  hB (lv_sub hl [] rfl) h
  · replace h := h.2 c3
    refine lv_iconst (v := 1) hx hb dX3_hasPart_14 (by decide) ?_
    refine lv_goto (tgt := 19) hx hb dX3_hasPart_15 (by decide) ?_
    exact ww_X3_hasPart_19 X ho  hB (lv_sub hl [] rfl) h
theorem pk_X3_hasPart : z_PV RX3 yX3_hasPart cX3_hasPart 1 (some .boolean) 0 := ⟨q2829, q2830, q129, q2831, by decide +kernel⟩
theorem met_X3_hasPart {l : Launch} {G : z_E} {T : z_T} {I : z_I} {Q : z_Q} (o : Nat) (Qk : Int32 → Prop) (h : wp_X3_hasPart T I Q o Qk) : z_GM l G yX3_hasPart (ws_ yX3_hasPart cX3_hasPart 1 (some .boolean)) 10 162 0 0 [.ref o] z_none T I Q (z_pz Qk T I Q) z_no := by
  obtain ⟨ho, h⟩ := h
  refine z_body (own := RX3) (nm := "hasPart") (by decide +kernel) rfl rfl (Nat.le_of_ble_eq_true rfl) (fun p e R s m below meth c A ls X hB hl => ?_)
  exact ww_X3_hasPart_0 X ho hB hl h
/-! X3_hasRoom -/
theorem ww_X3_hasRoom_24 {T : z_T} {I : z_I} {Q : z_Q} {o : Nat} {Qk : Int32 → Prop} (X : z_X l G A p R s m args meth c cX3_hasRoom 1 RX3 "hasRoom" (some .boolean) 0 0 10 162) (ho : (T o).1 = 5) {s0 : Int32} {H : Heap} {locs : List Loc} {ls : Array Slot} (hB : z_HB G z_none A s.heap T I Q T I Q H locs) (hl : lv_has ls 1 []) (h : wb_X3_hasRoom_24 T I Q o Qk s0) : W p l e R s m args below meth c H locs 0 0 (z_MQ below G z_none A T I Q (z_pz Qk T I Q) z_no args s 0 0) (F0 m 24 ls [.int s0]) := by
  obtain ⟨hx, hb, -⟩ := id X
  unfold wb_X3_hasRoom_24 at h
  obtain ⟨hz, h⟩ := h
  exact z_zret X hB hz ⟨_, rfl, hz, h, rfl, rfl, rfl⟩ (Nat.le_refl 0) (Nat.le_refl 0) dX3_hasRoom_24
theorem ww_X3_hasRoom_0 {T : z_T} {I : z_I} {Q : z_Q} {o : Nat} {Qk : Int32 → Prop} (X : z_X l G A p R s m args meth c cX3_hasRoom 1 RX3 "hasRoom" (some .boolean) 0 0 10 162) (ho : (T o).1 = 5) {H : Heap} {locs : List Loc} {ls : Array Slot} (hB : z_HB G z_none A s.heap T I Q T I Q H locs) (hl : lv_has ls 1 [(0, .ref o)]) (h : wb_X3_hasRoom_0 T I Q o Qk ) : W p l e R s m args below meth c H locs 0 0 (z_MQ below G z_none A T I Q (z_pz Qk T I Q) z_no args s 0 0) (F0 m 0 ls []) := by
  obtain ⟨hx, hb, -⟩ := id X
  unfold wb_X3_hasRoom_0 at h
  refine lv_aload_n (x := o) hx hb dX3_hasRoom_0 rfl (lv_at hl 0 rfl) ?_
  refine z_getq X hB.1 kc_X3 in_X3 (j := 0) (Nat.le_of_ble_eq_true rfl) q1145 (fun _ h => h) rfl (by decide) ho dX3_hasRoom_1 ?_
  obtain ⟨a1, ea1, h⟩ := h
  refine z_stk (st' := [.ref a1]) (by rw [ea1] <;> rfl) ?_
  obtain ⟨hk_a1, h⟩ := h
  refine z_callip (z_runV (rest := []) [] pk_J31_size (met_J31_size a1 _ h) X hB (fun h => h) q2539 kc_J31 (by decide) hk_a1 rfl hl.1 (Nat.le_of_ble_eq_true rfl) dX3_hasRoom_4 (Nat.le_refl 0) (Nat.le_refl 0) (by decide) (by decide)) hB (fun r2 H locs h9 hB => ?_)
  replace h := h9
  clear h9
  refine lv_aload_n (x := o) hx hb dX3_hasRoom_7 rfl (lv_at hl 0 rfl) ?_
  refine z_geti X hB.1 kc_X3 in_X3 (j := 2) (Nat.le_of_ble_eq_true rfl) q1150 (fun _ h => h) rfl (by decide) ho dX3_hasRoom_8 ?_
  refine lv_iadd hx hb dX3_hasRoom_11 ?_
  refine lv_aload_n (x := o) hx hb dX3_hasRoom_12 rfl (lv_at hl 0 rfl) ?_
  refine z_geti X hB.1 kc_X3 in_X3 (j := 1) (Nat.le_of_ble_eq_true rfl) q1148 (fun _ h => h) rfl (by decide) ho dX3_hasRoom_13 ?_
  refine lv_icmp_ge (tgt := 23) hx hb dX3_hasRoom_16 (by decide) (fun c3 => ?_) (fun c3 => ?_)
  · replace h := h.1 c3
    refine lv_iconst (v := 0) hx hb dX3_hasRoom_23 (by decide) ?_
    exact ww_X3_hasRoom_24 X ho  hB (lv_sub hl [] rfl) h
  · replace h := h.2 c3
    refine lv_iconst (v := 1) hx hb dX3_hasRoom_19 (by decide) ?_
    refine lv_goto (tgt := 24) hx hb dX3_hasRoom_20 (by decide) ?_
    exact ww_X3_hasRoom_24 X ho  hB (lv_sub hl [] rfl) h
theorem pk_X3_hasRoom : z_PV RX3 yX3_hasRoom cX3_hasRoom 1 (some .boolean) 0 := ⟨q2536, q2537, q129, q2538, by decide +kernel⟩
theorem met_X3_hasRoom {l : Launch} {G : z_E} {T : z_T} {I : z_I} {Q : z_Q} (o : Nat) (Qk : Int32 → Prop) (h : wp_X3_hasRoom T I Q o Qk) : z_GM l G yX3_hasRoom (ws_ yX3_hasRoom cX3_hasRoom 1 (some .boolean)) 10 162 0 0 [.ref o] z_none T I Q (z_pz Qk T I Q) z_no := by
  obtain ⟨ho, h⟩ := h
  refine z_body (own := RX3) (nm := "hasRoom") (by decide +kernel) rfl rfl (Nat.le_of_ble_eq_true rfl) (fun p e R s m below meth c A ls X hB hl => ?_)
  exact ww_X3_hasRoom_0 X ho hB hl h
/-! X4_refuse -/
theorem ww_X4_refuse_0 {co : Nat} {o : Nat} {Qk : Int32 → z_T → z_I → z_Q → Prop} (X : z_X l G A p R s m args meth c cX4_refuse 3 RX4 "refuse" (some .int) 0 0 8 120) (ho : (T0 o).1 = 4) (hoc : (T0 o).2.2 = co) {T : z_T} {I : z_I} {Q : z_Q} {x1 : Int32} {x2 : Int32} {H : Heap} {locs : List Loc} {ls : Array Slot} (hB : z_HB G (z_co co) A s.heap T0 I0 Q0 T I Q H locs) (hl : lv_has ls 3 [(0, .ref o), (1, .int x1), (2, .int x2)]) (h : wb_X4_refuse_0 co o Qk T I Q x1 x2) : W p l e R s m args below meth c H locs 0 0 (z_MQ below G (z_co co) A T0 I0 Q0 (z_qi Qk) z_no args s 0 0) (F0 m 0 ls []) := by
  obtain ⟨hx, hb, -⟩ := id X
  unfold wb_X4_refuse_0 at h
  refine lv_aload_n (x := o) hx hb dX4_refuse_0 rfl (lv_at hl 0 rfl) ?_
  refine lv_iload_n hx hb dX4_refuse_1 rfl (lv_at hl 1 rfl) ?_
  obtain ⟨I1, eI1⟩ : ∃ z, z = z_up I o 8 x1 := ⟨_, rfl⟩
  replace h := h I1 eI1
  refine z_puti (x := x1) eI1 tyX4 X hB kc_X4 in_X4 tyX4_ok nmX4 (j := 8) (Nat.le_of_ble_eq_true rfl) q1195 (fun _ h => h) rfl rfl (by decide) (z_fo hB ho (by decide)) (z_foc hB ho (by decide) hoc) rfl (Or.inl rfl) dX4_refuse_2 (fun H locs hB => ?_)
  refine lv_aload_n (x := o) hx hb dX4_refuse_5 rfl (lv_at hl 0 rfl) ?_
  refine lv_iload_n hx hb dX4_refuse_6 rfl (lv_at hl 2 rfl) ?_
  obtain ⟨I2, eI2⟩ : ∃ z, z = z_up I1 o 9 x2 := ⟨_, rfl⟩
  replace h := h I2 eI2
  refine z_puti (x := x2) eI2 tyX4 X hB kc_X4 in_X4 tyX4_ok nmX4 (j := 9) (Nat.le_of_ble_eq_true rfl) q1197 (fun _ h => h) rfl rfl (by decide) (z_fo hB ho (by decide)) (z_foc hB ho (by decide) hoc) rfl (Or.inl rfl) dX4_refuse_7 (fun H locs hB => ?_)
  refine lv_iload_n hx hb dX4_refuse_10 rfl (lv_at hl 1 rfl) ?_
  exact z_iret X hB ⟨_, rfl, h⟩ (Nat.le_refl 0) (Nat.le_refl 0) dX4_refuse_11
theorem pk_X4_refuse : z_PV RX4 yX4_refuse cX4_refuse 3 (some .int) 2 := ⟨q2834, qs27, q130, q2835, by decide +kernel⟩
theorem met_X4_refuse {l : Launch} {G : z_E} {T : z_T} {I : z_I} {Q : z_Q} (co : Nat) (o : Nat) (x1 : Int32) (x2 : Int32) (Qk : Int32 → z_T → z_I → z_Q → Prop) (h : wp_X4_refuse co T I Q o x1 x2 Qk) : z_GM l G yX4_refuse (ws_ yX4_refuse cX4_refuse 3 (some .int)) 8 120 0 0 [.ref o, .int x1, .int x2] (z_co co) T I Q (z_qi Qk) z_no := by
  obtain ⟨ho, hoc, h⟩ := h
  refine z_body (own := RX4) (nm := "refuse") (by decide +kernel) rfl rfl (Nat.le_of_ble_eq_true rfl) (fun p e R s m below meth c A ls X hB hl => ?_)
  exact ww_X4_refuse_0 X ho hoc hB hl h
/-! J38_init -/
theorem ww_J38_init_30 {co : Nat} {o : Nat} {Qk : z_T → z_I → z_Q → Prop} (X : z_X l G A p R s m args meth c cJ38_init 3 RJ38 "<init>" none 0 0 8 120) (ho : (T0 o).1 = 25) (hoc : (T0 o).2.2 = co) {T : z_T} {I : z_I} {Q : z_Q} {x1 : Option Nat} {s1 : Option Nat} {H : Heap} {locs : List Loc} {ls : Array Slot} (hB : z_HB G (z_co co) A s.heap T0 I0 Q0 T I Q H locs) (hl : lv_has ls 3 [(0, .ref o), (1, va_rf x1)]) (h : wb_J38_init_30 co o Qk T I Q x1 s1) : W p l e R s m args below meth c H locs 0 0 (z_MQ below G (z_co co) A T0 I0 Q0 (z_qv Qk) z_no args s 0 0) (F0 m 30 ls [va_rf s1, .ref o]) := by
  obtain ⟨hx, hb, -⟩ := id X
  unfold wb_J38_init_30 at h
  obtain ⟨Q6, eQ6⟩ : ∃ z, z = z_up Q o 0 s1 := ⟨_, rfl⟩
  replace h := h Q6 eQ6
  refine z_putq (x := s1) eQ6 tyJ39 X hB kc_J39 in_J39 tyJ39_ok nmJ39 (j := 0) (Nat.le_of_ble_eq_true rfl) q1469 (fun _ h => h) rfl rfl (by decide) (z_fo hB ho (by decide)) (z_foc hB ho (by decide) hoc) rfl (Or.inl ⟨_, rfl⟩) dJ38_init_30 (fun H locs hB => ?_)
  refine lv_aload_n (x := o) hx hb dJ38_init_33 rfl (lv_at hl 0 rfl) ?_
  refine z_aload_n (x := x1) hx hb dJ38_init_34 rfl (lv_at hl 1 rfl) ?_
  obtain ⟨a7, rfl, h⟩ := h
  obtain ⟨hk_a7, h⟩ := h
  refine z_geti X hB.1 kc_J6 in_J6 (j := 3) (Nat.le_of_ble_eq_true rfl) q1049 (z_same X q1050) rfl (by decide) hk_a7 dJ38_init_35 ?_
  obtain ⟨I8, eI8⟩ : ∃ z, z = z_up I o 2 (I a7 3) := ⟨_, rfl⟩
  replace h := h I8 eI8
  refine z_puti (x := (I a7 3)) eI8 tyJ39 X hB kc_J39 in_J39 tyJ39_ok nmJ39 (j := 2) (Nat.le_of_ble_eq_true rfl) q1471 (fun _ h => h) rfl rfl (by decide) (z_fo hB ho (by decide)) (z_foc hB ho (by decide) hoc) rfl (Or.inl rfl) dJ38_init_38 (fun H locs hB => ?_)
  refine lv_aload_n (x := o) hx hb dJ38_init_41 rfl (lv_at hl 0 rfl) ?_
  refine lv_null hx hb dJ38_init_42 ?_
  refine z_stk (st' := [va_rf none, .ref o]) rfl ?_
  obtain ⟨Q9, eQ9⟩ : ∃ z, z = z_up Q6 o 1 none := ⟨_, rfl⟩
  replace h := h Q9 eQ9
  refine z_putq (x := none) eQ9 tyJ39 X hB kc_J39 in_J39 tyJ39_ok nmJ39 (j := 1) (Nat.le_of_ble_eq_true rfl) q1470 (fun _ h => h) rfl rfl (by decide) (z_fo hB ho (by decide)) (z_foc hB ho (by decide) hoc) rfl (Or.inl ⟨_, rfl⟩) dJ38_init_43 (fun H locs hB => ?_)
  exact z_vret X hB ⟨rfl, h⟩ (Nat.le_refl 0) (Nat.le_refl 0) dJ38_init_46
theorem ww_J38_init_0 {co : Nat} {o : Nat} {Qk : z_T → z_I → z_Q → Prop} (X : z_X l G A p R s m args meth c cJ38_init 3 RJ38 "<init>" none 0 0 8 120) (ho : (T0 o).1 = 25) (hoc : (T0 o).2.2 = co) {T : z_T} {I : z_I} {Q : z_Q} {x1 : Option Nat} {x2 : Int32} {H : Heap} {locs : List Loc} {ls : Array Slot} (hB : z_HB G (z_co co) A s.heap T0 I0 Q0 T I Q H locs) (hl : lv_has ls 3 [(0, .ref o), (1, va_rf x1), (2, .int x2)]) (h : wb_J38_init_0 co o Qk T I Q x1 x2) : W p l e R s m args below meth c H locs 0 0 (z_MQ below G (z_co co) A T0 I0 Q0 (z_qv Qk) z_no args s 0 0) (F0 m 0 ls []) := by
  obtain ⟨hx, hb, -⟩ := id X
  unfold wb_J38_init_0 at h
  refine lv_aload_n (x := o) hx hb dJ38_init_0 rfl (lv_at hl 0 rfl) ?_
  refine z_aload_n (x := x1) hx hb dJ38_init_1 rfl (lv_at hl 1 rfl) ?_
  obtain ⟨Q1, eQ1⟩ : ∃ z, z = z_up Q o 4 x1 := ⟨_, rfl⟩
  replace h := h Q1 eQ1
  refine z_putqF (x := x1) eQ1 tyJ39 X hB kc_J39 in_J39 tyJ39_ok nmJ39 (j := 4) (Nat.le_of_ble_eq_true rfl) q1473 (fun _ h => h) rfl rfl rfl (by decide) (z_fo hB ho (by decide)) (z_foc hB ho (by decide) hoc) rfl (Or.inl ⟨_, rfl⟩) dJ38_init_2 (fun H locs hB => ?_)
  refine lv_aload_n (x := o) hx hb dJ38_init_5 rfl (lv_at hl 0 rfl) ?_
  refine z_objInit (rest := []) X q1468 hl.1 dJ38_init_6 (by decide) (Nat.le_of_ble_eq_true rfl) ?_
  refine lv_aload_n (x := o) hx hb dJ38_init_9 rfl (lv_at hl 0 rfl) ?_
  refine lv_iload_n hx hb dJ38_init_10 rfl (lv_at hl 2 rfl) ?_
  obtain ⟨hz, h⟩ := h
  obtain ⟨I2, eI2⟩ : ∃ z, z = z_up I o 3 x2 := ⟨_, rfl⟩
  replace h := h I2 eI2
  refine z_puti (x := x2) eI2 tyJ39 X hB kc_J39 in_J39 tyJ39_ok nmJ39 (j := 3) (Nat.le_of_ble_eq_true rfl) q1472 (fun _ h => h) rfl rfl (by decide) (z_fo hB ho (by decide)) (z_foc hB ho (by decide) hoc) rfl (Or.inr ⟨rfl, hz⟩) dJ38_init_11 (fun H locs hB => ?_)
  refine lv_aload_n (x := o) hx hb dJ38_init_14 rfl (lv_at hl 0 rfl) ?_
  refine lv_iload_n hx hb dJ38_init_15 rfl (lv_at hl 2 rfl) ?_
  refine lv_if_eq (tgt := 26) hx hb dJ38_init_16 (by decide) (fun c3 => ?_) (fun c3 => ?_)
  · replace h := h.1 c3
    refine z_aload_n (x := x1) hx hb dJ38_init_26 rfl (lv_at hl 1 rfl) ?_
    obtain ⟨a4, rfl, h⟩ := h
    obtain ⟨hk_a4, h⟩ := h
    refine z_getq X hB.1 kc_J6 in_J6 (j := 8) (Nat.le_of_ble_eq_true rfl) q1039 (fun _ h => h) rfl (by decide) hk_a4 dJ38_init_27 ?_
    exact ww_J38_init_30 X ho hoc  hB (lv_sub hl [0, 1] rfl) h
  · replace h := h.2 c3
    refine z_aload_n (x := x1) hx hb dJ38_init_19 rfl (lv_at hl 1 rfl) ?_
    obtain ⟨a5, rfl, h⟩ := h
    obtain ⟨hk_a5, h⟩ := h
    refine z_getq X hB.1 kc_J6 in_J6 (j := 9) (Nat.le_of_ble_eq_true rfl) q1040 (fun _ h => h) rfl (by decide) hk_a5 dJ38_init_20 ?_
    refine lv_goto (tgt := 30) hx hb dJ38_init_23 (by decide) ?_
    exact ww_J38_init_30 X ho hoc  hB (lv_sub hl [0, 1] rfl) h
theorem pk_J38_init : z_PI yJ38_init cJ38_init 3 2 := ⟨q1466, q138, q1467, rfl, by decide +kernel⟩
theorem met_J38_init {l : Launch} {G : z_E} {T : z_T} {I : z_I} {Q : z_Q} (co : Nat) (o : Nat) (x1 : Option Nat) (x2 : Int32) (Qk : z_T → z_I → z_Q → Prop) (h : wp_J38_init co T I Q o x1 x2 Qk) : z_GM l G yJ38_init (ws_ yJ38_init cJ38_init 3 none) 8 120 0 0 [.ref o, va_rf x1, .int x2] (z_co co) T I Q (z_qv Qk) z_no := by
  obtain ⟨ho, hoc, h⟩ := h
  refine z_body (own := RJ38) (nm := "<init>") (by decide +kernel) rfl rfl (by cases x1 <;> exact Nat.le_of_ble_eq_true rfl) (fun p e R s m below meth c A ls X hB hl => ?_)
  replace hl : lv_has ls 3 [(0, .ref o), (1, va_rf x1), (2, .int x2)] := by cases x1 <;> exact hl
  exact ww_J38_init_0 X ho hoc hB hl h
/-! J39_init -/
theorem ww_J39_init_0 {co : Nat} {o : Nat} {Qk : z_T → z_I → z_Q → Prop} (X : z_X l G A p R s m args meth c cJ39_init 3 RJ39 "<init>" none 0 0 9 142) (ho : (T0 o).1 = 25) {T : z_T} {I : z_I} {Q : z_Q} {x1 : Option Nat} {x2 : Int32} {H : Heap} {locs : List Loc} {ls : Array Slot} (hB : z_HB G (z_co co) A s.heap T0 I0 Q0 T I Q H locs) (hl : lv_has ls 3 [(0, .ref o), (1, va_rf x1), (2, .int x2)]) (h : wb_J39_init_0 co o Qk T I Q x1 x2) : W p l e R s m args below meth c H locs 0 0 (z_MQ below G (z_co co) A T0 I0 Q0 (z_qv Qk) z_no args s 0 0) (F0 m 0 ls []) := by
  obtain ⟨hx, hb, -⟩ := id X
  unfold wb_J39_init_0 at h
  refine lv_aload_n (x := o) hx hb dJ39_init_0 rfl (lv_at hl 0 rfl) ?_
  refine z_aload_n (x := x1) hx hb dJ39_init_1 rfl (lv_at hl 1 rfl) ?_
  refine lv_iload_n hx hb dJ39_init_2 rfl (lv_at hl 2 rfl) ?_
  refine z_callv (z_runI (rest := []) [va_rf x1, .int x2] pk_J38_init (met_J38_init co o x1 x2 _ h) X hB hB.2.2.2.2.2.2 q1465 rfl hl.1 (Nat.le_of_ble_eq_true rfl) dJ39_init_3 (Nat.le_refl 0) (Nat.le_refl 0) (by decide) (by decide)) hB (fun _ h => h) (fun T2 I3 Q4 H locs h9 hF hB => ?_)
  replace h := h9
  clear h9
  replace h := h hF
  exact z_vret X hB ⟨rfl, h⟩ (Nat.le_refl 0) (Nat.le_refl 0) dJ39_init_6
theorem pk_J39_init : z_PI yJ39_init cJ39_init 3 2 := ⟨q1463, q139, q1464, rfl, by decide +kernel⟩
theorem met_J39_init {l : Launch} {G : z_E} {T : z_T} {I : z_I} {Q : z_Q} (co : Nat) (o : Nat) (x1 : Option Nat) (x2 : Int32) (Qk : z_T → z_I → z_Q → Prop) (h : wp_J39_init co T I Q o x1 x2 Qk) : z_GM l G yJ39_init (ws_ yJ39_init cJ39_init 3 none) 9 142 0 0 [.ref o, va_rf x1, .int x2] (z_co co) T I Q (z_qv Qk) z_no := by
  obtain ⟨ho, h⟩ := h
  refine z_body (own := RJ39) (nm := "<init>") (by decide +kernel) rfl rfl (by cases x1 <;> exact Nat.le_of_ble_eq_true rfl) (fun p e R s m below meth c A ls X hB hl => ?_)
  replace hl : lv_has ls 3 [(0, .ref o), (1, va_rf x1), (2, .int x2)] := by cases x1 <;> exact hl
  exact ww_J39_init_0 X ho hB hl h
/-! J35_iterator -/
theorem ww_J35_iterator_0 {co : Nat} {o : Nat} {Qk : Option Nat → z_T → z_I → z_Q → Prop} (X : z_X l G A p R s m args meth c cJ35_iterator 1 RJ35 "iterator" (some (.object "java/util/Iterator")) mc ms 10 164) (ho : (T0 o).1 = 24) {cells slots : Nat} {T : z_T} {I : z_I} {Q : z_Q} {kc : Nat} {ks : Nat} {H : Heap} {locs : List Loc} {ls : Array Slot} (hB : z_HB G (z_co co) A s.heap T0 I0 Q0 T I Q H locs) (hK1 : cells + kc ≤ mc) (hK2 : slots + ks ≤ ms) (hl : lv_has ls 1 [(0, .ref o)]) (h : wb_J35_iterator_0 co o Qk T I Q kc ks) : W p l e R s m args below meth c H locs cells slots (z_MQ below G (z_co co) A T0 I0 Q0 (z_qr Qk) z_no args s mc ms) (F0 m 0 ls []) := by
  obtain ⟨hx, hb, -⟩ := id X
  unfold wb_J35_iterator_0 at h
  obtain ⟨g1, g2, h⟩ := h
  refine z_new (col := co) tyJ39 X hB kc_J39 in_J39 tyJ39_ok q1460 q1461 q139 (by decide) (z_dvJ39) rfl (z_k1 hK1 g1) (z_k1 hK2 g2) dJ35_iterator_0 (fun a1 H hq hB => ?_)
  obtain ⟨T2, eT2⟩ : ∃ z, z = z_t T a1 (25, 0, co) := ⟨_, rfl⟩
  obtain ⟨I3, eI3⟩ : ∃ z, z = z_row I a1 (fun _ => 0) := ⟨_, rfl⟩
  obtain ⟨Q4, eQ4⟩ : ∃ z, z = z_row Q a1 (fun _ => none) := ⟨_, rfl⟩
  rw [← eT2, ← eI3, ← eQ4] at hB
  replace h := h a1 T2 I3 Q4 hq eT2 eI3 eQ4
  have hk_a1 := z_tq eT2
  have hc_a1 : (T2 a1).2.2 = co := by rw [z_tqc eT2]
  replace hK1 := z_k2 hK1 g1
  replace hK2 := z_k2 hK2 g2
  refine lv_dup hx hb dJ35_iterator_3 rfl ?_
  refine lv_aload_n (x := o) hx hb dJ35_iterator_4 rfl (lv_at hl 0 rfl) ?_
  refine z_getq X hB.1 kc_J35 in_J35 (j := 1) (Nat.le_of_ble_eq_true rfl) q1411 (fun _ h => h) rfl (by decide) (z_fo hB ho (by decide)) dJ35_iterator_5 ?_
  refine lv_aload_n (x := o) hx hb dJ35_iterator_8 rfl (lv_at hl 0 rfl) ?_
  refine z_geti X hB.1 kc_J35 in_J35 (j := 0) (Nat.le_of_ble_eq_true rfl) q1410 (fun _ h => h) rfl (by decide) (z_fo hB ho (by decide)) dJ35_iterator_9 ?_
  refine z_callv (z_runI (rest := [.ref a1]) [va_rf (Q4 o 1), .int (I3 o 0)] pk_J39_init (met_J39_init co a1 (Q4 o 1) (I3 o 0) _ h) X hB hB.2.2.2.2.2.2 q1462 rfl hl.1 (Nat.le_of_ble_eq_true rfl) dJ35_iterator_12 (z_k4 hK1) (z_k4 hK2) (by decide) (by decide)) hB (fun _ h => h) (fun T6 I7 Q8 H locs h9 hF hB => ?_)
  replace h := h9
  clear h9
  replace h := h hF
  have hc_a1 : (T6 a1).2.2 = co := by rw [z_te hF hk_a1 (by decide)]; exact hc_a1
  have hk_a1 := z_tk hF hk_a1 (by decide)
  exact z_aret (v := (some a1)) X (by first | exact Or.inl ⟨_, rfl⟩ | exact Or.inr ⟨_, rfl⟩) hB ⟨_, rfl, h⟩ (z_k3 hK1) (z_k3 hK2) dJ35_iterator_15
theorem met_J35_iterator {l : Launch} {G : z_E} {T : z_T} {I : z_I} {Q : z_Q} (co : Nat) (o : Nat) (kc : Nat) (ks : Nat) (Qk : Option Nat → z_T → z_I → z_Q → Prop) (h : wp_J35_iterator co T I Q o kc ks Qk) : z_GM l G yJ35_iterator (ws_ yJ35_iterator cJ35_iterator 1 (some (.object "java/util/Iterator"))) 10 164 kc ks [.ref o] (z_co co) T I Q (z_qr Qk) z_no := by
  obtain ⟨ho, h⟩ := h
  refine z_body (own := RJ35) (nm := "iterator") (by decide +kernel) rfl rfl (Nat.le_of_ble_eq_true rfl) (fun p e R s m below meth c A ls X hB hl => ?_)
  exact ww_J35_iterator_0 X ho hB z_k0 z_k0 hl h
/-! J0_init -/
theorem ww_J0_init_0 {T : z_T} {I : z_I} {Q : z_Q} {o : Nat} {Qk : Prop} (X : z_X l G A p R s m args meth c cJ0_init 1 RJ0 "<init>" none 0 0 8 120) {H : Heap} {locs : List Loc} {ls : Array Slot} (hB : z_HB G z_none A s.heap T I Q T I Q H locs) (hl : lv_has ls 1 [(0, .ref o)]) (h : wb_J0_init_0 T I Q o Qk ) : W p l e R s m args below meth c H locs 0 0 (z_MQ below G z_none A T I Q (z_pv Qk T I Q) z_no args s 0 0) (F0 m 0 ls []) := by
  obtain ⟨hx, hb, -⟩ := id X
  unfold wb_J0_init_0 at h
  refine lv_aload_n (x := o) hx hb dJ0_init_0 rfl (lv_at hl 0 rfl) ?_
  refine z_objInit (rest := []) X q193 hl.1 dJ0_init_1 (by decide) (Nat.le_of_ble_eq_true rfl) ?_
  exact z_vret X hB ⟨rfl, h, rfl, rfl, rfl⟩ (Nat.le_refl 0) (Nat.le_refl 0) dJ0_init_4
theorem pk_J0_init : z_PI yJ0_init cJ0_init 1 0 := ⟨q191, q96, q192, rfl, by decide +kernel⟩
theorem met_J0_init {l : Launch} {G : z_E} {T : z_T} {I : z_I} {Q : z_Q} (o : Nat) (Qk : Prop) (h : wp_J0_init T I Q o Qk) : z_GM l G yJ0_init (ws_ yJ0_init cJ0_init 1 none) 8 120 0 0 [.ref o] z_none T I Q (z_pv Qk T I Q) z_no := by
  refine z_body (own := RJ0) (nm := "<init>") (by decide +kernel) rfl rfl (Nat.le_of_ble_eq_true rfl) (fun p e R s m below meth c A ls X hB hl => ?_)
  exact ww_J0_init_0 X hB hl h
/-! J1_init -/
theorem ww_J1_init_0 {T : z_T} {I : z_I} {Q : z_Q} {o : Nat} {Qk : Prop} (X : z_X l G A p R s m args meth c cJ1_init 1 RJ1 "<init>" none 0 0 9 140) {H : Heap} {locs : List Loc} {ls : Array Slot} (hB : z_HB G z_none A s.heap T I Q T I Q H locs) (hl : lv_has ls 1 [(0, .ref o)]) (h : wb_J1_init_0 T I Q o Qk ) : W p l e R s m args below meth c H locs 0 0 (z_MQ below G z_none A T I Q (z_pv Qk T I Q) z_no args s 0 0) (F0 m 0 ls []) := by
  obtain ⟨hx, hb, -⟩ := id X
  unfold wb_J1_init_0 at h
  refine lv_aload_n (x := o) hx hb dJ1_init_0 rfl (lv_at hl 0 rfl) ?_
  refine z_callvp (z_runI (rest := []) [] pk_J0_init (met_J0_init o _ h) X hB (fun h => h) q190 rfl hl.1 (Nat.le_of_ble_eq_true rfl) dJ1_init_1 (Nat.le_refl 0) (Nat.le_refl 0) (by decide) (by decide)) hB (fun H locs h9 hB => ?_)
  replace h := h9
  clear h9
  exact z_vret X hB ⟨rfl, h, rfl, rfl, rfl⟩ (Nat.le_refl 0) (Nat.le_refl 0) dJ1_init_4
theorem pk_J1_init : z_PI yJ1_init cJ1_init 1 0 := ⟨q188, q97, q189, rfl, by decide +kernel⟩
theorem met_J1_init {l : Launch} {G : z_E} {T : z_T} {I : z_I} {Q : z_Q} (o : Nat) (Qk : Prop) (h : wp_J1_init T I Q o Qk) : z_GM l G yJ1_init (ws_ yJ1_init cJ1_init 1 none) 9 140 0 0 [.ref o] z_none T I Q (z_pv Qk T I Q) z_no := by
  refine z_body (own := RJ1) (nm := "<init>") (by decide +kernel) rfl rfl (Nat.le_of_ble_eq_true rfl) (fun p e R s m below meth c A ls X hB hl => ?_)
  exact ww_J1_init_0 X hB hl h
/-! J35_init -/
theorem ww_J35_init_0 {co : Nat} {o : Nat} {Qk : z_T → z_I → z_Q → Prop} (X : z_X l G A p R s m args meth c cJ35_init 3 RJ35 "<init>" none 0 0 10 160) (ho : (T0 o).1 = 24) (hoc : (T0 o).2.2 = co) {T : z_T} {I : z_I} {Q : z_Q} {x1 : Option Nat} {x2 : Int32} {H : Heap} {locs : List Loc} {ls : Array Slot} (hB : z_HB G (z_co co) A s.heap T0 I0 Q0 T I Q H locs) (hl : lv_has ls 3 [(0, .ref o), (1, va_rf x1), (2, .int x2)]) (h : wb_J35_init_0 co o Qk T I Q x1 x2) : W p l e R s m args below meth c H locs 0 0 (z_MQ below G (z_co co) A T0 I0 Q0 (z_qv Qk) z_no args s 0 0) (F0 m 0 ls []) := by
  obtain ⟨hx, hb, -⟩ := id X
  unfold wb_J35_init_0 at h
  refine lv_aload_n (x := o) hx hb dJ35_init_0 rfl (lv_at hl 0 rfl) ?_
  refine z_aload_n (x := x1) hx hb dJ35_init_1 rfl (lv_at hl 1 rfl) ?_
  obtain ⟨Q1, eQ1⟩ : ∃ z, z = z_up Q o 1 x1 := ⟨_, rfl⟩
  replace h := h Q1 eQ1
  refine z_putqF (x := x1) eQ1 tyJ35 X hB kc_J35 in_J35 tyJ35_ok nmJ35 (j := 1) (Nat.le_of_ble_eq_true rfl) q1411 (fun _ h => h) rfl rfl rfl (by decide) (z_fo hB ho (by decide)) (z_foc hB ho (by decide) hoc) rfl (Or.inl ⟨_, rfl⟩) dJ35_init_2 (fun H locs hB => ?_)
  refine lv_aload_n (x := o) hx hb dJ35_init_5 rfl (lv_at hl 0 rfl) ?_
  refine z_callvp (z_runI (rest := []) [] pk_J1_init (met_J1_init o _ h) X hB (fun h => h) q1409 rfl hl.1 (Nat.le_of_ble_eq_true rfl) dJ35_init_6 (Nat.le_refl 0) (Nat.le_refl 0) (by decide) (by decide)) hB (fun H locs h9 hB => ?_)
  replace h := h9
  clear h9
  refine lv_aload_n (x := o) hx hb dJ35_init_9 rfl (lv_at hl 0 rfl) ?_
  refine lv_iload_n hx hb dJ35_init_10 rfl (lv_at hl 2 rfl) ?_
  obtain ⟨hz, h⟩ := h
  obtain ⟨I3, eI3⟩ : ∃ z, z = z_up I o 0 x2 := ⟨_, rfl⟩
  replace h := h I3 eI3
  refine z_putiF (x := x2) eI3 tyJ35 X hB kc_J35 in_J35 tyJ35_ok nmJ35 (j := 0) (Nat.le_of_ble_eq_true rfl) q1410 (fun _ h => h) rfl rfl rfl (by decide) (z_fo hB ho (by decide)) (z_foc hB ho (by decide) hoc) rfl (Or.inr ⟨rfl, hz⟩) dJ35_init_11 (fun H locs hB => ?_)
  exact z_vret X hB ⟨rfl, h⟩ (Nat.le_refl 0) (Nat.le_refl 0) dJ35_init_14
theorem pk_J35_init : z_PI yJ35_init cJ35_init 3 2 := ⟨q1407, q135, q1408, rfl, by decide +kernel⟩
theorem met_J35_init {l : Launch} {G : z_E} {T : z_T} {I : z_I} {Q : z_Q} (co : Nat) (o : Nat) (x1 : Option Nat) (x2 : Int32) (Qk : z_T → z_I → z_Q → Prop) (h : wp_J35_init co T I Q o x1 x2 Qk) : z_GM l G yJ35_init (ws_ yJ35_init cJ35_init 3 none) 10 160 0 0 [.ref o, va_rf x1, .int x2] (z_co co) T I Q (z_qv Qk) z_no := by
  obtain ⟨ho, hoc, h⟩ := h
  refine z_body (own := RJ35) (nm := "<init>") (by decide +kernel) rfl rfl (by cases x1 <;> exact Nat.le_of_ble_eq_true rfl) (fun p e R s m below meth c A ls X hB hl => ?_)
  replace hl : lv_has ls 3 [(0, .ref o), (1, va_rf x1), (2, .int x2)] := by cases x1 <;> exact hl
  exact ww_J35_init_0 X ho hoc hB hl h
/-! J6_sequencedKeySet -/
theorem ww_J6_sequencedKeySet_0 {co : Nat} {o : Nat} {Qk : Option Nat → z_T → z_I → z_Q → Prop} (X : z_X l G A p R s m args meth c cJ6_sequencedKeySet 3 RJ6 "sequencedKeySet" (some (.object "java/util/SequencedSet")) mc ms 11 182) (ho : (T0 o).1 = 22) (hoc : (T0 o).2.2 = co) {cells slots : Nat} {T : z_T} {I : z_I} {Q : z_Q} {kc : Nat} {ks : Nat} {H : Heap} {locs : List Loc} {ls : Array Slot} (hB : z_HB G (z_co co) A s.heap T0 I0 Q0 T I Q H locs) (hK1 : cells + kc ≤ mc) (hK2 : slots + ks ≤ ms) (hl : lv_has ls 3 [(0, .ref o)]) (h : wb_J6_sequencedKeySet_0 co o Qk T I Q kc ks) : W p l e R s m args below meth c H locs cells slots (z_MQ below G (z_co co) A T0 I0 Q0 (z_qr Qk) z_no args s mc ms) (F0 m 0 ls []) := by
  obtain ⟨hx, hb, -⟩ := id X
  unfold wb_J6_sequencedKeySet_0 at h
  refine lv_aload_n (x := o) hx hb dJ6_sequencedKeySet_0 rfl (lv_at hl 0 rfl) ?_
  refine z_getq X hB.1 kc_J6 in_J6 (j := 6) (Nat.le_of_ble_eq_true rfl) q1057 (z_same X q1058) rfl (by decide) (z_fo hB ho (by decide)) dJ6_sequencedKeySet_1 ?_
  obtain ⟨y1, ey1⟩ : ∃ z : Option Nat, z = (Q o 6) := ⟨_, rfl⟩
  replace h := h y1 ey1
  refine z_stk (st' := [va_rf y1]) (by rw [ey1]) ?_
  refine z_astore_n (x := y1) (lv' := [(1, va_rf y1), (0, .ref o)]) hx hb dJ6_sequencedKeySet_4 rfl hl (by decide) rfl (fun ls hl9 => ?_)
  replace hl := hl9
  clear hl9
  refine z_aload_n (x := y1) hx hb dJ6_sequencedKeySet_5 rfl (lv_at hl 0 rfl) ?_
  refine z_ifnonnull (tgt := 26) hx hb dJ6_sequencedKeySet_6 (by decide) (fun a3 c2 => ?_) (fun c2 => ?_)
  · replace h := h.2 a3 c2
    subst c2
    refine lv_aload_n (x := a3) hx hb dJ6_sequencedKeySet_26 rfl (lv_at hl 0 rfl) ?_
    exact h.elim
  · replace h := h.1 c2
    subst c2
    obtain ⟨g1, g2, h⟩ := h
    refine z_new (col := co) tyJ35 X hB kc_J35 in_J35 tyJ35_ok q1404 q1405 q135 (by decide) (z_dvJ35) rfl (z_k1 hK1 g1) (z_k1 hK2 g2) dJ6_sequencedKeySet_9 (fun a4 H hq hB => ?_)
    obtain ⟨T5, eT5⟩ : ∃ z, z = z_t T a4 (24, 0, co) := ⟨_, rfl⟩
    obtain ⟨I6, eI6⟩ : ∃ z, z = z_row I a4 (fun _ => 0) := ⟨_, rfl⟩
    obtain ⟨Q7, eQ7⟩ : ∃ z, z = z_row Q a4 (fun _ => none) := ⟨_, rfl⟩
    rw [← eT5, ← eI6, ← eQ7] at hB
    replace h := h a4 T5 I6 Q7 hq eT5 eI6 eQ7
    have hk_a4 := z_tq eT5
    have hc_a4 : (T5 a4).2.2 = co := by rw [z_tqc eT5]
    replace hK1 := z_k2 hK1 g1
    replace hK2 := z_k2 hK2 g2
    refine lv_dup hx hb dJ6_sequencedKeySet_12 rfl ?_
    refine lv_aload_n (x := o) hx hb dJ6_sequencedKeySet_13 rfl (lv_at hl 1 rfl) ?_
    refine lv_iconst (v := 0) hx hb dJ6_sequencedKeySet_14 (by decide) ?_
    refine z_callv (z_runI (rest := [.ref a4]) [.ref o, .int 0] pk_J35_init (met_J35_init co a4 o 0 _ h) X hB hB.2.2.2.2.2.2 q1406 rfl hl.1 (Nat.le_of_ble_eq_true rfl) dJ6_sequencedKeySet_15 (z_k4 hK1) (z_k4 hK2) (by decide) (by decide)) hB (fun _ h => h) (fun T9 I10 Q11 H locs h9 hF hB => ?_)
    replace h := h9
    clear h9
    replace h := h hF
    have hc_a4 : (T9 a4).2.2 = co := by rw [z_te hF hk_a4 (by decide)]; exact hc_a4
    have hk_a4 := z_tk hF hk_a4 (by decide)
    refine lv_astore_n (x := a4) (lv' := [(2, .ref a4), (1, va_rf none), (0, .ref o)]) hx hb dJ6_sequencedKeySet_18 rfl hl (by decide) rfl (fun ls hl9 => ?_)
    replace hl := hl9
    clear hl9
    refine lv_aload_n (x := o) hx hb dJ6_sequencedKeySet_19 rfl (lv_at hl 2 rfl) ?_
    refine lv_aload_n (x := a4) hx hb dJ6_sequencedKeySet_20 rfl (lv_at hl 0 rfl) ?_
    obtain ⟨Q12, eQ12⟩ : ∃ z, z = z_up Q11 o 6 (some a4) := ⟨_, rfl⟩
    replace h := h Q12 eQ12
    refine z_putq (x := (some a4)) eQ12 tyJ6 X hB kc_J6 in_J6 tyJ6_ok nmJ6 (j := 6) (Nat.le_of_ble_eq_true rfl) q1057 (z_same X q1058) rfl rfl (by decide) (z_fo hB ho (by decide)) (z_foc hB ho (by decide) hoc) rfl (Or.inl ⟨_, rfl⟩) dJ6_sequencedKeySet_21 (fun H locs hB => ?_)
    refine lv_aload_n (x := a4) hx hb dJ6_sequencedKeySet_24 rfl (lv_at hl 0 rfl) ?_
    exact z_aret (v := (some a4)) X (by first | exact Or.inl ⟨_, rfl⟩ | exact Or.inr ⟨_, rfl⟩) hB ⟨_, rfl, h⟩ (z_k3 hK1) (z_k3 hK2) dJ6_sequencedKeySet_25
theorem pk_J6_sequencedKeySet : z_PV RJ6 yJ6_sequencedKeySet cJ6_sequencedKeySet 3 (some (.object "java/util/SequencedSet")) 0 := ⟨q1401, q1402, q102, q1403, by decide +kernel⟩
theorem met_J6_sequencedKeySet {l : Launch} {G : z_E} {T : z_T} {I : z_I} {Q : z_Q} (co : Nat) (o : Nat) (kc : Nat) (ks : Nat) (Qk : Option Nat → z_T → z_I → z_Q → Prop) (h : wp_J6_sequencedKeySet co T I Q o kc ks Qk) : z_GM l G yJ6_sequencedKeySet (ws_ yJ6_sequencedKeySet cJ6_sequencedKeySet 3 (some (.object "java/util/SequencedSet"))) 11 182 kc ks [.ref o] (z_co co) T I Q (z_qr Qk) z_no := by
  obtain ⟨ho, hoc, h⟩ := h
  refine z_body (own := RJ6) (nm := "sequencedKeySet") (by decide +kernel) rfl rfl (Nat.le_of_ble_eq_true rfl) (fun p e R s m below meth c A ls X hB hl => ?_)
  exact ww_J6_sequencedKeySet_0 X ho hoc hB z_k0 z_k0 hl h
/-! J6_keySet -/
theorem ww_J6_keySet_0 {co : Nat} {o : Nat} {Qk : Option Nat → z_T → z_I → z_Q → Prop} (X : z_X l G A p R s m args meth c cJ6_keySet 1 RJ6 "keySet" (some (.object "java/util/Set")) mc ms 12 204) (ho : (T0 o).1 = 22) {cells slots : Nat} {T : z_T} {I : z_I} {Q : z_Q} {kc : Nat} {ks : Nat} {H : Heap} {locs : List Loc} {ls : Array Slot} (hB : z_HB G (z_co co) A s.heap T0 I0 Q0 T I Q H locs) (hK1 : cells + kc ≤ mc) (hK2 : slots + ks ≤ ms) (hl : lv_has ls 1 [(0, .ref o)]) (h : wb_J6_keySet_0 co o Qk T I Q kc ks) : W p l e R s m args below meth c H locs cells slots (z_MQ below G (z_co co) A T0 I0 Q0 (z_qr Qk) z_no args s mc ms) (F0 m 0 ls []) := by
  obtain ⟨hx, hb, -⟩ := id X
  unfold wb_J6_keySet_0 at h
  refine lv_aload_n (x := o) hx hb dJ6_keySet_0 rfl (lv_at hl 0 rfl) ?_
  obtain ⟨kc2, ks3, g1, g2, h⟩ := h
  refine z_callr (z_runV (rest := []) [] pk_J6_sequencedKeySet (met_J6_sequencedKeySet co o kc2 ks3 _ h) X hB hB.2.2.2.2.2.2 q1400 kc_J6 (by decide) (z_fo hB ho (by decide)) rfl hl.1 (Nat.le_of_ble_eq_true rfl) dJ6_keySet_1 (z_k1 hK1 g1) (z_k1 hK2 g2) (by decide) (by decide)) hB (fun _ h => h) (fun r1 T4 I5 Q6 H locs h9 hF hB => ?_)
  replace h := h9
  clear h9
  replace h := h hF
  replace hK1 := z_k2 hK1 g1
  replace hK2 := z_k2 hK2 g2
  exact z_aret (v := r1) X (by first | exact Or.inl ⟨_, rfl⟩ | exact Or.inr ⟨_, rfl⟩) hB ⟨_, rfl, h⟩ (z_k3 hK1) (z_k3 hK2) dJ6_keySet_4
theorem met_J6_keySet {l : Launch} {G : z_E} {T : z_T} {I : z_I} {Q : z_Q} (co : Nat) (o : Nat) (kc : Nat) (ks : Nat) (Qk : Option Nat → z_T → z_I → z_Q → Prop) (h : wp_J6_keySet co T I Q o kc ks Qk) : z_GM l G yJ6_keySet (ws_ yJ6_keySet cJ6_keySet 1 (some (.object "java/util/Set"))) 12 204 kc ks [.ref o] (z_co co) T I Q (z_qr Qk) z_no := by
  obtain ⟨ho, h⟩ := h
  refine z_body (own := RJ6) (nm := "keySet") (by decide +kernel) rfl rfl (Nat.le_of_ble_eq_true rfl) (fun p e R s m below meth c A ls X hB hl => ?_)
  exact ww_J6_keySet_0 X ho hB z_k0 z_k0 hl h
/-! J2_iterator -/
theorem pu_J6_J6_keySet_HashMap : z_PU "java/util/LinkedHashMap" "java/util/HashMap" ⟨"java/util/HashMap", "keySet", "()Ljava/util/Set;"⟩ yJ6_keySet cJ6_keySet 1 (some (.object "java/util/Set")) 0 := ⟨q1396, q1397, q1398, q102, q1399, by decide +kernel⟩
theorem ww_J2_iterator_0 {co : Nat} {o : Nat} {Qk : Option Nat → z_T → z_I → z_Q → Prop} (X : z_X l G A p R s m args meth c cJ2_iterator 1 RJ2 "iterator" (some (.object "java/util/Iterator")) mc ms 13 224) (ho : (T0 o).1 = 21) {cells slots : Nat} {T : z_T} {I : z_I} {Q : z_Q} {kc : Nat} {ks : Nat} {H : Heap} {locs : List Loc} {ls : Array Slot} (hB : z_HB G (z_co co) A s.heap T0 I0 Q0 T I Q H locs) (hK1 : cells + kc ≤ mc) (hK2 : slots + ks ≤ ms) (hl : lv_has ls 1 [(0, .ref o)]) (h : wb_J2_iterator_0 co o Qk T I Q kc ks) : W p l e R s m args below meth c H locs cells slots (z_MQ below G (z_co co) A T0 I0 Q0 (z_qr Qk) z_no args s mc ms) (F0 m 0 ls []) := by
  obtain ⟨hx, hb, -⟩ := id X
  unfold wb_J2_iterator_0 at h
  refine lv_aload_n (x := o) hx hb dJ2_iterator_0 rfl (lv_at hl 0 rfl) ?_
  refine z_getq X hB.1 kc_J3 in_J3 (j := 0) (Nat.le_of_ble_eq_true rfl) q1084 (fun _ h => h) rfl (by decide) (z_fo hB ho (by decide)) dJ2_iterator_1 ?_
  obtain ⟨a1, ea1, h⟩ := h
  refine z_stk (st' := [.ref a1]) (by rw [ea1] <;> rfl) ?_
  obtain ⟨hk_a1, h⟩ := h
  obtain ⟨kc3, ks4, g1, g2, h⟩ := h
  refine z_callr (z_runA (rest := []) [] pu_J6_J6_keySet_HashMap q1418 (met_J6_keySet co a1 kc3 ks4 _ h) X hB hB.2.2.2.2.2.2 q1394 kc_J6 (by decide) hk_a1 rfl hl.1 (Nat.le_of_ble_eq_true rfl) dJ2_iterator_4 (z_k1 hK1 g1) (z_k1 hK2 g2) (by decide) (by decide)) hB (fun _ h => h) (fun r2 T5 I6 Q7 H locs h9 hF hB => ?_)
  replace h := h9
  clear h9
  replace h := h hF
  replace hK1 := z_k2 hK1 g1
  replace hK2 := z_k2 hK2 g2
  obtain ⟨a8, rfl, h⟩ := h
  obtain ⟨hk_a8, h⟩ := h
  obtain ⟨kc10, ks11, g1, g2, h⟩ := h
  refine z_call5r (z_runF (rest := []) [] (by simp [z_fw]) q1455 q1457 q135 q1459 (by decide +kernel) (met_J35_iterator co a8 kc10 ks11 _ h) X hB hB.2.2.2.2.2.2 q1420 kc_J35 (by decide) hk_a8 rfl hl.1 (Nat.le_of_ble_eq_true rfl) dJ2_iterator_7 (z_k1 hK1 g1) (z_k1 hK2 g2) (by decide) (by decide)) hB (fun _ h => h) (fun r9 T12 I13 Q14 H locs h9 hF hB => ?_)
  replace h := h9
  clear h9
  replace h := h hF
  replace hK1 := z_k2 hK1 g1
  replace hK2 := z_k2 hK2 g2
  exact z_aret (v := r9) X (by first | exact Or.inl ⟨_, rfl⟩ | exact Or.inr ⟨_, rfl⟩) hB ⟨_, rfl, h⟩ (z_k3 hK1) (z_k3 hK2) dJ2_iterator_12
theorem met_J2_iterator {l : Launch} {G : z_E} {T : z_T} {I : z_I} {Q : z_Q} (co : Nat) (o : Nat) (kc : Nat) (ks : Nat) (Qk : Option Nat → z_T → z_I → z_Q → Prop) (h : wp_J2_iterator co T I Q o kc ks Qk) : z_GM l G yJ2_iterator (ws_ yJ2_iterator cJ2_iterator 1 (some (.object "java/util/Iterator"))) 13 224 kc ks [.ref o] (z_co co) T I Q (z_qr Qk) z_no := by
  obtain ⟨ho, h⟩ := h
  refine z_body (own := RJ2) (nm := "iterator") (by decide +kernel) rfl rfl (Nat.le_of_ble_eq_true rfl) (fun p e R s m below meth c A ls X hB hl => ?_)
  exact ww_J2_iterator_0 X ho hB z_k0 z_k0 hl h
/-! X7_partner -/
theorem ww_X7_partner_31 {T : z_T} {I : z_I} {Q : z_Q} {o : Nat} {Qk : Int32 → Prop} (X : z_X l G A p R s m args meth c cX7_partner 2 RX7 "partner" (some .int) 0 0 8 120) (ho : (T o).1 = 9) {s0 : Int32} {H : Heap} {locs : List Loc} {ls : Array Slot} (hB : z_HB G z_none A s.heap T I Q T I Q H locs) (hl : lv_has ls 2 []) (h : wb_X7_partner_31 T I Q o Qk s0) : W p l e R s m args below meth c H locs 0 0 (z_MQ below G z_none A T I Q (z_pi Qk T I Q) z_no args s 0 0) (F0 m 31 ls [.int s0]) := by
  obtain ⟨hx, hb, -⟩ := id X
  unfold wb_X7_partner_31 at h
  exact z_iret X hB ⟨_, rfl, h, rfl, rfl, rfl⟩ (Nat.le_refl 0) (Nat.le_refl 0) dX7_partner_31
theorem ww_X7_partner_0 {T : z_T} {I : z_I} {Q : z_Q} {o : Nat} {Qk : Int32 → Prop} (X : z_X l G A p R s m args meth c cX7_partner 2 RX7 "partner" (some .int) 0 0 8 120) (ho : (T o).1 = 9) {x1 : Int32} {H : Heap} {locs : List Loc} {ls : Array Slot} (hB : z_HB G z_none A s.heap T I Q T I Q H locs) (hl : lv_has ls 2 [(0, .ref o), (1, .int x1)]) (h : wb_X7_partner_0 T I Q o Qk x1) : W p l e R s m args below meth c H locs 0 0 (z_MQ below G z_none A T I Q (z_pi Qk T I Q) z_no args s 0 0) (F0 m 0 ls []) := by
  obtain ⟨hx, hb, -⟩ := id X
  unfold wb_X7_partner_0 at h
  refine lv_iload_n hx hb dX7_partner_0 rfl (lv_at hl 1 rfl) ?_
  refine lv_aload_n (x := o) hx hb dX7_partner_1 rfl (lv_at hl 0 rfl) ?_
  refine z_geti X hB.1 kc_X7 in_X7 (j := 0) (Nat.le_of_ble_eq_true rfl) q2424 (fun _ h => h) rfl (by decide) ho dX7_partner_2 ?_
  refine lv_icmp_ne (tgt := 15) hx hb dX7_partner_5 (by decide) (fun c1 => ?_) (fun c1 => ?_)
  · replace h := h.1 c1
    refine lv_iload_n hx hb dX7_partner_15 rfl (lv_at hl 1 rfl) ?_
    refine lv_aload_n (x := o) hx hb dX7_partner_16 rfl (lv_at hl 0 rfl) ?_
    refine z_geti X hB.1 kc_X7 in_X7 (j := 1) (Nat.le_of_ble_eq_true rfl) q2425 (fun _ h => h) rfl (by decide) ho dX7_partner_17 ?_
    refine lv_icmp_ne (tgt := 30) hx hb dX7_partner_20 (by decide) (fun c2 => ?_) (fun c2 => ?_)
    · replace h := h.1 c2
      refine lv_iconst (v := (-1)) hx hb dX7_partner_30 (by decide) ?_
      exact ww_X7_partner_31 X ho  hB (lv_sub hl [] rfl) h
    · replace h := h.2 c2
      refine lv_aload_n (x := o) hx hb dX7_partner_23 rfl (lv_at hl 0 rfl) ?_
      refine z_geti X hB.1 kc_X7 in_X7 (j := 0) (Nat.le_of_ble_eq_true rfl) q2424 (fun _ h => h) rfl (by decide) ho dX7_partner_24 ?_
      refine lv_goto (tgt := 31) hx hb dX7_partner_27 (by decide) ?_
      exact ww_X7_partner_31 X ho  hB (lv_sub hl [] rfl) h
  · replace h := h.2 c1
    refine lv_aload_n (x := o) hx hb dX7_partner_8 rfl (lv_at hl 0 rfl) ?_
    refine z_geti X hB.1 kc_X7 in_X7 (j := 1) (Nat.le_of_ble_eq_true rfl) q2425 (fun _ h => h) rfl (by decide) ho dX7_partner_9 ?_
    refine lv_goto (tgt := 31) hx hb dX7_partner_12 (by decide) ?_
    exact ww_X7_partner_31 X ho  hB (lv_sub hl [] rfl) h
theorem pk_X7_partner : z_PV RX7 yX7_partner cX7_partner 2 (some .int) 1 := ⟨q1617, q1618, q150, q1619, by decide +kernel⟩
theorem met_X7_partner {l : Launch} {G : z_E} {T : z_T} {I : z_I} {Q : z_Q} (o : Nat) (x1 : Int32) (Qk : Int32 → Prop) (h : wp_X7_partner T I Q o x1 Qk) : z_GM l G yX7_partner (ws_ yX7_partner cX7_partner 2 (some .int)) 8 120 0 0 [.ref o, .int x1] z_none T I Q (z_pi Qk T I Q) z_no := by
  obtain ⟨ho, h⟩ := h
  refine z_body (own := RX7) (nm := "partner") (by decide +kernel) rfl rfl (Nat.le_of_ble_eq_true rfl) (fun p e R s m below meth c A ls X hB hl => ?_)
  exact ww_X7_partner_0 X ho hB hl h
/-! X9_hasNext -/
theorem ww_X9_hasNext_13 {T : z_T} {I : z_I} {Q : z_Q} {o : Nat} {Qk : Int32 → Prop} (X : z_X l G A p R s m args meth c cX9_hasNext 1 RX9 "hasNext" (some .boolean) 0 0 8 120) (ho : (T o).1 = 10) {s0 : Int32} {H : Heap} {locs : List Loc} {ls : Array Slot} (hB : z_HB G z_none A s.heap T I Q T I Q H locs) (hl : lv_has ls 1 []) (h : wb_X9_hasNext_13 T I Q o Qk s0) : W p l e R s m args below meth c H locs 0 0 (z_MQ below G z_none A T I Q (z_pz Qk T I Q) z_no args s 0 0) (F0 m 13 ls [.int s0]) := by
  obtain ⟨hx, hb, -⟩ := id X
  unfold wb_X9_hasNext_13 at h
  obtain ⟨hz, h⟩ := h
  exact z_zret X hB hz ⟨_, rfl, hz, h, rfl, rfl, rfl⟩ (Nat.le_refl 0) (Nat.le_refl 0) dX9_hasNext_13
theorem ww_X9_hasNext_0 {T : z_T} {I : z_I} {Q : z_Q} {o : Nat} {Qk : Int32 → Prop} (X : z_X l G A p R s m args meth c cX9_hasNext 1 RX9 "hasNext" (some .boolean) 0 0 8 120) (ho : (T o).1 = 10) {H : Heap} {locs : List Loc} {ls : Array Slot} (hB : z_HB G z_none A s.heap T I Q T I Q H locs) (hl : lv_has ls 1 [(0, .ref o)]) (h : wb_X9_hasNext_0 T I Q o Qk ) : W p l e R s m args below meth c H locs 0 0 (z_MQ below G z_none A T I Q (z_pz Qk T I Q) z_no args s 0 0) (F0 m 0 ls []) := by
  obtain ⟨hx, hb, -⟩ := id X
  unfold wb_X9_hasNext_0 at h
  refine lv_aload_n (x := o) hx hb dX9_hasNext_0 rfl (lv_at hl 0 rfl) ?_
  refine z_geti X hB.1 kc_X9 in_X9 (j := 0) (Nat.le_of_ble_eq_true rfl) q2797 (fun _ h => h) rfl (by decide) ho dX9_hasNext_1 ?_
  refine lv_iconst (v := 3) hx hb dX9_hasNext_4 (by decide) ?_
  refine lv_icmp_ge (tgt := 12) hx hb dX9_hasNext_5 (by decide) (fun c1 => ?_) (fun c1 => ?_)
  · replace h := h.1 c1
    refine lv_iconst (v := 0) hx hb dX9_hasNext_12 (by decide) ?_
    exact ww_X9_hasNext_13 X ho  hB (lv_sub hl [] rfl) h
  · replace h := h.2 c1
    refine lv_iconst (v := 1) hx hb dX9_hasNext_8 (by decide) ?_
    refine lv_goto (tgt := 13) hx hb dX9_hasNext_9 (by decide) ?_
    exact ww_X9_hasNext_13 X ho  hB (lv_sub hl [] rfl) h
theorem pk_X9_hasNext : z_PV RX9 yX9_hasNext cX9_hasNext 1 (some .boolean) 0 := ⟨q1496, q3741, q154, q1498, by decide +kernel⟩
theorem met_X9_hasNext {l : Launch} {G : z_E} {T : z_T} {I : z_I} {Q : z_Q} (o : Nat) (Qk : Int32 → Prop) (h : wp_X9_hasNext T I Q o Qk) : z_GM l G yX9_hasNext (ws_ yX9_hasNext cX9_hasNext 1 (some .boolean)) 8 120 0 0 [.ref o] z_none T I Q (z_pz Qk T I Q) z_no := by
  obtain ⟨ho, h⟩ := h
  refine z_body (own := RX9) (nm := "hasNext") (by decide +kernel) rfl rfl (Nat.le_of_ble_eq_true rfl) (fun p e R s m below meth c A ls X hB hl => ?_)
  exact ww_X9_hasNext_0 X ho hB hl h
/-! itHas -/
theorem z_run_itHas {own nm : String} {ret : Option FieldType} {nL fr lo index count : Nat} {cc : ByteArray} {pc : Nat} {ls : Array Slot} {rest : List Value} {H : Heap} {locs : List Loc} {cells slots : Nat} {P : Nat → Prop} {a : Nat} {Qk : Int32 → Prop} (h : wp_itHas T I Q a Qk) (X : z_X l G A p R s m args meth c cc nL own nm ret mc ms fr lo) (hB : z_HB G P A s.heap T0 I0 Q0 T I Q H locs) (hlink : Cond.methodLink own index ⟨"java/util/Iterator", "hasNext", "()Z"⟩ ∈ lw_all) (hsize : ls.size = nL) (hW : (rest.map fun v => v.category).sum ≤ 8) (hdg : decode cc pc = .ok (.invokeinterface index count, 5)) (h1 : cells + 0 ≤ mc) (h2 : slots + 0 ≤ ms) (h3 : 9 ≤ fr) (h4 : 140 ≤ lo) :
    z_Run5 p l e R s m args below meth c H locs cells slots 0 0 (F0 m pc ls (.ref a :: rest)) rest G z_none T I Q (z_pz Qk T I Q) z_no := by
  unfold wp_itHas at h
  rcases h with ⟨hk, h⟩ | ⟨hk, h⟩ | ⟨hk, h⟩ | ⟨hk, h⟩
  · exact z_runF (rest := rest) [] (by simp [z_fw]) q1500 q1502 q147 q1504 (by decide +kernel) (met_J46_hasNext a _ h) X hB (fun h => h) hlink kc_J46 (by decide) hk rfl hsize hW hdg h1 h2 (Nat.le_trans (by decide) h3) (Nat.le_trans (by decide) h4)
  · exact z_runF (rest := rest) [] (by simp [z_fw]) q1506 q1508 q148 q1510 (by decide +kernel) (met_J47_hasNext a _ h) X hB (fun h => h) hlink kc_J47 (by decide) hk rfl hsize hW hdg h1 h2 (Nat.le_trans (by decide) h3) (Nat.le_trans (by decide) h4)
  · exact z_runF (rest := rest) [] (by simp [z_fw]) q1518 q1520 q138 q1522 (by decide +kernel) (met_J38_hasNext a _ h) X hB (fun h => h) hlink kc_J39 (by decide) hk rfl hsize hW hdg h1 h2 (Nat.le_trans (by decide) h3) (Nat.le_trans (by decide) h4)
  · exact z_runF (rest := rest) [] (by simp [z_fw]) q1494 q1496 q154 q1498 (by decide +kernel) (met_X9_hasNext a _ h) X hB (fun h => h) hlink kc_X9 (by decide) hk rfl hsize hW hdg h1 h2 (Nat.le_trans (by decide) h3) (Nat.le_trans (by decide) h4)
/-! X9_next_2 -/
theorem ww_X9_next_2_0 {co : Nat} {o : Nat} {Qk : Option Nat → z_T → z_I → z_Q → Prop} (X : z_X l G A p R s m args meth c cX9_next_2 1 RX9 "next" (some (.object "RobotCell$Cell$Arm")) 0 0 9 140) (ho : (T0 o).1 = 10) (hoc : (T0 o).2.2 = co) {T : z_T} {I : z_I} {Q : z_Q} {H : Heap} {locs : List Loc} {ls : Array Slot} (hB : z_HB G (z_co co) A s.heap T0 I0 Q0 T I Q H locs) (hl : lv_has ls 1 [(0, .ref o)]) (h : wb_X9_next_2_0 co o Qk T I Q) : W p l e R s m args below meth c H locs 0 0 (z_MQ below G (z_co co) A T0 I0 Q0 (z_qr Qk) z_no args s 0 0) (F0 m 0 ls []) := by
  obtain ⟨hx, hb, -⟩ := id X
  unfold wb_X9_next_2_0 at h
  refine lv_aload_n (x := o) hx hb dX9_next_2_0 rfl (lv_at hl 0 rfl) ?_
  refine z_callzp (z_runV (rest := []) [] pk_X9_hasNext (met_X9_hasNext o _ h) X hB (fun h => h) q1536 kc_X9 (by decide) (z_fo hB ho (by decide)) rfl hl.1 (Nat.le_of_ble_eq_true rfl) dX9_next_2_1 (Nat.le_refl 0) (Nat.le_refl 0) (by decide) (by decide)) hB (fun r1 H locs hz h9 hB => ?_)
  replace h := h9
  clear h9
  replace h := h hz
  refine lv_if_ne (tgt := 15) hx hb dX9_next_2_4 (by decide) (fun c2 => ?_) (fun c2 => ?_)
  · replace h := h.1 c2
    refine lv_aload_n (x := o) hx hb dX9_next_2_15 rfl (lv_at hl 0 rfl) ?_
    refine lv_dup hx hb dX9_next_2_16 rfl ?_
    refine z_geti X hB.1 kc_X9 in_X9 (j := 0) (Nat.le_of_ble_eq_true rfl) q2797 (fun _ h => h) rfl (by decide) (z_fo hB ho (by decide)) dX9_next_2_17 ?_
    refine lv_iconst (v := 1) hx hb dX9_next_2_20 (by decide) ?_
    refine lv_iadd hx hb dX9_next_2_21 ?_
    obtain ⟨I3, eI3⟩ : ∃ z, z = z_up I o 0 ((I o 0) + 1) := ⟨_, rfl⟩
    replace h := h I3 eI3
    refine z_puti (x := ((I o 0) + 1)) eI3 tyX9 X hB kc_X9 in_X9 tyX9_ok nmX9 (j := 0) (Nat.le_of_ble_eq_true rfl) q2797 (fun _ h => h) rfl rfl (by decide) (z_fo hB ho (by decide)) (z_foc hB ho (by decide) hoc) rfl (Or.inl rfl) dX9_next_2_22 (fun H locs hB => ?_)
    refine lv_aload_n (x := o) hx hb dX9_next_2_25 rfl (lv_at hl 0 rfl) ?_
    refine z_getq X hB.1 kc_X9 in_X9 (j := 2) (Nat.le_of_ble_eq_true rfl) q2799 (fun _ h => h) rfl (by decide) (z_fo hB ho (by decide)) dX9_next_2_26 ?_
    obtain ⟨a4, ea4, h⟩ := h
    refine z_stk (st' := [.ref a4]) (by rw [ea4] <;> rfl) ?_
    obtain ⟨hk_a4, h⟩ := h
    refine z_getqN X hB.1 kc_X2 in_X2 (j := 2) (Nat.le_of_ble_eq_true rfl) q1242 (fun _ h => h) rfl (by decide) hk_a4 dX9_next_2_29 ?_
    refine lv_aload_n (x := o) hx hb dX9_next_2_32 rfl (lv_at hl 0 rfl) ?_
    refine z_getq X hB.1 kc_X9 in_X9 (j := 1) (Nat.le_of_ble_eq_true rfl) q2798 (fun _ h => h) rfl (by decide) (z_fo hB ho (by decide)) dX9_next_2_33 ?_
    refine lv_aload_n (x := o) hx hb dX9_next_2_36 rfl (lv_at hl 0 rfl) ?_
    refine z_geti X hB.1 kc_X9 in_X9 (j := 0) (Nat.le_of_ble_eq_true rfl) q2797 (fun _ h => h) rfl (by decide) (z_fo hB ho (by decide)) dX9_next_2_37 ?_
    refine lv_iconst (v := 1) hx hb dX9_next_2_40 (by decide) ?_
    refine lv_isub hx hb dX9_next_2_41 ?_
    obtain ⟨a5, ea5, h⟩ := h
    refine z_stk (st' := [.int ((I3 o 0) - 1), .ref a5, va_rf (Q a4 2)]) (by rw [ea5] <;> rfl) ?_
    obtain ⟨hk_a5, h⟩ := h
    obtain ⟨h1, h⟩ := h
    refine z_iald X hB.1 hk_a5 h1 dX9_next_2_42 ?_
    obtain ⟨a6, ea6, h⟩ := h
    refine z_stk (st' := [.int (I3 a5 ((I3 o 0) - 1).toNatClampNeg), .ref a6]) (by rw [ea6] <;> rfl) ?_
    obtain ⟨hk_a6, h⟩ := h
    obtain ⟨h1, h⟩ := h
    refine z_aald (k := 4) X hB.1 (by decide) hk_a6 h1 dX9_next_2_43 ?_
    exact z_aret (v := (Q a6 (I3 a5 ((I3 o 0) - 1).toNatClampNeg).toNatClampNeg)) X (by first | exact Or.inl ⟨_, rfl⟩ | exact Or.inr ⟨_, rfl⟩) hB ⟨_, rfl, h⟩ (Nat.le_refl 0) (Nat.le_refl 0) dX9_next_2_44
  · replace h := h.2 c2
    exact h.elim
theorem pk_X9_next_2 : z_PV RX9 yX9_next_2 cX9_next_2 1 (some (.object "RobotCell$Cell$Arm")) 0 := ⟨q1533, q1534, q154, q1535, by decide +kernel⟩
theorem met_X9_next_2 {l : Launch} {G : z_E} {T : z_T} {I : z_I} {Q : z_Q} (co : Nat) (o : Nat) (Qk : Option Nat → z_T → z_I → z_Q → Prop) (h : wp_X9_next_2 co T I Q o Qk) : z_GM l G yX9_next_2 (ws_ yX9_next_2 cX9_next_2 1 (some (.object "RobotCell$Cell$Arm"))) 9 140 0 0 [.ref o] (z_co co) T I Q (z_qr Qk) z_no := by
  obtain ⟨ho, hoc, h⟩ := h
  refine z_body (own := RX9) (nm := "next") (by decide +kernel) rfl rfl (Nat.le_of_ble_eq_true rfl) (fun p e R s m below meth c A ls X hB hl => ?_)
  exact ww_X9_next_2_0 X ho hoc hB hl h
/-! X9_next -/
theorem ww_X9_next_0 {co : Nat} {o : Nat} {Qk : Option Nat → z_T → z_I → z_Q → Prop} (X : z_X l G A p R s m args meth c cX9_next 1 RX9 "next" (some (.object "java/lang/Object")) 0 0 10 160) (ho : (T0 o).1 = 10) {T : z_T} {I : z_I} {Q : z_Q} {H : Heap} {locs : List Loc} {ls : Array Slot} (hB : z_HB G (z_co co) A s.heap T0 I0 Q0 T I Q H locs) (hl : lv_has ls 1 [(0, .ref o)]) (h : wb_X9_next_0 co o Qk T I Q) : W p l e R s m args below meth c H locs 0 0 (z_MQ below G (z_co co) A T0 I0 Q0 (z_qr Qk) z_no args s 0 0) (F0 m 0 ls []) := by
  obtain ⟨hx, hb, -⟩ := id X
  unfold wb_X9_next_0 at h
  refine lv_aload_n (x := o) hx hb dX9_next_0 rfl (lv_at hl 0 rfl) ?_
  refine z_callr (z_runV (rest := []) [] pk_X9_next_2 (met_X9_next_2 co o _ h) X hB hB.2.2.2.2.2.2 q1532 kc_X9 (by decide) (z_fo hB ho (by decide)) rfl hl.1 (Nat.le_of_ble_eq_true rfl) dX9_next_1 (Nat.le_refl 0) (Nat.le_refl 0) (by decide) (by decide)) hB (fun _ h => h) (fun r1 T2 I3 Q4 H locs h9 hF hB => ?_)
  replace h := h9
  clear h9
  replace h := h hF
  exact z_aret (v := r1) X (by first | exact Or.inl ⟨_, rfl⟩ | exact Or.inr ⟨_, rfl⟩) hB ⟨_, rfl, h⟩ (Nat.le_refl 0) (Nat.le_refl 0) dX9_next_4
theorem met_X9_next {l : Launch} {G : z_E} {T : z_T} {I : z_I} {Q : z_Q} (co : Nat) (o : Nat) (Qk : Option Nat → z_T → z_I → z_Q → Prop) (h : wp_X9_next co T I Q o Qk) : z_GM l G yX9_next (ws_ yX9_next cX9_next 1 (some (.object "java/lang/Object"))) 10 160 0 0 [.ref o] (z_co co) T I Q (z_qr Qk) z_no := by
  obtain ⟨ho, h⟩ := h
  refine z_body (own := RX9) (nm := "next") (by decide +kernel) rfl rfl (Nat.le_of_ble_eq_true rfl) (fun p e R s m below meth c A ls X hB hl => ?_)
  exact ww_X9_next_0 X ho hB hl h
/-! itNext -/
theorem z_run_itNext {own nm : String} {ret : Option FieldType} {nL fr lo index count : Nat} {cc : ByteArray} {pc : Nat} {ls : Array Slot} {rest : List Value} {H : Heap} {locs : List Loc} {cells slots : Nat} {P : Nat → Prop} {a : Nat} {co : Nat} {Qk : Option Nat → z_T → z_I → z_Q → Prop} (h : wp_itNext co T I Q a Qk) (X : z_X l G A p R s m args meth c cc nL own nm ret mc ms fr lo) (hB : z_HB G P A s.heap T0 I0 Q0 T I Q H locs) (hP : ¬ (z_co co) 0) (hlink : Cond.methodLink own index ⟨"java/util/Iterator", "next", "()Ljava/lang/Object;"⟩ ∈ lw_all) (hsize : ls.size = nL) (hW : (rest.map fun v => v.category).sum ≤ 8) (hdg : decode cc pc = .ok (.invokeinterface index count, 5)) (h1 : cells + 0 ≤ mc) (h2 : slots + 0 ≤ ms) (h3 : 11 ≤ fr) (h4 : 180 ≤ lo) :
    z_Run5 p l e R s m args below meth c H locs cells slots 0 0 (F0 m pc ls (.ref a :: rest)) rest G (z_co co) T I Q (z_qr Qk) z_no := by
  unfold wp_itNext at h
  rcases h with ⟨hk, h⟩ | ⟨hk, h⟩ | ⟨hk, h⟩ | ⟨hk, h⟩
  · exact z_runF (rest := rest) [] (by simp [z_fw]) q1558 q1560 q147 q1562 (by decide +kernel) (met_J46_next co a _ h) X hB hP hlink kc_J46 (by decide) hk rfl hsize hW hdg h1 h2 (Nat.le_trans (by decide) h3) (Nat.le_trans (by decide) h4)
  · exact z_runF (rest := rest) [] (by simp [z_fw]) q1571 q1573 q148 q1575 (by decide +kernel) (met_J47_next co a _ h) X hB hP hlink kc_J47 (by decide) hk rfl hsize hW hdg h1 h2 (Nat.le_trans (by decide) h3) (Nat.le_trans (by decide) h4)
  · exact z_runF (rest := rest) [] (by simp [z_fw]) q1595 q1597 q139 q1599 (by decide +kernel) (met_J39_next co a _ h) X hB hP hlink kc_J39 (by decide) hk rfl hsize hW hdg h1 h2 (Nat.le_trans (by decide) h3) (Nat.le_trans (by decide) h4)
  · exact z_runF (rest := rest) [] (by simp [z_fw]) q1527 q1529 q154 q1531 (by decide +kernel) (met_X9_next co a _ h) X hB hP hlink kc_X9 (by decide) hk rfl hsize hW hdg h1 h2 (Nat.le_trans (by decide) h3) (Nat.le_trans (by decide) h4)
/-! X2_conflicts -/
theorem pu_J3_J2_iterator_LinkedHashSet : z_PU "java/util/LinkedHashSet" "java/util/HashSet" ⟨"java/util/LinkedHashSet", "iterator", "()Ljava/util/Iterator;"⟩ yJ2_iterator cJ2_iterator 1 (some (.object "java/util/Iterator")) 0 := ⟨q1389, q1391, q1392, q98, q1393, by decide +kernel⟩
theorem ww_X2_conflicts_55 {co : Nat} {o : Nat} {k12 : z_T → z_I → z_Q → Nat → Nat → Int32 → Int32 → Option Nat → Prop} {Qk : Int32 → z_T → z_I → z_Q → Prop} (X : z_X l G A p R s m args meth c cX2_conflicts 6 RX2 "conflicts" (some .int) mc ms 14 244) (ho : (T0 o).1 = 3) (hk12 : ∀ {cells slots : Nat} {T : z_T} {I : z_I} {Q : z_Q} {kc : Nat} {ks : Nat} {x1 : Int32} {x2 : Int32} {x3 : Option Nat} {H : Heap} {locs : List Loc} {ls : Array Slot}, z_HB G (z_co co) A s.heap T0 I0 Q0 T I Q H locs → cells + kc ≤ mc → slots + ks ≤ ms → lv_has ls 6 [(1, .int x1), (2, .int x2), (3, va_rf x3)] → k12 T I Q kc ks x1 x2 x3 → W p l e R s m args below meth c H locs cells slots (z_MQ below G (z_co co) A T0 I0 Q0 (z_qi Qk) z_no args s mc ms) (F0 m 12 ls [])) {cells slots : Nat} {T : z_T} {I : z_I} {Q : z_Q} {kc : Nat} {ks : Nat} {x1 : Int32} {x3 : Option Nat} {s0 : Int32} {s1 : Int32} {H : Heap} {locs : List Loc} {ls : Array Slot} (hB : z_HB G (z_co co) A s.heap T0 I0 Q0 T I Q H locs) (hK1 : cells + kc ≤ mc) (hK2 : slots + ks ≤ ms) (hl : lv_has ls 6 [(1, .int x1), (3, va_rf x3)]) (h : wb_X2_conflicts_55 co o k12 Qk T I Q kc ks x1 x3 s0 s1) : W p l e R s m args below meth c H locs cells slots (z_MQ below G (z_co co) A T0 I0 Q0 (z_qi Qk) z_no args s mc ms) (F0 m 55 ls [.int s1, .int s0]) := by
  obtain ⟨hx, hb, -⟩ := id X
  unfold wb_X2_conflicts_55 at h
  refine lv_ior hx hb dX2_conflicts_55 ?_
  refine lv_topi (fun y19 ey19 => ?_)
  replace h := h y19 ey19
  refine lv_istore_n (lv' := [(2, .int y19), (1, .int x1), (3, va_rf x3)]) hx hb dX2_conflicts_56 rfl hl (by decide) rfl (fun ls hl9 => ?_)
  replace hl := hl9
  clear hl9
  refine lv_goto (tgt := 12) hx hb dX2_conflicts_57 (by decide) ?_
  exact hk12 hB hK1 hK2 (lv_sub hl [1, 0, 2] rfl) h
theorem wv_X2_conflicts_12 {co : Nat} {o : Nat} {Qk : Int32 → z_T → z_I → z_Q → Prop} (X : z_X l G A p R s m args meth c cX2_conflicts 6 RX2 "conflicts" (some .int) mc ms 14 244) (ho : (T0 o).1 = 3) : ∀ (n : Nat) {cells slots : Nat} {T : z_T} {I : z_I} {Q : z_Q} {kc : Nat} {ks : Nat} {x1 : Int32} {x2 : Int32} {x3 : Option Nat} {H : Heap} {locs : List Loc} {ls : Array Slot}, z_HB G (z_co co) A s.heap T0 I0 Q0 T I Q H locs → cells + kc ≤ mc → slots + ks ≤ ms → lv_has ls 6 [(1, .int x1), (2, .int x2), (3, va_rf x3)] → wl_X2_conflicts_12 co o Qk n T I Q kc ks x1 x2 x3 → W p l e R s m args below meth c H locs cells slots (z_MQ below G (z_co co) A T0 I0 Q0 (z_qi Qk) z_no args s mc ms) (F0 m 12 ls []) := by
  intro n
  induction n with
  | zero =>
    intro cells slots T I Q kc ks x1 x2 x3 H locs ls hB hK1 hK2 hl h
    exact h.elim
  | succ n ih =>
    intro cells slots T I Q kc ks x1 x2 x3 H locs ls hB hK1 hK2 hl h
    obtain ⟨hx, hb, -⟩ := id X
    unfold wl_X2_conflicts_12 at h
    refine z_aload_n (x := x3) hx hb dX2_conflicts_12 rfl (lv_at hl 2 rfl) ?_
    obtain ⟨a9, rfl, h⟩ := h
    refine z_call5zp (z_run_itHas (rest := []) h X hB q1490 hl.1 (Nat.le_of_ble_eq_true rfl) dX2_conflicts_13 (z_k4 hK1) (z_k4 hK2) (by decide) (by decide)) hB (fun r10 H locs hz h9 hB => ?_)
    replace h := h9
    clear h9
    replace h := h hz
    refine lv_if_eq (tgt := 60) hx hb dX2_conflicts_18 (by decide) (fun c11 => ?_) (fun c11 => ?_)
    · replace h := h.1 c11
      refine lv_iload_n hx hb dX2_conflicts_60 rfl (lv_at hl 1 rfl) ?_
      exact z_iret X hB ⟨_, rfl, h⟩ (z_k3 hK1) (z_k3 hK2) dX2_conflicts_61
    · replace h := h.2 c11
      refine lv_aload_n (x := a9) hx hb dX2_conflicts_21 rfl (lv_at hl 2 rfl) ?_
      refine z_call5r (z_run_itNext (rest := []) h X hB hB.2.2.2.2.2.2 q1524 hl.1 (Nat.le_of_ble_eq_true rfl) dX2_conflicts_22 (z_k4 hK1) (z_k4 hK2) (by decide) (by decide)) hB (fun _ h => h) (fun r12 T13 I14 Q15 H locs h9 hF hB => ?_)
      replace h := h9
      clear h9
      replace h := h hF
      obtain ⟨h2, h⟩ := h
      refine z_castR X hB.1 kc_X7 (by decide) h2 q1615 (Or.inl rfl) dX2_conflicts_27 ?_
      refine z_astore (x := r12) (lv' := [(4, va_rf r12), (1, .int x1), (2, .int x2), (3, .ref a9)]) hx hb dX2_conflicts_30 hl (by decide) rfl (fun ls hl9 => ?_)
      replace hl := hl9
      clear hl9
      refine z_aload (x := r12) hx hb dX2_conflicts_32 (lv_at hl 0 rfl) ?_
      refine lv_iload_n hx hb dX2_conflicts_34 rfl (lv_at hl 1 rfl) ?_
      obtain ⟨a16, rfl, h⟩ := h
      obtain ⟨hk_a16, h⟩ := h
      refine z_callip (z_runV (rest := []) [.int x1] pk_X7_partner (met_X7_partner a16 x1 _ h) X hB (fun h => h) q1616 kc_X7 (by decide) hk_a16 rfl hl.1 (Nat.le_of_ble_eq_true rfl) dX2_conflicts_35 (z_k4 hK1) (z_k4 hK2) (by decide) (by decide)) hB (fun r17 H locs h9 hB => ?_)
      replace h := h9
      clear h9
      refine lv_istore (lv' := [(5, .int r17), (4, .ref a16), (1, .int x1), (2, .int x2), (3, .ref a9)]) hx hb dX2_conflicts_38 hl (by decide) rfl (fun ls hl9 => ?_)
      replace hl := hl9
      clear hl9
      refine lv_iload_n hx hb dX2_conflicts_40 rfl (lv_at hl 3 rfl) ?_
      refine lv_iload hx hb dX2_conflicts_41 (lv_at hl 0 rfl) ?_
      refine lv_iconst (v := (-1)) hx hb dX2_conflicts_43 (by decide) ?_
      refine lv_icmp_ne (tgt := 51) hx hb dX2_conflicts_44 (by decide) (fun c18 => ?_) (fun c18 => ?_)
      · replace h := h.1 c18
        refine lv_iconst (v := 1) hx hb dX2_conflicts_51 (by decide) ?_
        refine lv_iload hx hb dX2_conflicts_52 (lv_at hl 0 rfl) ?_
        refine lv_ishl hx hb dX2_conflicts_54 ?_
        exact ww_X2_conflicts_55 X ho (fun hB hK1 hK2 hl h => ih hB hK1 hK2 hl h) hB hK1 hK2 (lv_sub hl [2, 4] rfl) h
      · replace h := h.2 c18
        refine lv_iconst (v := 0) hx hb dX2_conflicts_47 (by decide) ?_
        refine lv_goto (tgt := 55) hx hb dX2_conflicts_48 (by decide) ?_
        exact ww_X2_conflicts_55 X ho (fun hB hK1 hK2 hl h => ih hB hK1 hK2 hl h) hB hK1 hK2 (lv_sub hl [2, 4] rfl) h
theorem ww_X2_conflicts_0 {co : Nat} {o : Nat} {Qk : Int32 → z_T → z_I → z_Q → Prop} (X : z_X l G A p R s m args meth c cX2_conflicts 6 RX2 "conflicts" (some .int) mc ms 14 244) (ho : (T0 o).1 = 3) {cells slots : Nat} {T : z_T} {I : z_I} {Q : z_Q} {kc : Nat} {ks : Nat} {x1 : Int32} {H : Heap} {locs : List Loc} {ls : Array Slot} (hB : z_HB G (z_co co) A s.heap T0 I0 Q0 T I Q H locs) (hK1 : cells + kc ≤ mc) (hK2 : slots + ks ≤ ms) (hl : lv_has ls 6 [(0, .ref o), (1, .int x1)]) (h : wb_X2_conflicts_0 co o Qk T I Q kc ks x1) : W p l e R s m args below meth c H locs cells slots (z_MQ below G (z_co co) A T0 I0 Q0 (z_qi Qk) z_no args s mc ms) (F0 m 0 ls []) := by
  obtain ⟨hx, hb, -⟩ := id X
  unfold wb_X2_conflicts_0 at h
  refine lv_iconst (v := 1) hx hb dX2_conflicts_0 (by decide) ?_
  refine lv_iload_n hx hb dX2_conflicts_1 rfl (lv_at hl 1 rfl) ?_
  refine lv_ishl hx hb dX2_conflicts_2 ?_
  refine lv_topi (fun y1 ey1 => ?_)
  replace h := h y1 ey1
  refine lv_istore_n (lv' := [(2, .int y1), (0, .ref o), (1, .int x1)]) hx hb dX2_conflicts_3 rfl hl (by decide) rfl (fun ls hl9 => ?_)
  replace hl := hl9
  clear hl9
  refine lv_aload_n (x := o) hx hb dX2_conflicts_4 rfl (lv_at hl 1 rfl) ?_
  refine z_getq X hB.1 kc_X2 in_X2 (j := 0) (Nat.le_of_ble_eq_true rfl) q1234 (fun _ h => h) rfl (by decide) (z_fo hB ho (by decide)) dX2_conflicts_5 ?_
  obtain ⟨a2, ea2, h⟩ := h
  refine z_stk (st' := [.ref a2]) (by rw [ea2] <;> rfl) ?_
  obtain ⟨hk_a2, h⟩ := h
  obtain ⟨kc4, ks5, g1, g2, h⟩ := h
  refine z_callr (z_runU (rest := []) [] pu_J3_J2_iterator_LinkedHashSet rfl (met_J2_iterator co a2 kc4 ks5 _ h) X hB hB.2.2.2.2.2.2 q1388 kc_J3 (by decide) hk_a2 rfl hl.1 (Nat.le_of_ble_eq_true rfl) dX2_conflicts_8 (z_k1 hK1 g1) (z_k1 hK2 g2) (by decide) (by decide)) hB (fun _ h => h) (fun r3 T6 I7 Q8 H locs h9 hF hB => ?_)
  replace h := h9
  clear h9
  replace h := h hF
  replace hK1 := z_k2 hK1 g1
  replace hK2 := z_k2 hK2 g2
  refine z_astore_n (x := r3) (lv' := [(3, va_rf r3), (2, .int y1), (0, .ref o), (1, .int x1)]) hx hb dX2_conflicts_11 rfl hl (by decide) rfl (fun ls hl9 => ?_)
  replace hl := hl9
  clear hl9
  obtain ⟨w, h⟩ := h
  exact wv_X2_conflicts_12 X ho  w hB hK1 hK2 (lv_sub hl [3, 1, 0] rfl) h
theorem pk_X2_conflicts : z_PV RX2 yX2_conflicts cX2_conflicts 6 (some .int) 1 := ⟨q1385, q1386, q95, q1387, by decide +kernel⟩
theorem met_X2_conflicts {l : Launch} {G : z_E} {T : z_T} {I : z_I} {Q : z_Q} (co : Nat) (o : Nat) (x1 : Int32) (kc : Nat) (ks : Nat) (Qk : Int32 → z_T → z_I → z_Q → Prop) (h : wp_X2_conflicts co T I Q o x1 kc ks Qk) : z_GM l G yX2_conflicts (ws_ yX2_conflicts cX2_conflicts 6 (some .int)) 14 244 kc ks [.ref o, .int x1] (z_co co) T I Q (z_qi Qk) z_no := by
  obtain ⟨ho, h⟩ := h
  refine z_body (own := RX2) (nm := "conflicts") (by decide +kernel) rfl rfl (Nat.le_of_ble_eq_true rfl) (fun p e R s m below meth c A ls X hB hl => ?_)
  exact ww_X2_conflicts_0 X ho hB z_k0 z_k0 hl h
/-! J21_numberOfTrailingZeros -/
theorem ww_J21_numberOfTrailingZeros_74 {Qk : Int32 → Prop} (X : z_X l G A p R s m args meth c cJ21_numberOfTrailingZeros 2 RJ21 "numberOfTrailingZeros" (some .int) 0 0 8 120) {x0 : Int32} {x1 : Int32} {H : Heap} {locs : List Loc} {ls : Array Slot} (hB : z_HB G z_none A s.heap T I Q T I Q H locs) (hl : lv_has ls 2 [(0, .int x0), (1, .int x1)]) (h : wb_J21_numberOfTrailingZeros_74 Qk x0 x1) : W p l e R s m args below meth c H locs 0 0 (z_MQ below G z_none A T I Q (z_pi Qk T I Q) z_no args s 0 0) (F0 m 74 ls []) := by
  obtain ⟨hx, hb, -⟩ := id X
  unfold wb_J21_numberOfTrailingZeros_74 at h
  refine lv_iload_n hx hb dJ21_numberOfTrailingZeros_74 rfl (lv_at hl 1 rfl) ?_
  refine lv_iload_n hx hb dJ21_numberOfTrailingZeros_75 rfl (lv_at hl 0 rfl) ?_
  refine lv_iconst (v := 1) hx hb dJ21_numberOfTrailingZeros_76 (by decide) ?_
  refine lv_iushr hx hb dJ21_numberOfTrailingZeros_77 rfl ?_
  refine lv_iadd hx hb dJ21_numberOfTrailingZeros_78 ?_
  exact z_iret X hB ⟨_, rfl, h, rfl, rfl, rfl⟩ (Nat.le_refl 0) (Nat.le_refl 0) dJ21_numberOfTrailingZeros_79
theorem ww_J21_numberOfTrailingZeros_62 {Qk : Int32 → Prop} (X : z_X l G A p R s m args meth c cJ21_numberOfTrailingZeros 2 RJ21 "numberOfTrailingZeros" (some .int) 0 0 8 120) {x0 : Int32} {x1 : Int32} {H : Heap} {locs : List Loc} {ls : Array Slot} (hB : z_HB G z_none A s.heap T I Q T I Q H locs) (hl : lv_has ls 2 [(0, .int x0), (1, .int x1)]) (h : wb_J21_numberOfTrailingZeros_62 Qk x0 x1) : W p l e R s m args below meth c H locs 0 0 (z_MQ below G z_none A T I Q (z_pi Qk T I Q) z_no args s 0 0) (F0 m 62 ls []) := by
  obtain ⟨hx, hb, -⟩ := id X
  unfold wb_J21_numberOfTrailingZeros_62 at h
  refine lv_iload_n hx hb dJ21_numberOfTrailingZeros_62 rfl (lv_at hl 0 rfl) ?_
  refine lv_iconst (v := 4) hx hb dJ21_numberOfTrailingZeros_63 (by decide) ?_
  refine lv_icmp_le (tgt := 74) hx hb dJ21_numberOfTrailingZeros_64 (by decide) (fun c12 => ?_) (fun c12 => ?_)
  · replace h := h.1 c12
    exact ww_J21_numberOfTrailingZeros_74 X  hB (lv_sub hl [0, 1] rfl) h
  · replace h := h.2 c12
    obtain ⟨y13, ey13⟩ : ∃ z : Int32, z = x1 + 2 := ⟨_, rfl⟩
    replace h := h y13 ey13
    refine lv_iinc (v := y13) (lv' := [(1, .int y13), (0, .int x0)]) hx hb dJ21_numberOfTrailingZeros_67 hl (k := 1) rfl (by rw [ey13]; rfl) (by decide) rfl (fun ls hl9 => ?_)
    replace hl := hl9
    clear hl9
    refine lv_iload_n hx hb dJ21_numberOfTrailingZeros_70 rfl (lv_at hl 1 rfl) ?_
    refine lv_iconst (v := 2) hx hb dJ21_numberOfTrailingZeros_71 (by decide) ?_
    refine lv_iushr hx hb dJ21_numberOfTrailingZeros_72 rfl ?_
    refine lv_topi (fun y14 ey14 => ?_)
    replace h := h y14 ey14
    refine lv_istore_n (lv' := [(0, .int y14), (1, .int y13)]) hx hb dJ21_numberOfTrailingZeros_73 rfl hl (by decide) rfl (fun ls hl9 => ?_)
    replace hl := hl9
    clear hl9
    exact ww_J21_numberOfTrailingZeros_74 X  hB (lv_sub hl [0, 1] rfl) h
theorem ww_J21_numberOfTrailingZeros_49 {Qk : Int32 → Prop} (X : z_X l G A p R s m args meth c cJ21_numberOfTrailingZeros 2 RJ21 "numberOfTrailingZeros" (some .int) 0 0 8 120) {x0 : Int32} {x1 : Int32} {H : Heap} {locs : List Loc} {ls : Array Slot} (hB : z_HB G z_none A s.heap T I Q T I Q H locs) (hl : lv_has ls 2 [(0, .int x0), (1, .int x1)]) (h : wb_J21_numberOfTrailingZeros_49 Qk x0 x1) : W p l e R s m args below meth c H locs 0 0 (z_MQ below G z_none A T I Q (z_pi Qk T I Q) z_no args s 0 0) (F0 m 49 ls []) := by
  obtain ⟨hx, hb, -⟩ := id X
  unfold wb_J21_numberOfTrailingZeros_49 at h
  refine lv_iload_n hx hb dJ21_numberOfTrailingZeros_49 rfl (lv_at hl 0 rfl) ?_
  refine lv_bipush (v := 16) hx hb dJ21_numberOfTrailingZeros_50 (by decide) ?_
  refine lv_icmp_le (tgt := 62) hx hb dJ21_numberOfTrailingZeros_52 (by decide) (fun c9 => ?_) (fun c9 => ?_)
  · replace h := h.1 c9
    exact ww_J21_numberOfTrailingZeros_62 X  hB (lv_sub hl [0, 1] rfl) h
  · replace h := h.2 c9
    obtain ⟨y10, ey10⟩ : ∃ z : Int32, z = x1 + 4 := ⟨_, rfl⟩
    replace h := h y10 ey10
    refine lv_iinc (v := y10) (lv' := [(1, .int y10), (0, .int x0)]) hx hb dJ21_numberOfTrailingZeros_55 hl (k := 1) rfl (by rw [ey10]; rfl) (by decide) rfl (fun ls hl9 => ?_)
    replace hl := hl9
    clear hl9
    refine lv_iload_n hx hb dJ21_numberOfTrailingZeros_58 rfl (lv_at hl 1 rfl) ?_
    refine lv_iconst (v := 4) hx hb dJ21_numberOfTrailingZeros_59 (by decide) ?_
    refine lv_iushr hx hb dJ21_numberOfTrailingZeros_60 rfl ?_
    refine lv_topi (fun y11 ey11 => ?_)
    replace h := h y11 ey11
    refine lv_istore_n (lv' := [(0, .int y11), (1, .int y10)]) hx hb dJ21_numberOfTrailingZeros_61 rfl hl (by decide) rfl (fun ls hl9 => ?_)
    replace hl := hl9
    clear hl9
    exact ww_J21_numberOfTrailingZeros_62 X  hB (lv_sub hl [0, 1] rfl) h
theorem ww_J21_numberOfTrailingZeros_34 {Qk : Int32 → Prop} (X : z_X l G A p R s m args meth c cJ21_numberOfTrailingZeros 2 RJ21 "numberOfTrailingZeros" (some .int) 0 0 8 120) {x0 : Int32} {x1 : Int32} {H : Heap} {locs : List Loc} {ls : Array Slot} (hB : z_HB G z_none A s.heap T I Q T I Q H locs) (hl : lv_has ls 2 [(0, .int x0), (1, .int x1)]) (h : wb_J21_numberOfTrailingZeros_34 Qk x0 x1) : W p l e R s m args below meth c H locs 0 0 (z_MQ below G z_none A T I Q (z_pi Qk T I Q) z_no args s 0 0) (F0 m 34 ls []) := by
  obtain ⟨hx, hb, -⟩ := id X
  unfold wb_J21_numberOfTrailingZeros_34 at h
  refine lv_iload_n hx hb dJ21_numberOfTrailingZeros_34 rfl (lv_at hl 0 rfl) ?_
  refine lv_sipush (v := 256) hx hb dJ21_numberOfTrailingZeros_35 (by decide) ?_
  refine lv_icmp_le (tgt := 49) hx hb dJ21_numberOfTrailingZeros_38 (by decide) (fun c6 => ?_) (fun c6 => ?_)
  · replace h := h.1 c6
    exact ww_J21_numberOfTrailingZeros_49 X  hB (lv_sub hl [0, 1] rfl) h
  · replace h := h.2 c6
    obtain ⟨y7, ey7⟩ : ∃ z : Int32, z = x1 + 8 := ⟨_, rfl⟩
    replace h := h y7 ey7
    refine lv_iinc (v := y7) (lv' := [(1, .int y7), (0, .int x0)]) hx hb dJ21_numberOfTrailingZeros_41 hl (k := 1) rfl (by rw [ey7]; rfl) (by decide) rfl (fun ls hl9 => ?_)
    replace hl := hl9
    clear hl9
    refine lv_iload_n hx hb dJ21_numberOfTrailingZeros_44 rfl (lv_at hl 1 rfl) ?_
    refine lv_bipush (v := 8) hx hb dJ21_numberOfTrailingZeros_45 (by decide) ?_
    refine lv_iushr hx hb dJ21_numberOfTrailingZeros_47 rfl ?_
    refine lv_topi (fun y8 ey8 => ?_)
    replace h := h y8 ey8
    refine lv_istore_n (lv' := [(0, .int y8), (1, .int y7)]) hx hb dJ21_numberOfTrailingZeros_48 rfl hl (by decide) rfl (fun ls hl9 => ?_)
    replace hl := hl9
    clear hl9
    exact ww_J21_numberOfTrailingZeros_49 X  hB (lv_sub hl [0, 1] rfl) h
theorem ww_J21_numberOfTrailingZeros_0 {Qk : Int32 → Prop} (X : z_X l G A p R s m args meth c cJ21_numberOfTrailingZeros 2 RJ21 "numberOfTrailingZeros" (some .int) 0 0 8 120) {x0 : Int32} {H : Heap} {locs : List Loc} {ls : Array Slot} (hB : z_HB G z_none A s.heap T I Q T I Q H locs) (hl : lv_has ls 2 [(0, .int x0)]) (h : wb_J21_numberOfTrailingZeros_0 Qk x0) : W p l e R s m args below meth c H locs 0 0 (z_MQ below G z_none A T I Q (z_pi Qk T I Q) z_no args s 0 0) (F0 m 0 ls []) := by
  obtain ⟨hx, hb, -⟩ := id X
  unfold wb_J21_numberOfTrailingZeros_0 at h
  refine lv_iload_n hx hb dJ21_numberOfTrailingZeros_0 rfl (lv_at hl 0 rfl) ?_
  refine lv_iconst (v := (-1)) hx hb dJ21_numberOfTrailingZeros_1 (by decide) ?_
  refine lv_ixor hx hb dJ21_numberOfTrailingZeros_2 ?_
  refine lv_iload_n hx hb dJ21_numberOfTrailingZeros_3 rfl (lv_at hl 0 rfl) ?_
  refine lv_iconst (v := 1) hx hb dJ21_numberOfTrailingZeros_4 (by decide) ?_
  refine lv_isub hx hb dJ21_numberOfTrailingZeros_5 ?_
  refine lv_iand hx hb dJ21_numberOfTrailingZeros_6 ?_
  refine lv_topi (fun y1 ey1 => ?_)
  replace h := h y1 ey1
  refine lv_istore_n (lv' := [(0, .int y1)]) hx hb dJ21_numberOfTrailingZeros_7 rfl hl (by decide) rfl (fun ls hl9 => ?_)
  replace hl := hl9
  clear hl9
  refine lv_iload_n hx hb dJ21_numberOfTrailingZeros_8 rfl (lv_at hl 0 rfl) ?_
  refine lv_if_gt (tgt := 17) hx hb dJ21_numberOfTrailingZeros_9 (by decide) (fun c2 => ?_) (fun c2 => ?_)
  · replace h := h.1 c2
    refine lv_iconst (v := 1) hx hb dJ21_numberOfTrailingZeros_17 (by decide) ?_
    refine lv_istore_n (lv' := [(1, .int 1), (0, .int y1)]) hx hb dJ21_numberOfTrailingZeros_18 rfl hl (by decide) rfl (fun ls hl9 => ?_)
    replace hl := hl9
    clear hl9
    refine lv_iload_n hx hb dJ21_numberOfTrailingZeros_19 rfl (lv_at hl 1 rfl) ?_
    refine lv_ldcw hx hb X.2.2.2.1 (X.2.2.2.2.1 _ q579) dJ21_numberOfTrailingZeros_20 ?_
    refine lv_icmp_le (tgt := 34) hx hb dJ21_numberOfTrailingZeros_23 (by decide) (fun c3 => ?_) (fun c3 => ?_)
    · replace h := h.1 c3
      exact ww_J21_numberOfTrailingZeros_34 X  hB (lv_sub hl [1, 0] rfl) h
    · replace h := h.2 c3
      obtain ⟨y4, ey4⟩ : ∃ z : Int32, z = 1 + 16 := ⟨_, rfl⟩
      replace h := h y4 ey4
      refine lv_iinc (v := y4) (lv' := [(1, .int y4), (0, .int y1)]) hx hb dJ21_numberOfTrailingZeros_26 hl (k := 0) rfl (by rw [ey4]; rfl) (by decide) rfl (fun ls hl9 => ?_)
      replace hl := hl9
      clear hl9
      refine lv_iload_n hx hb dJ21_numberOfTrailingZeros_29 rfl (lv_at hl 1 rfl) ?_
      refine lv_bipush (v := 16) hx hb dJ21_numberOfTrailingZeros_30 (by decide) ?_
      refine lv_iushr hx hb dJ21_numberOfTrailingZeros_32 rfl ?_
      refine lv_topi (fun y5 ey5 => ?_)
      replace h := h y5 ey5
      refine lv_istore_n (lv' := [(0, .int y5), (1, .int y4)]) hx hb dJ21_numberOfTrailingZeros_33 rfl hl (by decide) rfl (fun ls hl9 => ?_)
      replace hl := hl9
      clear hl9
      exact ww_J21_numberOfTrailingZeros_34 X  hB (lv_sub hl [0, 1] rfl) h
  · replace h := h.2 c2
    refine lv_iload_n hx hb dJ21_numberOfTrailingZeros_12 rfl (lv_at hl 0 rfl) ?_
    refine lv_bipush (v := 32) hx hb dJ21_numberOfTrailingZeros_13 (by decide) ?_
    refine lv_iand hx hb dJ21_numberOfTrailingZeros_15 ?_
    exact z_iret X hB ⟨_, rfl, h, rfl, rfl, rfl⟩ (Nat.le_refl 0) (Nat.le_refl 0) dJ21_numberOfTrailingZeros_16
theorem pk_J21_numberOfTrailingZeros : z_PS yJ21_numberOfTrailingZeros cJ21_numberOfTrailingZeros 2 (some .int) 1 := ⟨q1621, q118, q1622, by decide +kernel⟩
theorem met_J21_numberOfTrailingZeros {l : Launch} {G : z_E} {T : z_T} {I : z_I} {Q : z_Q} (x0 : Int32) (Qk : Int32 → Prop) (h : wp_J21_numberOfTrailingZeros x0 Qk) : z_GM l G yJ21_numberOfTrailingZeros (ws_ yJ21_numberOfTrailingZeros cJ21_numberOfTrailingZeros 2 (some .int)) 8 120 0 0 [.int x0] z_none T I Q (z_pi Qk T I Q) z_no := by
  refine z_body (own := RJ21) (nm := "numberOfTrailingZeros") (by decide +kernel) rfl rfl (Nat.le_of_ble_eq_true rfl) (fun p e R s m below meth c A ls X hB hl => ?_)
  exact ww_J21_numberOfTrailingZeros_0 X hB hl h
/-! X10_canFinish -/
theorem ww_X10_canFinish_36 {co : Nat} {o : Nat} {k4 : z_T → z_I → z_Q → Nat → Nat → Int32 → Int32 → Int32 → Prop} {Qk : Int32 → z_T → z_I → z_Q → Prop} (X : z_X l G A p R s m args meth c cX10_canFinish 5 RX10 "canFinish" (some .boolean) mc ms 15 269) (ho : (T0 o).1 = 11) (hk4 : ∀ {cells slots : Nat} {T : z_T} {I : z_I} {Q : z_Q} {kc : Nat} {ks : Nat} {x1 : Int32} {x2 : Int32} {x3 : Int32} {H : Heap} {locs : List Loc} {ls : Array Slot}, z_HB G (z_co co) A s.heap T0 I0 Q0 T I Q H locs → cells + kc ≤ mc → slots + ks ≤ ms → lv_has ls 5 [(0, .ref o), (1, .int x1), (2, .int x2), (3, .int x3)] → k4 T I Q kc ks x1 x2 x3 → W p l e R s m args below meth c H locs cells slots (z_MQ below G (z_co co) A T0 I0 Q0 (z_qz Qk) z_no args s mc ms) (F0 m 4 ls [])) {cells slots : Nat} {T : z_T} {I : z_I} {Q : z_Q} {kc : Nat} {ks : Nat} {x1 : Int32} {x3 : Int32} {s0 : Int32} {s1 : Int32} {H : Heap} {locs : List Loc} {ls : Array Slot} (hB : z_HB G (z_co co) A s.heap T0 I0 Q0 T I Q H locs) (hK1 : cells + kc ≤ mc) (hK2 : slots + ks ≤ ms) (hl : lv_has ls 5 [(0, .ref o), (1, .int x1), (3, .int x3)]) (h : wb_X10_canFinish_36 co o k4 Qk T I Q kc ks x1 x3 s0 s1) : W p l e R s m args below meth c H locs cells slots (z_MQ below G (z_co co) A T0 I0 Q0 (z_qz Qk) z_no args s mc ms) (F0 m 36 ls [.int s1, .int s0]) := by
  obtain ⟨hx, hb, -⟩ := id X
  unfold wb_X10_canFinish_36 at h
  refine lv_ior hx hb dX10_canFinish_36 ?_
  refine lv_topi (fun y6 ey6 => ?_)
  replace h := h y6 ey6
  refine lv_istore_n (lv' := [(2, .int y6), (0, .ref o), (1, .int x1), (3, .int x3)]) hx hb dX10_canFinish_37 rfl hl (by decide) rfl (fun ls hl9 => ?_)
  replace hl := hl9
  clear hl9
  obtain ⟨y7, ey7⟩ : ∃ z : Int32, z = x3 + 1 := ⟨_, rfl⟩
  replace h := h y7 ey7
  refine lv_iinc (v := y7) (lv' := [(3, .int y7), (2, .int y6), (0, .ref o), (1, .int x1)]) hx hb dX10_canFinish_38 hl (k := 3) rfl (by rw [ey7]; rfl) (by decide) rfl (fun ls hl9 => ?_)
  replace hl := hl9
  clear hl9
  refine lv_goto (tgt := 4) hx hb dX10_canFinish_41 (by decide) ?_
  exact hk4 hB hK1 hK2 (lv_sub hl [2, 3, 1, 0] rfl) h
theorem ww_X10_canFinish_35 {co : Nat} {o : Nat} {k4 : z_T → z_I → z_Q → Nat → Nat → Int32 → Int32 → Int32 → Prop} {Qk : Int32 → z_T → z_I → z_Q → Prop} (X : z_X l G A p R s m args meth c cX10_canFinish 5 RX10 "canFinish" (some .boolean) mc ms 15 269) (ho : (T0 o).1 = 11) (hk4 : ∀ {cells slots : Nat} {T : z_T} {I : z_I} {Q : z_Q} {kc : Nat} {ks : Nat} {x1 : Int32} {x2 : Int32} {x3 : Int32} {H : Heap} {locs : List Loc} {ls : Array Slot}, z_HB G (z_co co) A s.heap T0 I0 Q0 T I Q H locs → cells + kc ≤ mc → slots + ks ≤ ms → lv_has ls 5 [(0, .ref o), (1, .int x1), (2, .int x2), (3, .int x3)] → k4 T I Q kc ks x1 x2 x3 → W p l e R s m args below meth c H locs cells slots (z_MQ below G (z_co co) A T0 I0 Q0 (z_qz Qk) z_no args s mc ms) (F0 m 4 ls [])) {cells slots : Nat} {T : z_T} {I : z_I} {Q : z_Q} {kc : Nat} {ks : Nat} {x1 : Int32} {x3 : Int32} {s0 : Int32} {H : Heap} {locs : List Loc} {ls : Array Slot} (hB : z_HB G (z_co co) A s.heap T0 I0 Q0 T I Q H locs) (hK1 : cells + kc ≤ mc) (hK2 : slots + ks ≤ ms) (hl : lv_has ls 5 [(0, .ref o), (1, .int x1), (3, .int x3)]) (h : wb_X10_canFinish_35 co o k4 Qk T I Q kc ks x1 x3 s0) : W p l e R s m args below meth c H locs cells slots (z_MQ below G (z_co co) A T0 I0 Q0 (z_qz Qk) z_no args s mc ms) (F0 m 35 ls [.int s0]) := by
  obtain ⟨hx, hb, -⟩ := id X
  unfold wb_X10_canFinish_35 at h
  refine lv_iconst (v := 0) hx hb dX10_canFinish_35 (by decide) ?_
  exact ww_X10_canFinish_36 X ho hk4 hB hK1 hK2 (lv_sub hl [0, 1, 2] rfl) h
theorem ww_X10_canFinish_90 {co : Nat} {o : Nat} {k49 : z_T → z_I → z_Q → Nat → Nat → Int32 → Int32 → Int32 → Int32 → Prop} {Qk : Int32 → z_T → z_I → z_Q → Prop} (X : z_X l G A p R s m args meth c cX10_canFinish 5 RX10 "canFinish" (some .boolean) mc ms 15 269) (ho : (T0 o).1 = 11) (hk49 : ∀ {cells slots : Nat} {T : z_T} {I : z_I} {Q : z_Q} {kc : Nat} {ks : Nat} {x1 : Int32} {x2 : Int32} {x3 : Int32} {x4 : Int32} {H : Heap} {locs : List Loc} {ls : Array Slot}, z_HB G (z_co co) A s.heap T0 I0 Q0 T I Q H locs → cells + kc ≤ mc → slots + ks ≤ ms → lv_has ls 5 [(0, .ref o), (1, .int x1), (2, .int x2), (3, .int x3), (4, .int x4)] → k49 T I Q kc ks x1 x2 x3 x4 → W p l e R s m args below meth c H locs cells slots (z_MQ below G (z_co co) A T0 I0 Q0 (z_qz Qk) z_no args s mc ms) (F0 m 49 ls [])) {cells slots : Nat} {T : z_T} {I : z_I} {Q : z_Q} {kc : Nat} {ks : Nat} {x1 : Int32} {x2 : Int32} {x4 : Int32} {s0 : Int32} {s1 : Int32} {H : Heap} {locs : List Loc} {ls : Array Slot} (hB : z_HB G (z_co co) A s.heap T0 I0 Q0 T I Q H locs) (hK1 : cells + kc ≤ mc) (hK2 : slots + ks ≤ ms) (hl : lv_has ls 5 [(0, .ref o), (1, .int x1), (2, .int x2), (4, .int x4)]) (h : wb_X10_canFinish_90 co o k49 Qk T I Q kc ks x1 x2 x4 s0 s1) : W p l e R s m args below meth c H locs cells slots (z_MQ below G (z_co co) A T0 I0 Q0 (z_qz Qk) z_no args s mc ms) (F0 m 90 ls [.int s1, .int s0]) := by
  obtain ⟨hx, hb, -⟩ := id X
  unfold wb_X10_canFinish_90 at h
  refine lv_iand hx hb dX10_canFinish_90 ?_
  refine lv_topi (fun y20 ey20 => ?_)
  replace h := h y20 ey20
  refine lv_istore_n (lv' := [(3, .int y20), (0, .ref o), (1, .int x1), (2, .int x2), (4, .int x4)]) hx hb dX10_canFinish_91 rfl hl (by decide) rfl (fun ls hl9 => ?_)
  replace hl := hl9
  clear hl9
  obtain ⟨y21, ey21⟩ : ∃ z : Int32, z = x4 + 1 := ⟨_, rfl⟩
  replace h := h y21 ey21
  refine lv_iinc (v := y21) (lv' := [(4, .int y21), (3, .int y20), (0, .ref o), (1, .int x1), (2, .int x2)]) hx hb dX10_canFinish_92 hl (k := 4) rfl (by rw [ey21]; rfl) (by decide) rfl (fun ls hl9 => ?_)
  replace hl := hl9
  clear hl9
  refine lv_goto (tgt := 49) hx hb dX10_canFinish_95 (by decide) ?_
  exact hk49 hB hK1 hK2 (lv_sub hl [2, 3, 4, 1, 0] rfl) h
theorem ww_X10_canFinish_85 {co : Nat} {o : Nat} {k49 : z_T → z_I → z_Q → Nat → Nat → Int32 → Int32 → Int32 → Int32 → Prop} {Qk : Int32 → z_T → z_I → z_Q → Prop} (X : z_X l G A p R s m args meth c cX10_canFinish 5 RX10 "canFinish" (some .boolean) mc ms 15 269) (ho : (T0 o).1 = 11) (hk49 : ∀ {cells slots : Nat} {T : z_T} {I : z_I} {Q : z_Q} {kc : Nat} {ks : Nat} {x1 : Int32} {x2 : Int32} {x3 : Int32} {x4 : Int32} {H : Heap} {locs : List Loc} {ls : Array Slot}, z_HB G (z_co co) A s.heap T0 I0 Q0 T I Q H locs → cells + kc ≤ mc → slots + ks ≤ ms → lv_has ls 5 [(0, .ref o), (1, .int x1), (2, .int x2), (3, .int x3), (4, .int x4)] → k49 T I Q kc ks x1 x2 x3 x4 → W p l e R s m args below meth c H locs cells slots (z_MQ below G (z_co co) A T0 I0 Q0 (z_qz Qk) z_no args s mc ms) (F0 m 49 ls [])) {cells slots : Nat} {T : z_T} {I : z_I} {Q : z_Q} {kc : Nat} {ks : Nat} {x1 : Int32} {x2 : Int32} {x4 : Int32} {s0 : Int32} {H : Heap} {locs : List Loc} {ls : Array Slot} (hB : z_HB G (z_co co) A s.heap T0 I0 Q0 T I Q H locs) (hK1 : cells + kc ≤ mc) (hK2 : slots + ks ≤ ms) (hl : lv_has ls 5 [(0, .ref o), (1, .int x1), (2, .int x2), (4, .int x4)]) (h : wb_X10_canFinish_85 co o k49 Qk T I Q kc ks x1 x2 x4 s0) : W p l e R s m args below meth c H locs cells slots (z_MQ below G (z_co co) A T0 I0 Q0 (z_qz Qk) z_no args s mc ms) (F0 m 85 ls [.int s0]) := by
  obtain ⟨hx, hb, -⟩ := id X
  unfold wb_X10_canFinish_85 at h
  refine lv_iconst (v := 1) hx hb dX10_canFinish_85 (by decide) ?_
  refine lv_goto (tgt := 90) hx hb dX10_canFinish_86 (by decide) ?_
  exact ww_X10_canFinish_90 X ho hk49 hB hK1 hK2 (lv_sub hl [0, 1, 2, 3] rfl) h
theorem wv_X10_canFinish_49 {co : Nat} {o : Nat} {Qk : Int32 → z_T → z_I → z_Q → Prop} (X : z_X l G A p R s m args meth c cX10_canFinish 5 RX10 "canFinish" (some .boolean) mc ms 15 269) (ho : (T0 o).1 = 11) : ∀ (n : Nat) {cells slots : Nat} {T : z_T} {I : z_I} {Q : z_Q} {kc : Nat} {ks : Nat} {x1 : Int32} {x2 : Int32} {x3 : Int32} {x4 : Int32} {H : Heap} {locs : List Loc} {ls : Array Slot}, z_HB G (z_co co) A s.heap T0 I0 Q0 T I Q H locs → cells + kc ≤ mc → slots + ks ≤ ms → lv_has ls 5 [(0, .ref o), (1, .int x1), (2, .int x2), (3, .int x3), (4, .int x4)] → wl_X10_canFinish_49 co o Qk n T I Q kc ks x1 x2 x3 x4 → W p l e R s m args below meth c H locs cells slots (z_MQ below G (z_co co) A T0 I0 Q0 (z_qz Qk) z_no args s mc ms) (F0 m 49 ls []) := by
  intro n
  induction n with
  | zero =>
    intro cells slots T I Q kc ks x1 x2 x3 x4 H locs ls hB hK1 hK2 hl h
    exact h.elim
  | succ n ih =>
    intro cells slots T I Q kc ks x1 x2 x3 x4 H locs ls hB hK1 hK2 hl h
    obtain ⟨hx, hb, -⟩ := id X
    unfold wl_X10_canFinish_49 at h
    refine lv_iload hx hb dX10_canFinish_49 (lv_at hl 4 rfl) ?_
    refine lv_bipush (v := 8) hx hb dX10_canFinish_51 (by decide) ?_
    refine lv_icmp_ge (tgt := 98) hx hb dX10_canFinish_53 (by decide) (fun c8 => ?_) (fun c8 => ?_)
    · replace h := h.1 c8
      refine lv_iload_n hx hb dX10_canFinish_98 rfl (lv_at hl 3 rfl) ?_
      obtain ⟨hz, h⟩ := h
      exact z_zret X hB hz ⟨_, rfl, hz, h⟩ (z_k3 hK1) (z_k3 hK2) dX10_canFinish_99
    · replace h := h.2 c8
      refine lv_iload_n hx hb dX10_canFinish_56 rfl (lv_at hl 3 rfl) ?_
      refine lv_aload_n (x := o) hx hb dX10_canFinish_57 rfl (lv_at hl 0 rfl) ?_
      refine z_getq X hB.1 kc_X10 in_X10 (j := 2) (Nat.le_of_ble_eq_true rfl) q1350 (fun _ h => h) rfl (by decide) (z_fo hB ho (by decide)) dX10_canFinish_58 ?_
      refine lv_iload_n hx hb dX10_canFinish_61 rfl (lv_at hl 1 rfl) ?_
      obtain ⟨a9, ea9, h⟩ := h
      refine z_stk (st' := [.int x1, .ref a9, .int x3]) (by rw [ea9] <;> rfl) ?_
      obtain ⟨hk_a9, h⟩ := h
      obtain ⟨h1, h⟩ := h
      refine z_iald X hB.1 hk_a9 h1 dX10_canFinish_62 ?_
      refine lv_iload hx hb dX10_canFinish_63 (lv_at hl 4 rfl) ?_
      refine z_callzp (z_runSN (rest := [.int x3]) [.int (I a9 x1.toNatClampNeg), .int x4] pk_X1_contains (met_X1_contains (I a9 x1.toNatClampNeg) x4 _ h) X hB (fun h => h) q1377 rfl hl.1 (Nat.le_of_ble_eq_true rfl) dX10_canFinish_65 (z_k4 hK1) (z_k4 hK2) (by decide) (by decide)) hB (fun r10 H locs hz h9 hB => ?_)
      replace h := h9
      clear h9
      replace h := h hz
      refine lv_if_eq (tgt := 85) hx hb dX10_canFinish_68 (by decide) (fun c11 => ?_) (fun c11 => ?_)
      · replace h := h.1 c11
        exact ww_X10_canFinish_85 X ho (fun hB hK1 hK2 hl h => ih hB hK1 hK2 hl h) hB hK1 hK2 (lv_sub hl [0, 1, 2, 4] rfl) h
      · replace h := h.2 c11
        refine lv_aload_n (x := o) hx hb dX10_canFinish_71 rfl (lv_at hl 0 rfl) ?_
        refine z_getq X hB.1 kc_X10 in_X10 (j := 7) (Nat.le_of_ble_eq_true rfl) q1355 (fun _ h => h) rfl (by decide) (z_fo hB ho (by decide)) dX10_canFinish_72 ?_
        refine lv_iload hx hb dX10_canFinish_75 (lv_at hl 4 rfl) ?_
        obtain ⟨a12, ea12, h⟩ := h
        refine z_stk (st' := [.int x4, .ref a12, .int x3]) (by rw [ea12] <;> rfl) ?_
        obtain ⟨hk_a12, h⟩ := h
        obtain ⟨kc14, ks15, g1, g2, h⟩ := h
        refine z_calli (z_runV (rest := [.int x3]) [.int x4] pk_X2_conflicts (met_X2_conflicts co a12 x4 kc14 ks15 _ h) X hB hB.2.2.2.2.2.2 q1384 kc_X2 (by decide) hk_a12 rfl hl.1 (Nat.le_of_ble_eq_true rfl) dX10_canFinish_77 (z_k1 hK1 g1) (z_k1 hK2 g2) (by decide) (by decide)) hB (fun _ h => h) (fun r13 T16 I17 Q18 H locs h9 hF hB => ?_)
        replace h := h9
        clear h9
        replace h := h hF
        replace hK1 := z_k2 hK1 g1
        replace hK2 := z_k2 hK2 g2
        refine lv_iload_n hx hb dX10_canFinish_80 rfl (lv_at hl 2 rfl) ?_
        refine lv_iand hx hb dX10_canFinish_81 ?_
        refine lv_if_ne (tgt := 89) hx hb dX10_canFinish_82 (by decide) (fun c19 => ?_) (fun c19 => ?_)
        · replace h := h.1 c19
          refine lv_iconst (v := 0) hx hb dX10_canFinish_89 (by decide) ?_
          exact ww_X10_canFinish_90 X ho (fun hB hK1 hK2 hl h => ih hB hK1 hK2 hl h) hB hK1 hK2 (lv_sub hl [0, 1, 2, 4] rfl) h
        · replace h := h.2 c19
          exact ww_X10_canFinish_85 X ho (fun hB hK1 hK2 hl h => ih hB hK1 hK2 hl h) hB hK1 hK2 (lv_sub hl [0, 1, 2, 4] rfl) h
theorem wv_X10_canFinish_4 {co : Nat} {o : Nat} {Qk : Int32 → z_T → z_I → z_Q → Prop} (X : z_X l G A p R s m args meth c cX10_canFinish 5 RX10 "canFinish" (some .boolean) mc ms 15 269) (ho : (T0 o).1 = 11) : ∀ (n : Nat) {cells slots : Nat} {T : z_T} {I : z_I} {Q : z_Q} {kc : Nat} {ks : Nat} {x1 : Int32} {x2 : Int32} {x3 : Int32} {H : Heap} {locs : List Loc} {ls : Array Slot}, z_HB G (z_co co) A s.heap T0 I0 Q0 T I Q H locs → cells + kc ≤ mc → slots + ks ≤ ms → lv_has ls 5 [(0, .ref o), (1, .int x1), (2, .int x2), (3, .int x3)] → wl_X10_canFinish_4 co o Qk n T I Q kc ks x1 x2 x3 → W p l e R s m args below meth c H locs cells slots (z_MQ below G (z_co co) A T0 I0 Q0 (z_qz Qk) z_no args s mc ms) (F0 m 4 ls []) := by
  intro n
  induction n with
  | zero =>
    intro cells slots T I Q kc ks x1 x2 x3 H locs ls hB hK1 hK2 hl h
    exact h.elim
  | succ n ih =>
    intro cells slots T I Q kc ks x1 x2 x3 H locs ls hB hK1 hK2 hl h
    obtain ⟨hx, hb, -⟩ := id X
    unfold wl_X10_canFinish_4 at h
    refine lv_iload_n hx hb dX10_canFinish_4 rfl (lv_at hl 3 rfl) ?_
    refine lv_iconst (v := 3) hx hb dX10_canFinish_5 (by decide) ?_
    refine lv_icmp_ge (tgt := 44) hx hb dX10_canFinish_6 (by decide) (fun c1 => ?_) (fun c1 => ?_)
    · replace h := h.1 c1
      refine lv_iconst (v := 1) hx hb dX10_canFinish_44 (by decide) ?_
      refine lv_istore_n (lv' := [(3, .int 1), (0, .ref o), (1, .int x1), (2, .int x2)]) hx hb dX10_canFinish_45 rfl hl (by decide) rfl (fun ls hl9 => ?_)
      replace hl := hl9
      clear hl9
      refine lv_iconst (v := 0) hx hb dX10_canFinish_46 (by decide) ?_
      refine lv_istore (lv' := [(4, .int 0), (3, .int 1), (0, .ref o), (1, .int x1), (2, .int x2)]) hx hb dX10_canFinish_47 hl (by decide) rfl (fun ls hl9 => ?_)
      replace hl := hl9
      clear hl9
      obtain ⟨w, h⟩ := h
      exact wv_X10_canFinish_49 X ho  w hB hK1 hK2 (lv_sub hl [2, 3, 4, 1, 0] rfl) h
    · replace h := h.2 c1
      refine lv_iload_n hx hb dX10_canFinish_9 rfl (lv_at hl 2 rfl) ?_
      refine lv_iload_n hx hb dX10_canFinish_10 rfl (lv_at hl 3 rfl) ?_
      refine lv_iload_n hx hb dX10_canFinish_11 rfl (lv_at hl 1 rfl) ?_
      refine lv_icmp_eq (tgt := 35) hx hb dX10_canFinish_12 (by decide) (fun c2 => ?_) (fun c2 => ?_)
      · replace h := h.1 c2
        exact ww_X10_canFinish_35 X ho (fun hB hK1 hK2 hl h => ih hB hK1 hK2 hl h) hB hK1 hK2 (lv_sub hl [0, 1, 3] rfl) h
      · replace h := h.2 c2
        refine lv_aload_n (x := o) hx hb dX10_canFinish_15 rfl (lv_at hl 0 rfl) ?_
        refine z_geti X hB.1 kc_X10 in_X10 (j := 0) (Nat.le_of_ble_eq_true rfl) q1348 (fun _ h => h) rfl (by decide) (z_fo hB ho (by decide)) dX10_canFinish_16 ?_
        refine lv_iload_n hx hb dX10_canFinish_19 rfl (lv_at hl 3 rfl) ?_
        refine z_callzp (z_runSN (rest := [.int x2]) [.int (I o 0), .int x3] pk_X1_contains (met_X1_contains (I o 0) x3 _ h) X hB (fun h => h) q1377 rfl hl.1 (Nat.le_of_ble_eq_true rfl) dX10_canFinish_20 (z_k4 hK1) (z_k4 hK2) (by decide) (by decide)) hB (fun r3 H locs hz h9 hB => ?_)
        replace h := h9
        clear h9
        replace h := h hz
        refine lv_if_eq (tgt := 35) hx hb dX10_canFinish_23 (by decide) (fun c4 => ?_) (fun c4 => ?_)
        · replace h := h.1 c4
          exact ww_X10_canFinish_35 X ho (fun hB hK1 hK2 hl h => ih hB hK1 hK2 hl h) hB hK1 hK2 (lv_sub hl [0, 1, 3] rfl) h
        · replace h := h.2 c4
          refine lv_aload_n (x := o) hx hb dX10_canFinish_26 rfl (lv_at hl 0 rfl) ?_
          refine z_getq X hB.1 kc_X10 in_X10 (j := 1) (Nat.le_of_ble_eq_true rfl) q1349 (fun _ h => h) rfl (by decide) (z_fo hB ho (by decide)) dX10_canFinish_27 ?_
          refine lv_iload_n hx hb dX10_canFinish_30 rfl (lv_at hl 3 rfl) ?_
          obtain ⟨a5, ea5, h⟩ := h
          refine z_stk (st' := [.int x3, .ref a5, .int x2]) (by rw [ea5] <;> rfl) ?_
          obtain ⟨hk_a5, h⟩ := h
          obtain ⟨h1, h⟩ := h
          refine z_iald X hB.1 hk_a5 h1 dX10_canFinish_31 ?_
          refine lv_goto (tgt := 36) hx hb dX10_canFinish_32 (by decide) ?_
          exact ww_X10_canFinish_36 X ho (fun hB hK1 hK2 hl h => ih hB hK1 hK2 hl h) hB hK1 hK2 (lv_sub hl [0, 1, 3] rfl) h
theorem ww_X10_canFinish_0 {co : Nat} {o : Nat} {Qk : Int32 → z_T → z_I → z_Q → Prop} (X : z_X l G A p R s m args meth c cX10_canFinish 5 RX10 "canFinish" (some .boolean) mc ms 15 269) (ho : (T0 o).1 = 11) {cells slots : Nat} {T : z_T} {I : z_I} {Q : z_Q} {kc : Nat} {ks : Nat} {x1 : Int32} {H : Heap} {locs : List Loc} {ls : Array Slot} (hB : z_HB G (z_co co) A s.heap T0 I0 Q0 T I Q H locs) (hK1 : cells + kc ≤ mc) (hK2 : slots + ks ≤ ms) (hl : lv_has ls 5 [(0, .ref o), (1, .int x1)]) (h : wb_X10_canFinish_0 co o Qk T I Q kc ks x1) : W p l e R s m args below meth c H locs cells slots (z_MQ below G (z_co co) A T0 I0 Q0 (z_qz Qk) z_no args s mc ms) (F0 m 0 ls []) := by
  obtain ⟨hx, hb, -⟩ := id X
  unfold wb_X10_canFinish_0 at h
  refine lv_iconst (v := 0) hx hb dX10_canFinish_0 (by decide) ?_
  refine lv_istore_n (lv' := [(2, .int 0), (0, .ref o), (1, .int x1)]) hx hb dX10_canFinish_1 rfl hl (by decide) rfl (fun ls hl9 => ?_)
  replace hl := hl9
  clear hl9
  refine lv_iconst (v := 0) hx hb dX10_canFinish_2 (by decide) ?_
  refine lv_istore_n (lv' := [(3, .int 0), (2, .int 0), (0, .ref o), (1, .int x1)]) hx hb dX10_canFinish_3 rfl hl (by decide) rfl (fun ls hl9 => ?_)
  replace hl := hl9
  clear hl9
  obtain ⟨w, h⟩ := h
  exact wv_X10_canFinish_4 X ho  w hB hK1 hK2 (lv_sub hl [2, 3, 1, 0] rfl) h
theorem pk_X10_canFinish : z_PV RX10 yX10_canFinish cX10_canFinish 5 (some .boolean) 1 := ⟨q1382, qs15, q155, q1383, by decide +kernel⟩
theorem met_X10_canFinish {l : Launch} {G : z_E} {T : z_T} {I : z_I} {Q : z_Q} (co : Nat) (o : Nat) (x1 : Int32) (kc : Nat) (ks : Nat) (Qk : Int32 → z_T → z_I → z_Q → Prop) (h : wp_X10_canFinish co T I Q o x1 kc ks Qk) : z_GM l G yX10_canFinish (ws_ yX10_canFinish cX10_canFinish 5 (some .boolean)) 15 269 kc ks [.ref o, .int x1] (z_co co) T I Q (z_qz Qk) z_no := by
  obtain ⟨ho, h⟩ := h
  refine z_body (own := RX10) (nm := "canFinish") (by decide +kernel) rfl rfl (Nat.le_of_ble_eq_true rfl) (fun p e R s m below meth c A ls X hB hl => ?_)
  exact ww_X10_canFinish_0 X ho hB z_k0 z_k0 hl h
end
