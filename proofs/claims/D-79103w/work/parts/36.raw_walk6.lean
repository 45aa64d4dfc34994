/-! THE CODE: walks 6 -/
set_option maxRecDepth 100000
section
variable {p : Program} {l : Launch} {e : Env} {R : Room} {s : State} {m : MethodId} {args : Array Value} {below : List Frame} {meth : Method} {c : Code}
variable {G : z_E} {A : Nat → Prop} {T T0 : z_T} {I I0 : z_I} {Q Q0 : z_Q} {mc ms : Nat}
/-! X3_number -/
theorem ww_X3_number_0 {T : z_T} {I : z_I} {Q : z_Q} {o : Nat} {Qk : Int32 → Prop} (X : z_X l G A p R s m args meth c cX3_number 2 RX3 "number" (some .int) 0 0 10 162) (ho : (T o).1 = 5) {x1 : Int32} {H : Heap} {locs : List Loc} {ls : Array Slot} (hB : z_HB G z_none A s.heap T I Q T I Q H locs) (hl : lv_has ls 2 [(0, .ref o), (1, .int x1)]) (h : wb_X3_number_0 T I Q o Qk x1) : W p l e R s m args below meth c H locs 0 0 (z_MQ below G z_none A T I Q (z_pi Qk T I Q) z_no args s 0 0) (F0 m 0 ls []) := by
  obtain ⟨hx, hb, -⟩ := id X
  unfold wb_X3_number_0 at h
  refine lv_iload_n hx hb dX3_number_0 rfl (lv_at hl 1 rfl) ?_
  by_cases c1_0 : x1 = 0
  · replace h := h.1 c1_0
    refine lv_tableIn (off := 35) (tgt := 36) hx hb dX3_number_1 (by rw [c1_0]; decide) (by rw [c1_0]; decide) (by rw [c1_0]; rfl) (by decide) ?_
    refine lv_aload_n (x := o) hx hb dX3_number_36 rfl (lv_at hl 0 rfl) ?_
    refine z_geti X hB.1 kc_X3 in_X3 (j := 1) (Nat.le_of_ble_eq_true rfl) q1148 (fun _ h => h) rfl (by decide) ho dX3_number_37 ?_
    exact z_iret X hB ⟨_, rfl, h, rfl, rfl, rfl⟩ (Nat.le_refl 0) (Nat.le_refl 0) dX3_number_40
  · by_cases c1_1 : x1 = 1
    · replace h := h.2.1 c1_1
      refine lv_tableIn (off := 40) (tgt := 41) hx hb dX3_number_1 (by rw [c1_1]; decide) (by rw [c1_1]; decide) (by rw [c1_1]; rfl) (by decide) ?_
      refine lv_aload_n (x := o) hx hb dX3_number_41 rfl (lv_at hl 0 rfl) ?_
      refine z_getq X hB.1 kc_X3 in_X3 (j := 0) (Nat.le_of_ble_eq_true rfl) q1145 (fun _ h => h) rfl (by decide) ho dX3_number_42 ?_
      obtain ⟨a2, ea2, h⟩ := h
      refine z_stk (st' := [.ref a2]) (by rw [ea2] <;> rfl) ?_
      obtain ⟨hk_a2, h⟩ := h
      refine z_callip (z_runV (rest := []) [] pk_J31_size (met_J31_size a2 _ h) X hB (fun h => h) q2539 kc_J31 (by decide) hk_a2 rfl hl.1 (Nat.le_of_ble_eq_true rfl) dX3_number_45 (Nat.le_refl 0) (Nat.le_refl 0) (by decide) (by decide)) hB (fun r3 H locs h9 hB => ?_)
      replace h := h9
      clear h9
      exact z_iret X hB ⟨_, rfl, h, rfl, rfl, rfl⟩ (Nat.le_refl 0) (Nat.le_refl 0) dX3_number_48
    · by_cases c1_2 : x1 = 2
      · replace h := h.2.2.1 c1_2
        refine lv_tableIn (off := 48) (tgt := 49) hx hb dX3_number_1 (by rw [c1_2]; decide) (by rw [c1_2]; decide) (by rw [c1_2]; rfl) (by decide) ?_
        refine lv_aload_n (x := o) hx hb dX3_number_49 rfl (lv_at hl 0 rfl) ?_
        refine z_geti X hB.1 kc_X3 in_X3 (j := 2) (Nat.le_of_ble_eq_true rfl) q1150 (fun _ h => h) rfl (by decide) ho dX3_number_50 ?_
        exact z_iret X hB ⟨_, rfl, h, rfl, rfl, rfl⟩ (Nat.le_refl 0) (Nat.le_refl 0) dX3_number_53
      · by_cases c1_3 : x1 = 3
        · replace h := h.2.2.2.1 c1_3
          refine lv_tableIn (off := 53) (tgt := 54) hx hb dX3_number_1 (by rw [c1_3]; decide) (by rw [c1_3]; decide) (by rw [c1_3]; rfl) (by decide) ?_
          refine lv_aload_n (x := o) hx hb dX3_number_54 rfl (lv_at hl 0 rfl) ?_
          refine z_geti X hB.1 kc_X3 in_X3 (j := 3) (Nat.le_of_ble_eq_true rfl) q1153 (fun _ h => h) rfl (by decide) ho dX3_number_55 ?_
          exact z_iret X hB ⟨_, rfl, h, rfl, rfl, rfl⟩ (Nat.le_refl 0) (Nat.le_refl 0) dX3_number_58
        · by_cases c1_4 : x1 = 4
          · replace h := h.2.2.2.2.1 c1_4
            refine lv_tableIn (off := 58) (tgt := 59) hx hb dX3_number_1 (by rw [c1_4]; decide) (by rw [c1_4]; decide) (by rw [c1_4]; rfl) (by decide) ?_
            refine lv_aload_n (x := o) hx hb dX3_number_59 rfl (lv_at hl 0 rfl) ?_
            refine z_geti X hB.1 kc_X3 in_X3 (j := 4) (Nat.le_of_ble_eq_true rfl) q1155 (fun _ h => h) rfl (by decide) ho dX3_number_60 ?_
            exact z_iret X hB ⟨_, rfl, h, rfl, rfl, rfl⟩ (Nat.le_refl 0) (Nat.le_refl 0) dX3_number_63
          · replace h := h.2.2.2.2.2 c1_0 c1_1 c1_2 c1_3 c1_4
            refine lv_tableOut (tgt := 64) hx hb dX3_number_1 ?_ (by decide) ?_
            · have q0 := lv_neT c1_0 (a := 0) (by decide)
              have q1 := lv_neT c1_1 (a := 1) (by decide)
              have q2 := lv_neT c1_2 (a := 2) (by decide)
              have q3 := lv_neT c1_3 (a := 3) (by decide)
              have q4 := lv_neT c1_4 (a := 4) (by decide)
              omega
            · refine lv_aload_n (x := o) hx hb dX3_number_64 rfl (lv_at hl 0 rfl) ?_
              refine z_geti X hB.1 kc_X3 in_X3 (j := 5) (Nat.le_of_ble_eq_true rfl) q1156 (fun _ h => h) rfl (by decide) ho dX3_number_65 ?_
              exact z_iret X hB ⟨_, rfl, h, rfl, rfl, rfl⟩ (Nat.le_refl 0) (Nat.le_refl 0) dX3_number_68
theorem pk_X3_number : z_PV RX3 yX3_number cX3_number 2 (some .int) 1 := ⟨q2583, q2584, q129, q2585, by decide +kernel⟩
theorem met_X3_number {l : Launch} {G : z_E} {T : z_T} {I : z_I} {Q : z_Q} (o : Nat) (x1 : Int32) (Qk : Int32 → Prop) (h : wp_X3_number T I Q o x1 Qk) : z_GM l G yX3_number (ws_ yX3_number cX3_number 2 (some .int)) 10 162 0 0 [.ref o, .int x1] z_none T I Q (z_pi Qk T I Q) z_no := by
  obtain ⟨ho, h⟩ := h
  refine z_body (own := RX3) (nm := "number") (by decide +kernel) rfl rfl (Nat.le_of_ble_eq_true rfl) (fun p e R s m below meth c A ls X hB hl => ?_)
  exact ww_X3_number_0 X ho hB hl h
/-! X3_init_2 -/
theorem wv_X3_init_2_28 {co : Nat} {o : Nat} {Qk : z_T → z_I → z_Q → Prop} (X : z_X l G A p R s m args meth c cX3_init_2 3 RX3 "<init>" none mc ms 12 214) (ho : (T0 o).1 = 5) (hoc : (T0 o).2.2 = co) : ∀ (n : Nat) {cells slots : Nat} {T : z_T} {I : z_I} {Q : z_Q} {kc : Nat} {ks : Nat} {x1 : Option Nat} {x2 : Option Nat} {H : Heap} {locs : List Loc} {ls : Array Slot}, z_HB G (z_co co) A s.heap T0 I0 Q0 T I Q H locs → cells + kc ≤ mc → slots + ks ≤ ms → lv_has ls 3 [(0, .ref o), (1, va_rf x1), (2, va_rf x2)] → wl_X3_init_2_28 G.2.2 co o Qk n T I Q kc ks x1 x2 → W p l e R s m args below meth c H locs cells slots (z_MQ below G (z_co co) A T0 I0 Q0 (z_qv Qk) z_no args s mc ms) (F0 m 28 ls []) := by
  intro n
  induction n with
  | zero =>
    intro cells slots T I Q kc ks x1 x2 H locs ls hB hK1 hK2 hl h
    exact h.elim
  | succ n ih =>
    intro cells slots T I Q kc ks x1 x2 H locs ls hB hK1 hK2 hl h
    obtain ⟨hx, hb, -⟩ := id X
    unfold wl_X3_init_2_28 at h
    refine z_aload_n (x := x2) hx hb dX3_init_2_28 rfl (lv_at hl 2 rfl) ?_
    obtain ⟨a21, rfl, h⟩ := h
    refine z_call5zp (z_run_itHas (rest := []) h X hB q2219 hl.1 (Nat.le_of_ble_eq_true rfl) dX3_init_2_29 (z_k4 hK1) (z_k4 hK2) (by decide) (by decide)) hB (fun r22 H locs hz h9 hB => ?_)
    replace h := h9
    clear h9
    replace h := h hz
    refine lv_if_eq (tgt := 56) hx hb dX3_init_2_34 (by decide) (fun c23 => ?_) (fun c23 => ?_)
    · replace h := h.1 c23
      refine lv_aload_n (x := o) hx hb dX3_init_2_56 rfl (lv_at hl 0 rfl) ?_
      refine z_aload_n (x := x1) hx hb dX3_init_2_57 rfl (lv_at hl 1 rfl) ?_
      obtain ⟨a24, rfl, h⟩ := h
      obtain ⟨hk_a24, h⟩ := h
      refine z_geti X hB.1 kc_X3 in_X3 (j := 1) (Nat.le_of_ble_eq_true rfl) q1148 (fun _ h => h) rfl (by decide) hk_a24 dX3_init_2_58 ?_
      obtain ⟨I25, eI25⟩ : ∃ z, z = z_up I o 1 (I a24 1) := ⟨_, rfl⟩
      replace h := h I25 eI25
      refine z_puti (x := (I a24 1)) eI25 tyX3 X hB kc_X3 in_X3 tyX3_ok nmX3 (j := 1) (Nat.le_of_ble_eq_true rfl) q1148 (fun _ h => h) rfl rfl (by decide) (z_fo hB ho (by decide)) (z_foc hB ho (by decide) hoc) rfl (Or.inl rfl) dX3_init_2_61 (fun H locs hB => ?_)
      refine lv_aload_n (x := o) hx hb dX3_init_2_64 rfl (lv_at hl 0 rfl) ?_
      refine lv_aload_n (x := a24) hx hb dX3_init_2_65 rfl (lv_at hl 1 rfl) ?_
      refine z_geti X hB.1 kc_X3 in_X3 (j := 2) (Nat.le_of_ble_eq_true rfl) q1150 (fun _ h => h) rfl (by decide) hk_a24 dX3_init_2_66 ?_
      obtain ⟨I26, eI26⟩ : ∃ z, z = z_up I25 o 2 (I25 a24 2) := ⟨_, rfl⟩
      replace h := h I26 eI26
      refine z_puti (x := (I25 a24 2)) eI26 tyX3 X hB kc_X3 in_X3 tyX3_ok nmX3 (j := 2) (Nat.le_of_ble_eq_true rfl) q1150 (fun _ h => h) rfl rfl (by decide) (z_fo hB ho (by decide)) (z_foc hB ho (by decide) hoc) rfl (Or.inl rfl) dX3_init_2_69 (fun H locs hB => ?_)
      refine lv_aload_n (x := o) hx hb dX3_init_2_72 rfl (lv_at hl 0 rfl) ?_
      refine lv_aload_n (x := a24) hx hb dX3_init_2_73 rfl (lv_at hl 1 rfl) ?_
      refine z_geti X hB.1 kc_X3 in_X3 (j := 3) (Nat.le_of_ble_eq_true rfl) q1153 (fun _ h => h) rfl (by decide) hk_a24 dX3_init_2_74 ?_
      obtain ⟨I27, eI27⟩ : ∃ z, z = z_up I26 o 3 (I26 a24 3) := ⟨_, rfl⟩
      replace h := h I27 eI27
      refine z_puti (x := (I26 a24 3)) eI27 tyX3 X hB kc_X3 in_X3 tyX3_ok nmX3 (j := 3) (Nat.le_of_ble_eq_true rfl) q1153 (fun _ h => h) rfl rfl (by decide) (z_fo hB ho (by decide)) (z_foc hB ho (by decide) hoc) rfl (Or.inl rfl) dX3_init_2_77 (fun H locs hB => ?_)
      refine lv_aload_n (x := o) hx hb dX3_init_2_80 rfl (lv_at hl 0 rfl) ?_
      refine lv_aload_n (x := a24) hx hb dX3_init_2_81 rfl (lv_at hl 1 rfl) ?_
      refine z_geti X hB.1 kc_X3 in_X3 (j := 4) (Nat.le_of_ble_eq_true rfl) q1155 (fun _ h => h) rfl (by decide) hk_a24 dX3_init_2_82 ?_
      obtain ⟨I28, eI28⟩ : ∃ z, z = z_up I27 o 4 (I27 a24 4) := ⟨_, rfl⟩
      replace h := h I28 eI28
      refine z_puti (x := (I27 a24 4)) eI28 tyX3 X hB kc_X3 in_X3 tyX3_ok nmX3 (j := 4) (Nat.le_of_ble_eq_true rfl) q1155 (fun _ h => h) rfl rfl (by decide) (z_fo hB ho (by decide)) (z_foc hB ho (by decide) hoc) rfl (Or.inl rfl) dX3_init_2_85 (fun H locs hB => ?_)
      refine lv_aload_n (x := o) hx hb dX3_init_2_88 rfl (lv_at hl 0 rfl) ?_
      refine lv_aload_n (x := a24) hx hb dX3_init_2_89 rfl (lv_at hl 1 rfl) ?_
      refine z_geti X hB.1 kc_X3 in_X3 (j := 5) (Nat.le_of_ble_eq_true rfl) q1156 (fun _ h => h) rfl (by decide) hk_a24 dX3_init_2_90 ?_
      obtain ⟨I29, eI29⟩ : ∃ z, z = z_up I28 o 5 (I28 a24 5) := ⟨_, rfl⟩
      replace h := h I29 eI29
      refine z_puti (x := (I28 a24 5)) eI29 tyX3 X hB kc_X3 in_X3 tyX3_ok nmX3 (j := 5) (Nat.le_of_ble_eq_true rfl) q1156 (fun _ h => h) rfl rfl (by decide) (z_fo hB ho (by decide)) (z_foc hB ho (by decide) hoc) rfl (Or.inl rfl) dX3_init_2_93 (fun H locs hB => ?_)
      exact z_vret X hB ⟨rfl, h⟩ (z_k3 hK1) (z_k3 hK2) dX3_init_2_96
    · replace h := h.2 c23
      refine lv_aload_n (x := o) hx hb dX3_init_2_37 rfl (lv_at hl 0 rfl) ?_
      refine z_getq X hB.1 kc_X3 in_X3 (j := 0) (Nat.le_of_ble_eq_true rfl) q1145 (fun _ h => h) rfl (by decide) (z_fo hB ho (by decide)) dX3_init_2_38 ?_
      refine lv_aload_n (x := a21) hx hb dX3_init_2_41 rfl (lv_at hl 2 rfl) ?_
      refine z_call5r (z_run_itNext (rest := [va_rf (Q o 0)]) h X hB hB.2.2.2.2.2.2 q2221 hl.1 (by simp [z_cat, z_cati, z_catl, z_catf, z_catd, z_catq]) dX3_init_2_42 (z_k4 hK1) (z_k4 hK2) (by decide) (by decide)) hB (fun _ h => h) (fun r30 T31 I32 Q33 H locs h9 hF hB => ?_)
      replace h := h9
      clear h9
      replace h := h hF
      obtain ⟨h2, h⟩ := h
      refine z_castIR X hB.1 h2 q2222 dX3_init_2_47 ?_
      obtain ⟨a34, ea34, h⟩ := h
      refine z_stk (st' := [va_rf r30, .ref a34]) (by rw [ea34] <;> rfl) ?_
      obtain ⟨hk_a34, h⟩ := h
      obtain ⟨kc36, ks37, g1, g2, h⟩ := h
      refine z_callv (z_runV (rest := []) [va_rf r30] pk_J31_addLast (met_J31_addLast co a34 r30 kc36 ks37 _ h) X hB hB.2.2.2.2.2.2 q2223 kc_J31 (by decide) hk_a34 rfl hl.1 (Nat.le_of_ble_eq_true rfl) dX3_init_2_50 (z_k1 hK1 g1) (z_k1 hK2 g2) (by decide) (by decide)) hB (fun _ h => h) (fun T38 I39 Q40 H locs h9 hF hB => ?_)
      replace h := h9
      clear h9
      replace h := h hF
      replace hK1 := z_k2 hK1 g1
      replace hK2 := z_k2 hK2 g2
      refine lv_goto (tgt := 28) hx hb dX3_init_2_53 (by decide) ?_
      exact ih hB hK1 hK2 (lv_sub hl [0, 1, 2] rfl) h
theorem ww_X3_init_2_0 {co : Nat} {o : Nat} {Qk : z_T → z_I → z_Q → Prop} (X : z_X l G A p R s m args meth c cX3_init_2 3 RX3 "<init>" none mc ms 12 214) (ho : (T0 o).1 = 5) (hoc : (T0 o).2.2 = co) {cells slots : Nat} {T : z_T} {I : z_I} {Q : z_Q} {kc : Nat} {ks : Nat} {x1 : Option Nat} {H : Heap} {locs : List Loc} {ls : Array Slot} (hB : z_HB G (z_co co) A s.heap T0 I0 Q0 T I Q H locs) (hK1 : cells + kc ≤ mc) (hK2 : slots + ks ≤ ms) (hl : lv_has ls 3 [(0, .ref o), (1, va_rf x1)]) (h : wb_X3_init_2_0 G.2.2 co o Qk T I Q kc ks x1) : W p l e R s m args below meth c H locs cells slots (z_MQ below G (z_co co) A T0 I0 Q0 (z_qv Qk) z_no args s mc ms) (F0 m 0 ls []) := by
  obtain ⟨hx, hb, -⟩ := id X
  unfold wb_X3_init_2_0 at h
  refine lv_aload_n (x := o) hx hb dX3_init_2_0 rfl (lv_at hl 0 rfl) ?_
  refine z_objInit (rest := []) X q1142 hl.1 dX3_init_2_1 (by decide) (Nat.le_of_ble_eq_true rfl) ?_
  refine lv_aload_n (x := o) hx hb dX3_init_2_4 rfl (lv_at hl 0 rfl) ?_
  obtain ⟨g1, g2, h⟩ := h
  refine z_new (col := co) tyJ31 X hB kc_J31 in_J31 tyJ31_ok q1143 q1119 q128 (by decide) (z_dvJ31) rfl (z_k1 hK1 g1) (z_k1 hK2 g2) dX3_init_2_5 (fun a1 H hq hB => ?_)
  obtain ⟨T2, eT2⟩ : ∃ z, z = z_t T a1 (17, 0, co) := ⟨_, rfl⟩
  obtain ⟨I3, eI3⟩ : ∃ z, z = z_row I a1 (fun _ => 0) := ⟨_, rfl⟩
  obtain ⟨Q4, eQ4⟩ : ∃ z, z = z_row Q a1 (fun _ => none) := ⟨_, rfl⟩
  rw [← eT2, ← eI3, ← eQ4] at hB
  replace h := h a1 T2 I3 Q4 hq eT2 eI3 eQ4
  have hk_a1 := z_tq eT2
  have hc_a1 : (T2 a1).2.2 = co := by rw [z_tqc eT2]
  replace hK1 := z_k2 hK1 g1
  replace hK2 := z_k2 hK2 g2
  refine lv_dup hx hb dX3_init_2_8 rfl ?_
  obtain ⟨kc6, ks7, g1, g2, h⟩ := h
  refine z_callv (z_runI (rest := [.ref a1, .ref o]) [] pk_J31_init (met_J31_init co a1 kc6 ks7 _ h) X hB hB.2.2.2.2.2.2 q1144 rfl hl.1 (Nat.le_of_ble_eq_true rfl) dX3_init_2_9 (z_k1 hK1 g1) (z_k1 hK2 g2) (by decide) (by decide)) hB (fun _ h => h) (fun T8 I9 Q10 H locs h9 hF hB => ?_)
  replace h := h9
  clear h9
  replace h := h hF
  have hc_a1 : (T8 a1).2.2 = co := by rw [z_te hF hk_a1 (by decide)]; exact hc_a1
  have hk_a1 := z_tk hF hk_a1 (by decide)
  replace hK1 := z_k2 hK1 g1
  replace hK2 := z_k2 hK2 g2
  obtain ⟨Q11, eQ11⟩ : ∃ z, z = z_up Q10 o 0 (some a1) := ⟨_, rfl⟩
  replace h := h Q11 eQ11
  refine z_putqF (x := (some a1)) eQ11 tyX3 X hB kc_X3 in_X3 tyX3_ok nmX3 (j := 0) (Nat.le_of_ble_eq_true rfl) q1145 (fun _ h => h) rfl rfl rfl (by decide) (z_fo hB ho (by decide)) (z_foc hB ho (by decide) hoc) rfl (Or.inl ⟨_, rfl⟩) dX3_init_2_12 (fun H locs hB => ?_)
  refine lv_aload_n (x := o) hx hb dX3_init_2_15 rfl (lv_at hl 0 rfl) ?_
  refine lv_iconst (v := 2) hx hb dX3_init_2_16 (by decide) ?_
  obtain ⟨I12, eI12⟩ : ∃ z, z = z_up I9 o 1 2 := ⟨_, rfl⟩
  replace h := h I12 eI12
  refine z_puti (x := 2) eI12 tyX3 X hB kc_X3 in_X3 tyX3_ok nmX3 (j := 1) (Nat.le_of_ble_eq_true rfl) q1148 (fun _ h => h) rfl rfl (by decide) (z_fo hB ho (by decide)) (z_foc hB ho (by decide) hoc) rfl (Or.inl rfl) dX3_init_2_17 (fun H locs hB => ?_)
  refine z_aload_n (x := x1) hx hb dX3_init_2_20 rfl (lv_at hl 1 rfl) ?_
  obtain ⟨a13, rfl, h⟩ := h
  obtain ⟨hk_a13, h⟩ := h
  refine z_getq X hB.1 kc_X3 in_X3 (j := 0) (Nat.le_of_ble_eq_true rfl) q1145 (fun _ h => h) rfl (by decide) hk_a13 dX3_init_2_21 ?_
  obtain ⟨a14, ea14, h⟩ := h
  refine z_stk (st' := [.ref a14]) (by rw [ea14] <;> rfl) ?_
  obtain ⟨hk_a14, h⟩ := h
  obtain ⟨kc16, ks17, g1, g2, h⟩ := h
  refine z_callr (z_runV (rest := []) [] pk_J31_iterator (met_J31_iterator co a14 kc16 ks17 _ h) X hB hB.2.2.2.2.2.2 q2188 kc_J31 (by decide) hk_a14 rfl hl.1 (Nat.le_of_ble_eq_true rfl) dX3_init_2_24 (z_k1 hK1 g1) (z_k1 hK2 g2) (by decide) (by decide)) hB (fun _ h => h) (fun r15 T18 I19 Q20 H locs h9 hF hB => ?_)
  replace h := h9
  clear h9
  replace h := h hF
  have hk_a13 := z_tk hF hk_a13 (by decide)
  replace hK1 := z_k2 hK1 g1
  replace hK2 := z_k2 hK2 g2
  refine z_astore_n (x := r15) (lv' := [(2, va_rf r15), (0, .ref o), (1, .ref a13)]) hx hb dX3_init_2_27 rfl hl (by decide) rfl (fun ls hl9 => ?_)
  replace hl := hl9
  clear hl9
  obtain ⟨w, h⟩ := h
  exact wv_X3_init_2_28 X ho hoc  w hB hK1 hK2 (lv_sub hl [1, 2, 0] rfl) h
theorem pk_X3_init_2 : z_PI yX3_init_2 cX3_init_2 3 1 := ⟨q2186, q129, q2187, rfl, by decide +kernel⟩
theorem met_X3_init_2 {l : Launch} {G : z_E} {T : z_T} {I : z_I} {Q : z_Q} (co : Nat) (o : Nat) (x1 : Option Nat) (kc : Nat) (ks : Nat) (Qk : z_T → z_I → z_Q → Prop) (h : wp_X3_init_2 G.2.2 co T I Q o x1 kc ks Qk) : z_GM l G yX3_init_2 (ws_ yX3_init_2 cX3_init_2 3 none) 12 214 kc ks [.ref o, va_rf x1] (z_co co) T I Q (z_qv Qk) z_no := by
  obtain ⟨ho, hoc, h⟩ := h
  refine z_body (own := RX3) (nm := "<init>") (by decide +kernel) rfl rfl (by cases x1 <;> exact Nat.le_of_ble_eq_true rfl) (fun p e R s m below meth c A ls X hB hl => ?_)
  replace hl : lv_has ls 3 [(0, .ref o), (1, va_rf x1)] := by cases x1 <;> exact hl
  exact ww_X3_init_2_0 X ho hoc hB z_k0 z_k0 hl h
/-! X3_init -/
theorem ww_X3_init_0 {co : Nat} {o : Nat} {Qk : z_T → z_I → z_Q → Prop} (X : z_X l G A p R s m args meth c cX3_init 1 RX3 "<init>" none mc ms 10 160) (ho : (T0 o).1 = 5) (hoc : (T0 o).2.2 = co) {cells slots : Nat} {T : z_T} {I : z_I} {Q : z_Q} {kc : Nat} {ks : Nat} {H : Heap} {locs : List Loc} {ls : Array Slot} (hB : z_HB G (z_co co) A s.heap T0 I0 Q0 T I Q H locs) (hK1 : cells + kc ≤ mc) (hK2 : slots + ks ≤ ms) (hl : lv_has ls 1 [(0, .ref o)]) (h : wb_X3_init_0 co o Qk T I Q kc ks) : W p l e R s m args below meth c H locs cells slots (z_MQ below G (z_co co) A T0 I0 Q0 (z_qv Qk) z_no args s mc ms) (F0 m 0 ls []) := by
  obtain ⟨hx, hb, -⟩ := id X
  unfold wb_X3_init_0 at h
  refine lv_aload_n (x := o) hx hb dX3_init_0 rfl (lv_at hl 0 rfl) ?_
  refine z_objInit (rest := []) X q1142 hl.1 dX3_init_1 (by decide) (Nat.le_of_ble_eq_true rfl) ?_
  refine lv_aload_n (x := o) hx hb dX3_init_4 rfl (lv_at hl 0 rfl) ?_
  obtain ⟨g1, g2, h⟩ := h
  refine z_new (col := co) tyJ31 X hB kc_J31 in_J31 tyJ31_ok q1143 q1119 q128 (by decide) (z_dvJ31) rfl (z_k1 hK1 g1) (z_k1 hK2 g2) dX3_init_5 (fun a1 H hq hB => ?_)
  obtain ⟨T2, eT2⟩ : ∃ z, z = z_t T a1 (17, 0, co) := ⟨_, rfl⟩
  obtain ⟨I3, eI3⟩ : ∃ z, z = z_row I a1 (fun _ => 0) := ⟨_, rfl⟩
  obtain ⟨Q4, eQ4⟩ : ∃ z, z = z_row Q a1 (fun _ => none) := ⟨_, rfl⟩
  rw [← eT2, ← eI3, ← eQ4] at hB
  replace h := h a1 T2 I3 Q4 hq eT2 eI3 eQ4
  have hk_a1 := z_tq eT2
  have hc_a1 : (T2 a1).2.2 = co := by rw [z_tqc eT2]
  replace hK1 := z_k2 hK1 g1
  replace hK2 := z_k2 hK2 g2
  refine lv_dup hx hb dX3_init_8 rfl ?_
  obtain ⟨kc6, ks7, g1, g2, h⟩ := h
  refine z_callv (z_runI (rest := [.ref a1, .ref o]) [] pk_J31_init (met_J31_init co a1 kc6 ks7 _ h) X hB hB.2.2.2.2.2.2 q1144 rfl hl.1 (Nat.le_of_ble_eq_true rfl) dX3_init_9 (z_k1 hK1 g1) (z_k1 hK2 g2) (by decide) (by decide)) hB (fun _ h => h) (fun T8 I9 Q10 H locs h9 hF hB => ?_)
  replace h := h9
  clear h9
  replace h := h hF
  have hc_a1 : (T8 a1).2.2 = co := by rw [z_te hF hk_a1 (by decide)]; exact hc_a1
  have hk_a1 := z_tk hF hk_a1 (by decide)
  replace hK1 := z_k2 hK1 g1
  replace hK2 := z_k2 hK2 g2
  obtain ⟨Q11, eQ11⟩ : ∃ z, z = z_up Q10 o 0 (some a1) := ⟨_, rfl⟩
  replace h := h Q11 eQ11
  refine z_putqF (x := (some a1)) eQ11 tyX3 X hB kc_X3 in_X3 tyX3_ok nmX3 (j := 0) (Nat.le_of_ble_eq_true rfl) q1145 (fun _ h => h) rfl rfl rfl (by decide) (z_fo hB ho (by decide)) (z_foc hB ho (by decide) hoc) rfl (Or.inl ⟨_, rfl⟩) dX3_init_12 (fun H locs hB => ?_)
  refine lv_aload_n (x := o) hx hb dX3_init_15 rfl (lv_at hl 0 rfl) ?_
  refine lv_iconst (v := 2) hx hb dX3_init_16 (by decide) ?_
  obtain ⟨I12, eI12⟩ : ∃ z, z = z_up I9 o 1 2 := ⟨_, rfl⟩
  replace h := h I12 eI12
  refine z_puti (x := 2) eI12 tyX3 X hB kc_X3 in_X3 tyX3_ok nmX3 (j := 1) (Nat.le_of_ble_eq_true rfl) q1148 (fun _ h => h) rfl rfl (by decide) (z_fo hB ho (by decide)) (z_foc hB ho (by decide) hoc) rfl (Or.inl rfl) dX3_init_17 (fun H locs hB => ?_)
  exact z_vret X hB ⟨rfl, h⟩ (z_k3 hK1) (z_k3 hK2) dX3_init_20
theorem pk_X3_init : z_PI yX3_init cX3_init 1 0 := ⟨q1140, q129, q1141, rfl, by decide +kernel⟩
theorem met_X3_init {l : Launch} {G : z_E} {T : z_T} {I : z_I} {Q : z_Q} (co : Nat) (o : Nat) (kc : Nat) (ks : Nat) (Qk : z_T → z_I → z_Q → Prop) (h : wp_X3_init co T I Q o kc ks Qk) : z_GM l G yX3_init (ws_ yX3_init cX3_init 1 none) 10 160 kc ks [.ref o] (z_co co) T I Q (z_qv Qk) z_no := by
  obtain ⟨ho, hoc, h⟩ := h
  refine z_body (own := RX3) (nm := "<init>") (by decide +kernel) rfl rfl (Nat.le_of_ble_eq_true rfl) (fun p e R s m below meth c A ls X hB hl => ?_)
  exact ww_X3_init_0 X ho hoc hB z_k0 z_k0 hl h
/-! X2_refusals -/
theorem wv_X2_refusals_13 {T : z_T} {I : z_I} {Q : z_Q} {o : Nat} {Qk : Int32 → Prop} (X : z_X l G A p R s m args meth c cX2_refusals 6 RX2 "refusals" (some .int) 0 0 8 120) (ho : (T o).1 = 3) : ∀ (n : Nat) {x1 : Int32} {x2 : Option Nat} {x3 : Int32} {x4 : Int32} {H : Heap} {locs : List Loc} {ls : Array Slot}, z_HB G z_none A s.heap T I Q T I Q H locs → lv_has ls 6 [(1, .int x1), (2, va_rf x2), (3, .int x3), (4, .int x4)] → wl_X2_refusals_13 T I Q o Qk n x1 x2 x3 x4 → W p l e R s m args below meth c H locs 0 0 (z_MQ below G z_none A T I Q (z_pi Qk T I Q) z_no args s 0 0) (F0 m 13 ls []) := by
  intro n
  induction n with
  | zero =>
    intro x1 x2 x3 x4 H locs ls hB hl h
    exact h.elim
  | succ n ih =>
    intro x1 x2 x3 x4 H locs ls hB hl h
    obtain ⟨hx, hb, -⟩ := id X
    unfold wl_X2_refusals_13 at h
    refine lv_iload hx hb dX2_refusals_13 (lv_at hl 3 rfl) ?_
    refine lv_iload_n hx hb dX2_refusals_15 rfl (lv_at hl 2 rfl) ?_
    refine lv_icmp_ge (tgt := 39) hx hb dX2_refusals_16 (by decide) (fun c4 => ?_) (fun c4 => ?_)
    · replace h := h.1 c4
      refine lv_iload_n hx hb dX2_refusals_39 rfl (lv_at hl 0 rfl) ?_
      exact z_iret X hB ⟨_, rfl, h, rfl, rfl, rfl⟩ (Nat.le_refl 0) (Nat.le_refl 0) dX2_refusals_40
    · replace h := h.2 c4
      refine z_aload_n (x := x2) hx hb dX2_refusals_19 rfl (lv_at hl 1 rfl) ?_
      refine lv_iload hx hb dX2_refusals_20 (lv_at hl 3 rfl) ?_
      obtain ⟨a5, rfl, h⟩ := h
      obtain ⟨hk_a5, h⟩ := h
      obtain ⟨h1, h⟩ := h
      refine z_aald (k := 4) X hB.1 (by decide) hk_a5 h1 dX2_refusals_22 ?_
      obtain ⟨y6, ey6⟩ : ∃ z : Option Nat, z = (Q a5 x4.toNatClampNeg) := ⟨_, rfl⟩
      replace h := h y6 ey6
      refine z_stk (st' := [va_rf y6]) (by rw [ey6]) ?_
      refine z_astore (x := y6) (lv' := [(5, va_rf y6), (1, .int x1), (2, .ref a5), (3, .int x3), (4, .int x4)]) hx hb dX2_refusals_23 hl (by decide) rfl (fun ls hl9 => ?_)
      replace hl := hl9
      clear hl9
      refine lv_iload_n hx hb dX2_refusals_25 rfl (lv_at hl 1 rfl) ?_
      refine z_aload (x := y6) hx hb dX2_refusals_26 (lv_at hl 0 rfl) ?_
      obtain ⟨a7, rfl, h⟩ := h
      obtain ⟨hk_a7, h⟩ := h
      refine z_getiN X hB.1 kc_X4 in_X4 (j := 10) (Nat.le_of_ble_eq_true rfl) q1200 (fun _ h => h) rfl (by decide) hk_a7 dX2_refusals_28 ?_
      refine lv_iadd hx hb dX2_refusals_31 ?_
      refine lv_topi (fun y8 ey8 => ?_)
      replace h := h y8 ey8
      refine lv_istore_n (lv' := [(1, .int y8), (5, .ref a7), (2, .ref a5), (3, .int x3), (4, .int x4)]) hx hb dX2_refusals_32 rfl hl (by decide) rfl (fun ls hl9 => ?_)
      replace hl := hl9
      clear hl9
      obtain ⟨y9, ey9⟩ : ∃ z : Int32, z = x4 + 1 := ⟨_, rfl⟩
      replace h := h y9 ey9
      refine lv_iinc (v := y9) (lv' := [(4, .int y9), (1, .int y8), (5, .ref a7), (2, .ref a5), (3, .int x3)]) hx hb dX2_refusals_33 hl (k := 4) rfl (by rw [ey9]; rfl) (by decide) rfl (fun ls hl9 => ?_)
      replace hl := hl9
      clear hl9
      refine lv_goto (tgt := 13) hx hb dX2_refusals_36 (by decide) ?_
      exact ih hB (lv_sub hl [1, 3, 4, 0] rfl) h
theorem ww_X2_refusals_0 {T : z_T} {I : z_I} {Q : z_Q} {o : Nat} {Qk : Int32 → Prop} (X : z_X l G A p R s m args meth c cX2_refusals 6 RX2 "refusals" (some .int) 0 0 8 120) (ho : (T o).1 = 3) {H : Heap} {locs : List Loc} {ls : Array Slot} (hB : z_HB G z_none A s.heap T I Q T I Q H locs) (hl : lv_has ls 6 [(0, .ref o)]) (h : wb_X2_refusals_0 T I Q o Qk ) : W p l e R s m args below meth c H locs 0 0 (z_MQ below G z_none A T I Q (z_pi Qk T I Q) z_no args s 0 0) (F0 m 0 ls []) := by
  obtain ⟨hx, hb, -⟩ := id X
  unfold wb_X2_refusals_0 at h
  refine lv_iconst (v := 0) hx hb dX2_refusals_0 (by decide) ?_
  refine lv_istore_n (lv' := [(1, .int 0), (0, .ref o)]) hx hb dX2_refusals_1 rfl hl (by decide) rfl (fun ls hl9 => ?_)
  replace hl := hl9
  clear hl9
  refine lv_aload_n (x := o) hx hb dX2_refusals_2 rfl (lv_at hl 1 rfl) ?_
  refine z_getq X hB.1 kc_X2 in_X2 (j := 2) (Nat.le_of_ble_eq_true rfl) q1240 (fun _ h => h) rfl (by decide) ho dX2_refusals_3 ?_
  obtain ⟨y1, ey1⟩ : ∃ z : Option Nat, z = (Q o 2) := ⟨_, rfl⟩
  replace h := h y1 ey1
  refine z_stk (st' := [va_rf y1]) (by rw [ey1]) ?_
  refine z_astore_n (x := y1) (lv' := [(2, va_rf y1), (1, .int 0), (0, .ref o)]) hx hb dX2_refusals_6 rfl hl (by decide) rfl (fun ls hl9 => ?_)
  replace hl := hl9
  clear hl9
  refine z_aload_n (x := y1) hx hb dX2_refusals_7 rfl (lv_at hl 0 rfl) ?_
  obtain ⟨a2, rfl, h⟩ := h
  obtain ⟨hk_a2, h⟩ := h
  refine z_alen (k := 4) X hB.1 (by decide) hk_a2 dX2_refusals_8 ?_
  refine lv_topi (fun y3 ey3 => ?_)
  replace h := h y3 ey3
  refine lv_istore_n (lv' := [(3, .int y3), (2, .ref a2), (1, .int 0), (0, .ref o)]) hx hb dX2_refusals_9 rfl hl (by decide) rfl (fun ls hl9 => ?_)
  replace hl := hl9
  clear hl9
  refine lv_iconst (v := 0) hx hb dX2_refusals_10 (by decide) ?_
  refine lv_istore (lv' := [(4, .int 0), (3, .int y3), (2, .ref a2), (1, .int 0), (0, .ref o)]) hx hb dX2_refusals_11 hl (by decide) rfl (fun ls hl9 => ?_)
  replace hl := hl9
  clear hl9
  obtain ⟨w, h⟩ := h
  exact wv_X2_refusals_13 X ho  w hB (lv_sub hl [3, 2, 1, 0] rfl) h
theorem pk_X2_refusals : z_PV RX2 yX2_refusals cX2_refusals 6 (some .int) 0 := ⟨q2964, q2965, q95, q2966, by decide +kernel⟩
theorem met_X2_refusals {l : Launch} {G : z_E} {T : z_T} {I : z_I} {Q : z_Q} (o : Nat) (Qk : Int32 → Prop) (h : wp_X2_refusals T I Q o Qk) : z_GM l G yX2_refusals (ws_ yX2_refusals cX2_refusals 6 (some .int)) 8 120 0 0 [.ref o] z_none T I Q (z_pi Qk T I Q) z_no := by
  obtain ⟨ho, h⟩ := h
  refine z_body (own := RX2) (nm := "refusals") (by decide +kernel) rfl rfl (Nat.le_of_ble_eq_true rfl) (fun p e R s m below meth c A ls X hB hl => ?_)
  exact ww_X2_refusals_0 X ho hB hl h
/-! X2_parts -/
theorem wv_X2_parts_13 {T : z_T} {I : z_I} {Q : z_Q} {o : Nat} {Qk : Int32 → Prop} (X : z_X l G A p R s m args meth c cX2_parts 6 RX2 "parts" (some .int) 0 0 10 162) (ho : (T o).1 = 3) : ∀ (n : Nat) {x1 : Int32} {x2 : Option Nat} {x3 : Int32} {x4 : Int32} {H : Heap} {locs : List Loc} {ls : Array Slot}, z_HB G z_none A s.heap T I Q T I Q H locs → lv_has ls 6 [(1, .int x1), (2, va_rf x2), (3, .int x3), (4, .int x4)] → wl_X2_parts_13 T I Q o Qk n x1 x2 x3 x4 → W p l e R s m args below meth c H locs 0 0 (z_MQ below G z_none A T I Q (z_pi Qk T I Q) z_no args s 0 0) (F0 m 13 ls []) := by
  intro n
  induction n with
  | zero =>
    intro x1 x2 x3 x4 H locs ls hB hl h
    exact h.elim
  | succ n ih =>
    intro x1 x2 x3 x4 H locs ls hB hl h
    obtain ⟨hx, hb, -⟩ := id X
    unfold wl_X2_parts_13 at h
    refine lv_iload hx hb dX2_parts_13 (lv_at hl 3 rfl) ?_
    refine lv_iload_n hx hb dX2_parts_15 rfl (lv_at hl 2 rfl) ?_
    refine lv_icmp_ge (tgt := 42) hx hb dX2_parts_16 (by decide) (fun c4 => ?_) (fun c4 => ?_)
    · replace h := h.1 c4
      refine lv_iload_n hx hb dX2_parts_42 rfl (lv_at hl 0 rfl) ?_
      exact z_iret X hB ⟨_, rfl, h, rfl, rfl, rfl⟩ (Nat.le_refl 0) (Nat.le_refl 0) dX2_parts_43
    · replace h := h.2 c4
      refine z_aload_n (x := x2) hx hb dX2_parts_19 rfl (lv_at hl 1 rfl) ?_
      refine lv_iload hx hb dX2_parts_20 (lv_at hl 3 rfl) ?_
      obtain ⟨a5, rfl, h⟩ := h
      obtain ⟨hk_a5, h⟩ := h
      obtain ⟨h1, h⟩ := h
      refine z_aald (k := 3) X hB.1 (by decide) hk_a5 h1 dX2_parts_22 ?_
      obtain ⟨y6, ey6⟩ : ∃ z : Option Nat, z = (Q a5 x4.toNatClampNeg) := ⟨_, rfl⟩
      replace h := h y6 ey6
      refine z_stk (st' := [va_rf y6]) (by rw [ey6]) ?_
      refine z_astore (x := y6) (lv' := [(5, va_rf y6), (1, .int x1), (2, .ref a5), (3, .int x3), (4, .int x4)]) hx hb dX2_parts_23 hl (by decide) rfl (fun ls hl9 => ?_)
      replace hl := hl9
      clear hl9
      refine lv_iload_n hx hb dX2_parts_25 rfl (lv_at hl 1 rfl) ?_
      refine z_aload (x := y6) hx hb dX2_parts_26 (lv_at hl 0 rfl) ?_
      obtain ⟨a7, rfl, h⟩ := h
      obtain ⟨hk_a7, h⟩ := h
      refine z_getqN X hB.1 kc_X3 in_X3 (j := 0) (Nat.le_of_ble_eq_true rfl) q1146 (fun _ h => h) rfl (by decide) hk_a7 dX2_parts_28 ?_
      obtain ⟨a8, ea8, h⟩ := h
      refine z_stk (st' := [.ref a8, .int x1]) (by rw [ea8] <;> rfl) ?_
      obtain ⟨hk_a8, h⟩ := h
      refine z_callip (z_runV (rest := [.int x1]) [] pk_J31_size (met_J31_size a8 _ h) X hB (fun h => h) q2857 kc_J31 (by decide) hk_a8 rfl hl.1 (Nat.le_of_ble_eq_true rfl) dX2_parts_31 (Nat.le_refl 0) (Nat.le_refl 0) (by decide) (by decide)) hB (fun r9 H locs h9 hB => ?_)
      replace h := h9
      clear h9
      refine lv_iadd hx hb dX2_parts_34 ?_
      refine lv_topi (fun y10 ey10 => ?_)
      replace h := h y10 ey10
      refine lv_istore_n (lv' := [(1, .int y10), (5, .ref a7), (2, .ref a5), (3, .int x3), (4, .int x4)]) hx hb dX2_parts_35 rfl hl (by decide) rfl (fun ls hl9 => ?_)
      replace hl := hl9
      clear hl9
      obtain ⟨y11, ey11⟩ : ∃ z : Int32, z = x4 + 1 := ⟨_, rfl⟩
      replace h := h y11 ey11
      refine lv_iinc (v := y11) (lv' := [(4, .int y11), (1, .int y10), (5, .ref a7), (2, .ref a5), (3, .int x3)]) hx hb dX2_parts_36 hl (k := 4) rfl (by rw [ey11]; rfl) (by decide) rfl (fun ls hl9 => ?_)
      replace hl := hl9
      clear hl9
      refine lv_goto (tgt := 13) hx hb dX2_parts_39 (by decide) ?_
      exact ih hB (lv_sub hl [1, 3, 4, 0] rfl) h
theorem ww_X2_parts_0 {T : z_T} {I : z_I} {Q : z_Q} {o : Nat} {Qk : Int32 → Prop} (X : z_X l G A p R s m args meth c cX2_parts 6 RX2 "parts" (some .int) 0 0 10 162) (ho : (T o).1 = 3) {H : Heap} {locs : List Loc} {ls : Array Slot} (hB : z_HB G z_none A s.heap T I Q T I Q H locs) (hl : lv_has ls 6 [(0, .ref o)]) (h : wb_X2_parts_0 T I Q o Qk ) : W p l e R s m args below meth c H locs 0 0 (z_MQ below G z_none A T I Q (z_pi Qk T I Q) z_no args s 0 0) (F0 m 0 ls []) := by
  obtain ⟨hx, hb, -⟩ := id X
  unfold wb_X2_parts_0 at h
  refine lv_iconst (v := 0) hx hb dX2_parts_0 (by decide) ?_
  refine lv_istore_n (lv' := [(1, .int 0), (0, .ref o)]) hx hb dX2_parts_1 rfl hl (by decide) rfl (fun ls hl9 => ?_)
  replace hl := hl9
  clear hl9
  refine lv_aload_n (x := o) hx hb dX2_parts_2 rfl (lv_at hl 1 rfl) ?_
  refine z_getq X hB.1 kc_X2 in_X2 (j := 1) (Nat.le_of_ble_eq_true rfl) q1237 (fun _ h => h) rfl (by decide) ho dX2_parts_3 ?_
  obtain ⟨y1, ey1⟩ : ∃ z : Option Nat, z = (Q o 1) := ⟨_, rfl⟩
  replace h := h y1 ey1
  refine z_stk (st' := [va_rf y1]) (by rw [ey1]) ?_
  refine z_astore_n (x := y1) (lv' := [(2, va_rf y1), (1, .int 0), (0, .ref o)]) hx hb dX2_parts_6 rfl hl (by decide) rfl (fun ls hl9 => ?_)
  replace hl := hl9
  clear hl9
  refine z_aload_n (x := y1) hx hb dX2_parts_7 rfl (lv_at hl 0 rfl) ?_
  obtain ⟨a2, rfl, h⟩ := h
  obtain ⟨hk_a2, h⟩ := h
  refine z_alen (k := 3) X hB.1 (by decide) hk_a2 dX2_parts_8 ?_
  refine lv_topi (fun y3 ey3 => ?_)
  replace h := h y3 ey3
  refine lv_istore_n (lv' := [(3, .int y3), (2, .ref a2), (1, .int 0), (0, .ref o)]) hx hb dX2_parts_9 rfl hl (by decide) rfl (fun ls hl9 => ?_)
  replace hl := hl9
  clear hl9
  refine lv_iconst (v := 0) hx hb dX2_parts_10 (by decide) ?_
  refine lv_istore (lv' := [(4, .int 0), (3, .int y3), (2, .ref a2), (1, .int 0), (0, .ref o)]) hx hb dX2_parts_11 hl (by decide) rfl (fun ls hl9 => ?_)
  replace hl := hl9
  clear hl9
  obtain ⟨w, h⟩ := h
  exact wv_X2_parts_13 X ho  w hB (lv_sub hl [3, 2, 1, 0] rfl) h
theorem pk_X2_parts : z_PV RX2 yX2_parts cX2_parts 6 (some .int) 0 := ⟨q2960, q2961, q95, q2962, by decide +kernel⟩
theorem met_X2_parts {l : Launch} {G : z_E} {T : z_T} {I : z_I} {Q : z_Q} (o : Nat) (Qk : Int32 → Prop) (h : wp_X2_parts T I Q o Qk) : z_GM l G yX2_parts (ws_ yX2_parts cX2_parts 6 (some .int)) 10 162 0 0 [.ref o] z_none T I Q (z_pi Qk T I Q) z_no := by
  obtain ⟨ho, h⟩ := h
  refine z_body (own := RX2) (nm := "parts") (by decide +kernel) rfl rfl (Nat.le_of_ble_eq_true rfl) (fun p e R s m below meth c A ls X hB hl => ?_)
  exact ww_X2_parts_0 X ho hB hl h
/-! X2_isIdle -/
theorem ww_X2_isIdle_50 {T : z_T} {I : z_I} {Q : z_Q} {o : Nat} {k13 : Int32 → Option Nat → Int32 → Int32 → Prop} {Qk : Int32 → Prop} (X : z_X l G A p R s m args meth c cX2_isIdle 6 RX2 "isIdle" (some .boolean) 0 0 9 140) (ho : (T o).1 = 3) (hk13 : ∀ {x1 : Int32} {x2 : Option Nat} {x3 : Int32} {x4 : Int32} {H : Heap} {locs : List Loc} {ls : Array Slot}, z_HB G z_none A s.heap T I Q T I Q H locs → lv_has ls 6 [(1, .int x1), (2, va_rf x2), (3, .int x3), (4, .int x4)] → k13 x1 x2 x3 x4 → W p l e R s m args below meth c H locs 0 0 (z_MQ below G z_none A T I Q (z_pz Qk T I Q) z_no args s 0 0) (F0 m 13 ls [])) {x2 : Option Nat} {x3 : Int32} {x4 : Int32} {s0 : Int32} {s1 : Int32} {H : Heap} {locs : List Loc} {ls : Array Slot} (hB : z_HB G z_none A s.heap T I Q T I Q H locs) (hl : lv_has ls 6 [(2, va_rf x2), (3, .int x3), (4, .int x4)]) (h : wb_X2_isIdle_50 T I Q o k13 Qk x2 x3 x4 s0 s1) : W p l e R s m args below meth c H locs 0 0 (z_MQ below G z_none A T I Q (z_pz Qk T I Q) z_no args s 0 0) (F0 m 50 ls [.int s1, .int s0]) := by
  obtain ⟨hx, hb, -⟩ := id X
  unfold wb_X2_isIdle_50 at h
  refine lv_iand hx hb dX2_isIdle_50 ?_
  refine lv_topi (fun y12 ey12 => ?_)
  replace h := h y12 ey12
  refine lv_istore_n (lv' := [(1, .int y12), (2, va_rf x2), (3, .int x3), (4, .int x4)]) hx hb dX2_isIdle_51 rfl hl (by decide) rfl (fun ls hl9 => ?_)
  replace hl := hl9
  clear hl9
  obtain ⟨y13, ey13⟩ : ∃ z : Int32, z = x4 + 1 := ⟨_, rfl⟩
  replace h := h y13 ey13
  refine lv_iinc (v := y13) (lv' := [(4, .int y13), (1, .int y12), (2, va_rf x2), (3, .int x3)]) hx hb dX2_isIdle_52 hl (k := 3) rfl (by rw [ey13]; rfl) (by decide) rfl (fun ls hl9 => ?_)
  replace hl := hl9
  clear hl9
  refine lv_goto (tgt := 13) hx hb dX2_isIdle_55 (by decide) ?_
  exact hk13 hB (lv_sub hl [1, 2, 3, 0] rfl) h
theorem ww_X2_isIdle_49 {T : z_T} {I : z_I} {Q : z_Q} {o : Nat} {k13 : Int32 → Option Nat → Int32 → Int32 → Prop} {Qk : Int32 → Prop} (X : z_X l G A p R s m args meth c cX2_isIdle 6 RX2 "isIdle" (some .boolean) 0 0 9 140) (ho : (T o).1 = 3) (hk13 : ∀ {x1 : Int32} {x2 : Option Nat} {x3 : Int32} {x4 : Int32} {H : Heap} {locs : List Loc} {ls : Array Slot}, z_HB G z_none A s.heap T I Q T I Q H locs → lv_has ls 6 [(1, .int x1), (2, va_rf x2), (3, .int x3), (4, .int x4)] → k13 x1 x2 x3 x4 → W p l e R s m args below meth c H locs 0 0 (z_MQ below G z_none A T I Q (z_pz Qk T I Q) z_no args s 0 0) (F0 m 13 ls [])) {x2 : Option Nat} {x3 : Int32} {x4 : Int32} {s0 : Int32} {H : Heap} {locs : List Loc} {ls : Array Slot} (hB : z_HB G z_none A s.heap T I Q T I Q H locs) (hl : lv_has ls 6 [(2, va_rf x2), (3, .int x3), (4, .int x4)]) (h : wb_X2_isIdle_49 T I Q o k13 Qk x2 x3 x4 s0) : W p l e R s m args below meth c H locs 0 0 (z_MQ below G z_none A T I Q (z_pz Qk T I Q) z_no args s 0 0) (F0 m 49 ls [.int s0]) := by
  obtain ⟨hx, hb, -⟩ := id X
  unfold wb_X2_isIdle_49 at h
  refine lv_iconst (v := 0) hx hb dX2_isIdle_49 (by decide) ?_
  exact ww_X2_isIdle_50 X ho hk13 hB (lv_sub hl [0, 1, 2] rfl) h
theorem wv_X2_isIdle_13 {T : z_T} {I : z_I} {Q : z_Q} {o : Nat} {Qk : Int32 → Prop} (X : z_X l G A p R s m args meth c cX2_isIdle 6 RX2 "isIdle" (some .boolean) 0 0 9 140) (ho : (T o).1 = 3) : ∀ (n : Nat) {x1 : Int32} {x2 : Option Nat} {x3 : Int32} {x4 : Int32} {H : Heap} {locs : List Loc} {ls : Array Slot}, z_HB G z_none A s.heap T I Q T I Q H locs → lv_has ls 6 [(1, .int x1), (2, va_rf x2), (3, .int x3), (4, .int x4)] → wl_X2_isIdle_13 T I Q o Qk n x1 x2 x3 x4 → W p l e R s m args below meth c H locs 0 0 (z_MQ below G z_none A T I Q (z_pz Qk T I Q) z_no args s 0 0) (F0 m 13 ls []) := by
  intro n
  induction n with
  | zero =>
    intro x1 x2 x3 x4 H locs ls hB hl h
    exact h.elim
  | succ n ih =>
    intro x1 x2 x3 x4 H locs ls hB hl h
    obtain ⟨hx, hb, -⟩ := id X
    unfold wl_X2_isIdle_13 at h
    refine lv_iload hx hb dX2_isIdle_13 (lv_at hl 3 rfl) ?_
    refine lv_iload_n hx hb dX2_isIdle_15 rfl (lv_at hl 2 rfl) ?_
    refine lv_icmp_ge (tgt := 58) hx hb dX2_isIdle_16 (by decide) (fun c4 => ?_) (fun c4 => ?_)
    · replace h := h.1 c4
      refine lv_iload_n hx hb dX2_isIdle_58 rfl (lv_at hl 0 rfl) ?_
      obtain ⟨hz, h⟩ := h
      exact z_zret X hB hz ⟨_, rfl, hz, h, rfl, rfl, rfl⟩ (Nat.le_refl 0) (Nat.le_refl 0) dX2_isIdle_59
    · replace h := h.2 c4
      refine z_aload_n (x := x2) hx hb dX2_isIdle_19 rfl (lv_at hl 1 rfl) ?_
      refine lv_iload hx hb dX2_isIdle_20 (lv_at hl 3 rfl) ?_
      obtain ⟨a5, rfl, h⟩ := h
      obtain ⟨hk_a5, h⟩ := h
      obtain ⟨h1, h⟩ := h
      refine z_aald (k := 4) X hB.1 (by decide) hk_a5 h1 dX2_isIdle_22 ?_
      obtain ⟨y6, ey6⟩ : ∃ z : Option Nat, z = (Q a5 x4.toNatClampNeg) := ⟨_, rfl⟩
      replace h := h y6 ey6
      refine z_stk (st' := [va_rf y6]) (by rw [ey6]) ?_
      refine z_astore (x := y6) (lv' := [(5, va_rf y6), (1, .int x1), (2, .ref a5), (3, .int x3), (4, .int x4)]) hx hb dX2_isIdle_23 hl (by decide) rfl (fun ls hl9 => ?_)
      replace hl := hl9
      clear hl9
      refine lv_iload_n hx hb dX2_isIdle_25 rfl (lv_at hl 1 rfl) ?_
      refine z_aload (x := y6) hx hb dX2_isIdle_26 (lv_at hl 0 rfl) ?_
      obtain ⟨a7, rfl, h⟩ := h
      obtain ⟨hk_a7, h⟩ := h
      refine z_getiN X hB.1 kc_X4 in_X4 (j := 4) (Nat.le_of_ble_eq_true rfl) q1188 (fun _ h => h) rfl (by decide) hk_a7 dX2_isIdle_28 ?_
      refine lv_if_ne (tgt := 49) hx hb dX2_isIdle_31 (by decide) (fun c8 => ?_) (fun c8 => ?_)
      · replace h := h.1 c8
        exact ww_X2_isIdle_49 X ho (fun hB hl h => ih hB hl h) hB (lv_sub hl [2, 3, 4] rfl) h
      · replace h := h.2 c8
        refine lv_aload (x := a7) hx hb dX2_isIdle_34 (lv_at hl 0 rfl) ?_
        refine z_getqN X hB.1 kc_X4 in_X4 (j := 2) (Nat.le_of_ble_eq_true rfl) q1183 (fun _ h => h) rfl (by decide) hk_a7 dX2_isIdle_36 ?_
        obtain ⟨a9, ea9, h⟩ := h
        refine z_stk (st' := [.ref a9, .int x1]) (by rw [ea9] <;> rfl) ?_
        obtain ⟨hk_a9, h⟩ := h
        refine z_callzp (z_runV (rest := [.int x1]) [] pk_J31_isEmpty (met_J31_isEmpty a9 _ h) X hB (fun h => h) q2939 kc_J31 (by decide) hk_a9 rfl hl.1 (Nat.le_of_ble_eq_true rfl) dX2_isIdle_39 (Nat.le_refl 0) (Nat.le_refl 0) (by decide) (by decide)) hB (fun r10 H locs hz h9 hB => ?_)
        replace h := h9
        clear h9
        replace h := h hz
        refine lv_if_eq (tgt := 49) hx hb dX2_isIdle_42 (by decide) (fun c11 => ?_) (fun c11 => ?_)
        · replace h := h.1 c11
          exact ww_X2_isIdle_49 X ho (fun hB hl h => ih hB hl h) hB (lv_sub hl [2, 3, 4] rfl) h
        · replace h := h.2 c11
          refine lv_iconst (v := 1) hx hb dX2_isIdle_45 (by decide) ?_
          refine lv_goto (tgt := 50) hx hb dX2_isIdle_46 (by decide) ?_
          exact ww_X2_isIdle_50 X ho (fun hB hl h => ih hB hl h) hB (lv_sub hl [2, 3, 4] rfl) h
theorem ww_X2_isIdle_0 {T : z_T} {I : z_I} {Q : z_Q} {o : Nat} {Qk : Int32 → Prop} (X : z_X l G A p R s m args meth c cX2_isIdle 6 RX2 "isIdle" (some .boolean) 0 0 9 140) (ho : (T o).1 = 3) {H : Heap} {locs : List Loc} {ls : Array Slot} (hB : z_HB G z_none A s.heap T I Q T I Q H locs) (hl : lv_has ls 6 [(0, .ref o)]) (h : wb_X2_isIdle_0 T I Q o Qk ) : W p l e R s m args below meth c H locs 0 0 (z_MQ below G z_none A T I Q (z_pz Qk T I Q) z_no args s 0 0) (F0 m 0 ls []) := by
  obtain ⟨hx, hb, -⟩ := id X
  unfold wb_X2_isIdle_0 at h
  refine lv_iconst (v := 1) hx hb dX2_isIdle_0 (by decide) ?_
  refine lv_istore_n (lv' := [(1, .int 1), (0, .ref o)]) hx hb dX2_isIdle_1 rfl hl (by decide) rfl (fun ls hl9 => ?_)
  replace hl := hl9
  clear hl9
  refine lv_aload_n (x := o) hx hb dX2_isIdle_2 rfl (lv_at hl 1 rfl) ?_
  refine z_getq X hB.1 kc_X2 in_X2 (j := 2) (Nat.le_of_ble_eq_true rfl) q1240 (fun _ h => h) rfl (by decide) ho dX2_isIdle_3 ?_
  obtain ⟨y1, ey1⟩ : ∃ z : Option Nat, z = (Q o 2) := ⟨_, rfl⟩
  replace h := h y1 ey1
  refine z_stk (st' := [va_rf y1]) (by rw [ey1]) ?_
  refine z_astore_n (x := y1) (lv' := [(2, va_rf y1), (1, .int 1), (0, .ref o)]) hx hb dX2_isIdle_6 rfl hl (by decide) rfl (fun ls hl9 => ?_)
  replace hl := hl9
  clear hl9
  refine z_aload_n (x := y1) hx hb dX2_isIdle_7 rfl (lv_at hl 0 rfl) ?_
  obtain ⟨a2, rfl, h⟩ := h
  obtain ⟨hk_a2, h⟩ := h
  refine z_alen (k := 4) X hB.1 (by decide) hk_a2 dX2_isIdle_8 ?_
  refine lv_topi (fun y3 ey3 => ?_)
  replace h := h y3 ey3
  refine lv_istore_n (lv' := [(3, .int y3), (2, .ref a2), (1, .int 1), (0, .ref o)]) hx hb dX2_isIdle_9 rfl hl (by decide) rfl (fun ls hl9 => ?_)
  replace hl := hl9
  clear hl9
  refine lv_iconst (v := 0) hx hb dX2_isIdle_10 (by decide) ?_
  refine lv_istore (lv' := [(4, .int 0), (3, .int y3), (2, .ref a2), (1, .int 1), (0, .ref o)]) hx hb dX2_isIdle_11 hl (by decide) rfl (fun ls hl9 => ?_)
  replace hl := hl9
  clear hl9
  obtain ⟨w, h⟩ := h
  exact wv_X2_isIdle_13 X ho  w hB (lv_sub hl [3, 2, 1, 0] rfl) h
theorem pk_X2_isIdle : z_PV RX2 yX2_isIdle cX2_isIdle 6 (some .boolean) 0 := ⟨q2936, q2937, q95, q2938, by decide +kernel⟩
theorem met_X2_isIdle {l : Launch} {G : z_E} {T : z_T} {I : z_I} {Q : z_Q} (o : Nat) (Qk : Int32 → Prop) (h : wp_X2_isIdle T I Q o Qk) : z_GM l G yX2_isIdle (ws_ yX2_isIdle cX2_isIdle 6 (some .boolean)) 9 140 0 0 [.ref o] z_none T I Q (z_pz Qk T I Q) z_no := by
  obtain ⟨ho, h⟩ := h
  refine z_body (own := RX2) (nm := "isIdle") (by decide +kernel) rfl rfl (Nat.le_of_ble_eq_true rfl) (fun p e R s m below meth c A ls X hB hl => ?_)
  exact ww_X2_isIdle_0 X ho hB hl h
/-! J47_init -/
theorem ww_J47_init_0 {co : Nat} {o : Nat} {Qk : z_T → z_I → z_Q → Prop} (X : z_X l G A p R s m args meth c cJ47_init 2 RJ47 "<init>" none 0 0 8 120) (ho : (T0 o).1 = 20) (hoc : (T0 o).2.2 = co) {T : z_T} {I : z_I} {Q : z_Q} {x1 : Option Nat} {H : Heap} {locs : List Loc} {ls : Array Slot} (hB : z_HB G (z_co co) A s.heap T0 I0 Q0 T I Q H locs) (hl : lv_has ls 2 [(0, .ref o), (1, va_rf x1)]) (h : wb_J47_init_0 co o Qk T I Q x1) : W p l e R s m args below meth c H locs 0 0 (z_MQ below G (z_co co) A T0 I0 Q0 (z_qv Qk) z_no args s 0 0) (F0 m 0 ls []) := by
  obtain ⟨hx, hb, -⟩ := id X
  unfold wb_J47_init_0 at h
  refine lv_aload_n (x := o) hx hb dJ47_init_0 rfl (lv_at hl 0 rfl) ?_
  refine z_aload_n (x := x1) hx hb dJ47_init_1 rfl (lv_at hl 1 rfl) ?_
  obtain ⟨Q1, eQ1⟩ : ∃ z, z = z_up Q o 3 x1 := ⟨_, rfl⟩
  replace h := h Q1 eQ1
  refine z_putqF (x := x1) eQ1 tyJ47 X hB kc_J47 in_J47 tyJ47_ok nmJ47 (j := 3) (Nat.le_of_ble_eq_true rfl) q2267 (fun _ h => h) rfl rfl rfl (by decide) (z_fo hB ho (by decide)) (z_foc hB ho (by decide) hoc) rfl (Or.inl ⟨_, rfl⟩) dJ47_init_2 (fun H locs hB => ?_)
  refine lv_aload_n (x := o) hx hb dJ47_init_5 rfl (lv_at hl 0 rfl) ?_
  refine z_objInit (rest := []) X q2263 hl.1 dJ47_init_6 (by decide) (Nat.le_of_ble_eq_true rfl) ?_
  refine lv_aload_n (x := o) hx hb dJ47_init_9 rfl (lv_at hl 0 rfl) ?_
  refine lv_iconst (v := (-1)) hx hb dJ47_init_10 (by decide) ?_
  obtain ⟨I2, eI2⟩ : ∃ z, z = z_up I o 1 (-1) := ⟨_, rfl⟩
  replace h := h I2 eI2
  refine z_puti (x := (-1)) eI2 tyJ47 X hB kc_J47 in_J47 tyJ47_ok nmJ47 (j := 1) (Nat.le_of_ble_eq_true rfl) q2265 (fun _ h => h) rfl rfl (by decide) (z_fo hB ho (by decide)) (z_foc hB ho (by decide) hoc) rfl (Or.inl rfl) dJ47_init_11 (fun H locs hB => ?_)
  refine lv_aload_n (x := o) hx hb dJ47_init_14 rfl (lv_at hl 0 rfl) ?_
  refine lv_aload_n (x := o) hx hb dJ47_init_15 rfl (lv_at hl 0 rfl) ?_
  refine z_getq X hB.1 kc_J47 in_J47 (j := 3) (Nat.le_of_ble_eq_true rfl) q2267 (fun _ h => h) rfl (by decide) (z_fo hB ho (by decide)) dJ47_init_16 ?_
  obtain ⟨a3, ea3, h⟩ := h
  refine z_stk (st' := [.ref a3, .ref o]) (by rw [ea3] <;> rfl) ?_
  obtain ⟨hk_a3, h⟩ := h
  refine z_geti X hB.1 kc_J30 in_J30 (j := 0) (Nat.le_of_ble_eq_true rfl) q1108 (z_same X q1109) rfl (by decide) hk_a3 dJ47_init_19 ?_
  obtain ⟨I4, eI4⟩ : ∃ z, z = z_up I2 o 2 (I2 a3 0) := ⟨_, rfl⟩
  replace h := h I4 eI4
  refine z_puti (x := (I2 a3 0)) eI4 tyJ47 X hB kc_J47 in_J47 tyJ47_ok nmJ47 (j := 2) (Nat.le_of_ble_eq_true rfl) q2266 (fun _ h => h) rfl rfl (by decide) (z_fo hB ho (by decide)) (z_foc hB ho (by decide) hoc) rfl (Or.inl rfl) dJ47_init_22 (fun H locs hB => ?_)
  exact z_vret X hB ⟨rfl, h⟩ (Nat.le_refl 0) (Nat.le_refl 0) dJ47_init_25
theorem pk_J47_init : z_PI yJ47_init cJ47_init 2 1 := ⟨q2261, q148, q2262, rfl, by decide +kernel⟩
theorem met_J47_init {l : Launch} {G : z_E} {T : z_T} {I : z_I} {Q : z_Q} (co : Nat) (o : Nat) (x1 : Option Nat) (Qk : z_T → z_I → z_Q → Prop) (h : wp_J47_init co T I Q o x1 Qk) : z_GM l G yJ47_init (ws_ yJ47_init cJ47_init 2 none) 8 120 0 0 [.ref o, va_rf x1] (z_co co) T I Q (z_qv Qk) z_no := by
  obtain ⟨ho, hoc, h⟩ := h
  refine z_body (own := RJ47) (nm := "<init>") (by decide +kernel) rfl rfl (by cases x1 <;> exact Nat.le_of_ble_eq_true rfl) (fun p e R s m below meth c A ls X hB hl => ?_)
  replace hl : lv_has ls 2 [(0, .ref o), (1, va_rf x1)] := by cases x1 <;> exact hl
  exact ww_J47_init_0 X ho hoc hB hl h
/-! J30_iterator -/
theorem ww_J30_iterator_0 {co : Nat} {o : Nat} {Qk : Option Nat → z_T → z_I → z_Q → Prop} (X : z_X l G A p R s m args meth c cJ30_iterator 1 RJ30 "iterator" (some (.object "java/util/Iterator")) mc ms 9 141) (ho : (T0 o).1 = 19) {cells slots : Nat} {T : z_T} {I : z_I} {Q : z_Q} {kc : Nat} {ks : Nat} {H : Heap} {locs : List Loc} {ls : Array Slot} (hB : z_HB G (z_co co) A s.heap T0 I0 Q0 T I Q H locs) (hK1 : cells + kc ≤ mc) (hK2 : slots + ks ≤ ms) (hl : lv_has ls 1 [(0, .ref o)]) (h : wb_J30_iterator_0 co o Qk T I Q kc ks) : W p l e R s m args below meth c H locs cells slots (z_MQ below G (z_co co) A T0 I0 Q0 (z_qr Qk) z_no args s mc ms) (F0 m 0 ls []) := by
  obtain ⟨hx, hb, -⟩ := id X
  unfold wb_J30_iterator_0 at h
  obtain ⟨g1, g2, h⟩ := h
  refine z_new (col := co) tyJ47 X hB kc_J47 in_J47 tyJ47_ok q2258 q2259 q148 (by decide) (z_dvJ47) rfl (z_k1 hK1 g1) (z_k1 hK2 g2) dJ30_iterator_0 (fun a1 H hq hB => ?_)
  obtain ⟨T2, eT2⟩ : ∃ z, z = z_t T a1 (20, 0, co) := ⟨_, rfl⟩
  obtain ⟨I3, eI3⟩ : ∃ z, z = z_row I a1 (fun _ => 0) := ⟨_, rfl⟩
  obtain ⟨Q4, eQ4⟩ : ∃ z, z = z_row Q a1 (fun _ => none) := ⟨_, rfl⟩
  rw [← eT2, ← eI3, ← eQ4] at hB
  replace h := h a1 T2 I3 Q4 hq eT2 eI3 eQ4
  have hk_a1 := z_tq eT2
  have hc_a1 : (T2 a1).2.2 = co := by rw [z_tqc eT2]
  replace hK1 := z_k2 hK1 g1
  replace hK2 := z_k2 hK2 g2
  refine lv_dup hx hb dJ30_iterator_3 rfl ?_
  refine lv_aload_n (x := o) hx hb dJ30_iterator_4 rfl (lv_at hl 0 rfl) ?_
  refine z_callv (z_runI (rest := [.ref a1]) [.ref o] pk_J47_init (met_J47_init co a1 o _ h) X hB hB.2.2.2.2.2.2 q2260 rfl hl.1 (Nat.le_of_ble_eq_true rfl) dJ30_iterator_5 (z_k4 hK1) (z_k4 hK2) (by decide) (by decide)) hB (fun _ h => h) (fun T6 I7 Q8 H locs h9 hF hB => ?_)
  replace h := h9
  clear h9
  replace h := h hF
  have hc_a1 : (T6 a1).2.2 = co := by rw [z_te hF hk_a1 (by decide)]; exact hc_a1
  have hk_a1 := z_tk hF hk_a1 (by decide)
  exact z_aret (v := (some a1)) X (by first | exact Or.inl ⟨_, rfl⟩ | exact Or.inr ⟨_, rfl⟩) hB ⟨_, rfl, h⟩ (z_k3 hK1) (z_k3 hK2) dJ30_iterator_8
theorem pk_J30_iterator : z_PV RJ30 yJ30_iterator cJ30_iterator 1 (some (.object "java/util/Iterator")) 0 := ⟨q2255, q2256, q127, q2257, by decide +kernel⟩
theorem met_J30_iterator {l : Launch} {G : z_E} {T : z_T} {I : z_I} {Q : z_Q} (co : Nat) (o : Nat) (kc : Nat) (ks : Nat) (Qk : Option Nat → z_T → z_I → z_Q → Prop) (h : wp_J30_iterator co T I Q o kc ks Qk) : z_GM l G yJ30_iterator (ws_ yJ30_iterator cJ30_iterator 1 (some (.object "java/util/Iterator"))) 9 141 kc ks [.ref o] (z_co co) T I Q (z_qr Qk) z_no := by
  obtain ⟨ho, h⟩ := h
  refine z_body (own := RJ30) (nm := "iterator") (by decide +kernel) rfl rfl (Nat.le_of_ble_eq_true rfl) (fun p e R s m below meth c A ls X hB hl => ?_)
  exact ww_J30_iterator_0 X ho hB z_k0 z_k0 hl h
/-! J22_isNaN -/
theorem ww_J22_isNaN_11 {Qk : Int32 → Prop} (X : z_X l G A p R s m args meth c cJ22_isNaN 1 RJ22 "isNaN" (some .boolean) 0 0 8 120) {s0 : Int32} {H : Heap} {locs : List Loc} {ls : Array Slot} (hB : z_HB G z_none A s.heap T I Q T I Q H locs) (hl : lv_has ls 1 []) (h : wb_J22_isNaN_11 Qk s0) : W p l e R s m args below meth c H locs 0 0 (z_MQ below G z_none A T I Q (z_pz Qk T I Q) z_no args s 0 0) (F0 m 11 ls [.int s0]) := by
  obtain ⟨hx, hb, -⟩ := id X
  unfold wb_J22_isNaN_11 at h
  obtain ⟨hz, h⟩ := h
  exact z_zret X hB hz ⟨_, rfl, hz, h, rfl, rfl, rfl⟩ (Nat.le_refl 0) (Nat.le_refl 0) dJ22_isNaN_11
theorem ww_J22_isNaN_0 {Qk : Int32 → Prop} (X : z_X l G A p R s m args meth c cJ22_isNaN 1 RJ22 "isNaN" (some .boolean) 0 0 8 120) {x0 : UInt32} {H : Heap} {locs : List Loc} {ls : Array Slot} (hB : z_HB G z_none A s.heap T I Q T I Q H locs) (hl : lv_has ls 1 [(0, .float x0)]) (h : wb_J22_isNaN_0 Qk x0) : W p l e R s m args below meth c H locs 0 0 (z_MQ below G z_none A T I Q (z_pz Qk T I Q) z_no args s 0 0) (F0 m 0 ls []) := by
  obtain ⟨hx, hb, -⟩ := id X
  unfold wb_J22_isNaN_0 at h
  refine lv_fload_n hx hb dJ22_isNaN_0 rfl (lv_at hl 0 rfl) ?_
  refine lv_fload_n hx hb dJ22_isNaN_1 rfl (lv_at hl 0 rfl) ?_
  refine lv_fcmp hx hb dJ22_isNaN_2 ?_
  refine lv_if_eq (tgt := 10) hx hb dJ22_isNaN_3 (by decide) (fun c1 => ?_) (fun c1 => ?_)
  · replace h := h.1 c1
    refine lv_iconst (v := 0) hx hb dJ22_isNaN_10 (by decide) ?_
    exact ww_J22_isNaN_11 X  hB (lv_sub hl [] rfl) h
  · replace h := h.2 c1
    refine lv_iconst (v := 1) hx hb dJ22_isNaN_6 (by decide) ?_
    refine lv_goto (tgt := 11) hx hb dJ22_isNaN_7 (by decide) ?_
    exact ww_J22_isNaN_11 X  hB (lv_sub hl [] rfl) h
theorem pk_J22_isNaN : z_PS yJ22_isNaN cJ22_isNaN 1 (some .boolean) 1 := ⟨q529, q119, q530, by decide +kernel⟩
theorem met_J22_isNaN {l : Launch} {G : z_E} {T : z_T} {I : z_I} {Q : z_Q} (x0 : UInt32) (Qk : Int32 → Prop) (h : wp_J22_isNaN x0 Qk) : z_GM l G yJ22_isNaN (ws_ yJ22_isNaN cJ22_isNaN 1 (some .boolean)) 8 120 0 0 [.float x0] z_none T I Q (z_pz Qk T I Q) z_no := by
  refine z_bodyF (own := RJ22) (nm := "isNaN") (by decide +kernel) rfl rfl (Nat.le_of_ble_eq_true rfl) (fun p e R s m below meth c A ls X hB hl => ?_)
  exact ww_J22_isNaN_0 X hB hl h
/-! J4_init -/
theorem ww_J4_init_0 {T : z_T} {I : z_I} {Q : z_Q} {o : Nat} {Qk : Prop} (X : z_X l G A p R s m args meth c cJ4_init 1 RJ4 "<init>" none 0 0 8 120) (ho : (T o).1 = 22) {H : Heap} {locs : List Loc} {ls : Array Slot} (hB : z_HB G z_none A s.heap T I Q T I Q H locs) (hl : lv_has ls 1 [(0, .ref o)]) (h : wb_J4_init_0 T I Q o Qk ) : W p l e R s m args below meth c H locs 0 0 (z_MQ below G z_none A T I Q (z_pv Qk T I Q) z_no args s 0 0) (F0 m 0 ls []) := by
  obtain ⟨hx, hb, -⟩ := id X
  unfold wb_J4_init_0 at h
  refine lv_aload_n (x := o) hx hb dJ4_init_0 rfl (lv_at hl 0 rfl) ?_
  refine z_objInit (rest := []) X q205 hl.1 dJ4_init_1 (by decide) (Nat.le_of_ble_eq_true rfl) ?_
  exact z_vret X hB ⟨rfl, h, rfl, rfl, rfl⟩ (Nat.le_refl 0) (Nat.le_refl 0) dJ4_init_4
theorem pk_J4_init : z_PI yJ4_init cJ4_init 1 0 := ⟨q203, q100, q204, rfl, by decide +kernel⟩
theorem met_J4_init {l : Launch} {G : z_E} {T : z_T} {I : z_I} {Q : z_Q} (o : Nat) (Qk : Prop) (h : wp_J4_init T I Q o Qk) : z_GM l G yJ4_init (ws_ yJ4_init cJ4_init 1 none) 8 120 0 0 [.ref o] z_none T I Q (z_pv Qk T I Q) z_no := by
  obtain ⟨ho, h⟩ := h
  refine z_body (own := RJ4) (nm := "<init>") (by decide +kernel) rfl rfl (Nat.le_of_ble_eq_true rfl) (fun p e R s m below meth c A ls X hB hl => ?_)
  exact ww_J4_init_0 X ho hB hl h
/-! J21_numberOfLeadingZeros -/
theorem ww_J21_numberOfLeadingZeros_14 {Qk : Int32 → Prop} (X : z_X l G A p R s m args meth c cJ21_numberOfLeadingZeros 2 RJ21 "numberOfLeadingZeros" (some .int) 0 0 8 120) {s0 : Int32} {H : Heap} {locs : List Loc} {ls : Array Slot} (hB : z_HB G z_none A s.heap T I Q T I Q H locs) (hl : lv_has ls 2 []) (h : wb_J21_numberOfLeadingZeros_14 Qk s0) : W p l e R s m args below meth c H locs 0 0 (z_MQ below G z_none A T I Q (z_pi Qk T I Q) z_no args s 0 0) (F0 m 14 ls [.int s0]) := by
  obtain ⟨hx, hb, -⟩ := id X
  unfold wb_J21_numberOfLeadingZeros_14 at h
  exact z_iret X hB ⟨_, rfl, h, rfl, rfl, rfl⟩ (Nat.le_refl 0) (Nat.le_refl 0) dJ21_numberOfLeadingZeros_14
theorem ww_J21_numberOfLeadingZeros_73 {Qk : Int32 → Prop} (X : z_X l G A p R s m args meth c cJ21_numberOfLeadingZeros 2 RJ21 "numberOfLeadingZeros" (some .int) 0 0 8 120) {x0 : Int32} {x1 : Int32} {H : Heap} {locs : List Loc} {ls : Array Slot} (hB : z_HB G z_none A s.heap T I Q T I Q H locs) (hl : lv_has ls 2 [(0, .int x0), (1, .int x1)]) (h : wb_J21_numberOfLeadingZeros_73 Qk x0 x1) : W p l e R s m args below meth c H locs 0 0 (z_MQ below G z_none A T I Q (z_pi Qk T I Q) z_no args s 0 0) (F0 m 73 ls []) := by
  obtain ⟨hx, hb, -⟩ := id X
  unfold wb_J21_numberOfLeadingZeros_73 at h
  refine lv_iload_n hx hb dJ21_numberOfLeadingZeros_73 rfl (lv_at hl 1 rfl) ?_
  refine lv_iload_n hx hb dJ21_numberOfLeadingZeros_74 rfl (lv_at hl 0 rfl) ?_
  refine lv_iconst (v := 1) hx hb dJ21_numberOfLeadingZeros_75 (by decide) ?_
  refine lv_iushr hx hb dJ21_numberOfLeadingZeros_76 rfl ?_
  refine lv_isub hx hb dJ21_numberOfLeadingZeros_77 ?_
  exact z_iret X hB ⟨_, rfl, h, rfl, rfl, rfl⟩ (Nat.le_refl 0) (Nat.le_refl 0) dJ21_numberOfLeadingZeros_78
theorem ww_J21_numberOfLeadingZeros_61 {Qk : Int32 → Prop} (X : z_X l G A p R s m args meth c cJ21_numberOfLeadingZeros 2 RJ21 "numberOfLeadingZeros" (some .int) 0 0 8 120) {x0 : Int32} {x1 : Int32} {H : Heap} {locs : List Loc} {ls : Array Slot} (hB : z_HB G z_none A s.heap T I Q T I Q H locs) (hl : lv_has ls 2 [(0, .int x0), (1, .int x1)]) (h : wb_J21_numberOfLeadingZeros_61 Qk x0 x1) : W p l e R s m args below meth c H locs 0 0 (z_MQ below G z_none A T I Q (z_pi Qk T I Q) z_no args s 0 0) (F0 m 61 ls []) := by
  obtain ⟨hx, hb, -⟩ := id X
  unfold wb_J21_numberOfLeadingZeros_61 at h
  refine lv_iload_n hx hb dJ21_numberOfLeadingZeros_61 rfl (lv_at hl 0 rfl) ?_
  refine lv_iconst (v := 4) hx hb dJ21_numberOfLeadingZeros_62 (by decide) ?_
  refine lv_icmp_lt (tgt := 73) hx hb dJ21_numberOfLeadingZeros_63 (by decide) (fun c12 => ?_) (fun c12 => ?_)
  · replace h := h.1 c12
    exact ww_J21_numberOfLeadingZeros_73 X  hB (lv_sub hl [0, 1] rfl) h
  · replace h := h.2 c12
    obtain ⟨y13, ey13⟩ : ∃ z : Int32, z = x1 + (-2) := ⟨_, rfl⟩
    replace h := h y13 ey13
    refine lv_iinc (v := y13) (lv' := [(1, .int y13), (0, .int x0)]) hx hb dJ21_numberOfLeadingZeros_66 hl (k := 1) rfl (by rw [ey13]; rfl) (by decide) rfl (fun ls hl9 => ?_)
    replace hl := hl9
    clear hl9
    refine lv_iload_n hx hb dJ21_numberOfLeadingZeros_69 rfl (lv_at hl 1 rfl) ?_
    refine lv_iconst (v := 2) hx hb dJ21_numberOfLeadingZeros_70 (by decide) ?_
    refine lv_iushr hx hb dJ21_numberOfLeadingZeros_71 rfl ?_
    refine lv_topi (fun y14 ey14 => ?_)
    replace h := h y14 ey14
    refine lv_istore_n (lv' := [(0, .int y14), (1, .int y13)]) hx hb dJ21_numberOfLeadingZeros_72 rfl hl (by decide) rfl (fun ls hl9 => ?_)
    replace hl := hl9
    clear hl9
    exact ww_J21_numberOfLeadingZeros_73 X  hB (lv_sub hl [0, 1] rfl) h
theorem ww_J21_numberOfLeadingZeros_48 {Qk : Int32 → Prop} (X : z_X l G A p R s m args meth c cJ21_numberOfLeadingZeros 2 RJ21 "numberOfLeadingZeros" (some .int) 0 0 8 120) {x0 : Int32} {x1 : Int32} {H : Heap} {locs : List Loc} {ls : Array Slot} (hB : z_HB G z_none A s.heap T I Q T I Q H locs) (hl : lv_has ls 2 [(0, .int x0), (1, .int x1)]) (h : wb_J21_numberOfLeadingZeros_48 Qk x0 x1) : W p l e R s m args below meth c H locs 0 0 (z_MQ below G z_none A T I Q (z_pi Qk T I Q) z_no args s 0 0) (F0 m 48 ls []) := by
  obtain ⟨hx, hb, -⟩ := id X
  unfold wb_J21_numberOfLeadingZeros_48 at h
  refine lv_iload_n hx hb dJ21_numberOfLeadingZeros_48 rfl (lv_at hl 0 rfl) ?_
  refine lv_bipush (v := 16) hx hb dJ21_numberOfLeadingZeros_49 (by decide) ?_
  refine lv_icmp_lt (tgt := 61) hx hb dJ21_numberOfLeadingZeros_51 (by decide) (fun c9 => ?_) (fun c9 => ?_)
  · replace h := h.1 c9
    exact ww_J21_numberOfLeadingZeros_61 X  hB (lv_sub hl [0, 1] rfl) h
  · replace h := h.2 c9
    obtain ⟨y10, ey10⟩ : ∃ z : Int32, z = x1 + (-4) := ⟨_, rfl⟩
    replace h := h y10 ey10
    refine lv_iinc (v := y10) (lv' := [(1, .int y10), (0, .int x0)]) hx hb dJ21_numberOfLeadingZeros_54 hl (k := 1) rfl (by rw [ey10]; rfl) (by decide) rfl (fun ls hl9 => ?_)
    replace hl := hl9
    clear hl9
    refine lv_iload_n hx hb dJ21_numberOfLeadingZeros_57 rfl (lv_at hl 1 rfl) ?_
    refine lv_iconst (v := 4) hx hb dJ21_numberOfLeadingZeros_58 (by decide) ?_
    refine lv_iushr hx hb dJ21_numberOfLeadingZeros_59 rfl ?_
    refine lv_topi (fun y11 ey11 => ?_)
    replace h := h y11 ey11
    refine lv_istore_n (lv' := [(0, .int y11), (1, .int y10)]) hx hb dJ21_numberOfLeadingZeros_60 rfl hl (by decide) rfl (fun ls hl9 => ?_)
    replace hl := hl9
    clear hl9
    exact ww_J21_numberOfLeadingZeros_61 X  hB (lv_sub hl [0, 1] rfl) h
theorem ww_J21_numberOfLeadingZeros_33 {Qk : Int32 → Prop} (X : z_X l G A p R s m args meth c cJ21_numberOfLeadingZeros 2 RJ21 "numberOfLeadingZeros" (some .int) 0 0 8 120) {x0 : Int32} {x1 : Int32} {H : Heap} {locs : List Loc} {ls : Array Slot} (hB : z_HB G z_none A s.heap T I Q T I Q H locs) (hl : lv_has ls 2 [(0, .int x0), (1, .int x1)]) (h : wb_J21_numberOfLeadingZeros_33 Qk x0 x1) : W p l e R s m args below meth c H locs 0 0 (z_MQ below G z_none A T I Q (z_pi Qk T I Q) z_no args s 0 0) (F0 m 33 ls []) := by
  obtain ⟨hx, hb, -⟩ := id X
  unfold wb_J21_numberOfLeadingZeros_33 at h
  refine lv_iload_n hx hb dJ21_numberOfLeadingZeros_33 rfl (lv_at hl 0 rfl) ?_
  refine lv_sipush (v := 256) hx hb dJ21_numberOfLeadingZeros_34 (by decide) ?_
  refine lv_icmp_lt (tgt := 48) hx hb dJ21_numberOfLeadingZeros_37 (by decide) (fun c6 => ?_) (fun c6 => ?_)
  · replace h := h.1 c6
    exact ww_J21_numberOfLeadingZeros_48 X  hB (lv_sub hl [0, 1] rfl) h
  · replace h := h.2 c6
    obtain ⟨y7, ey7⟩ : ∃ z : Int32, z = x1 + (-8) := ⟨_, rfl⟩
    replace h := h y7 ey7
    refine lv_iinc (v := y7) (lv' := [(1, .int y7), (0, .int x0)]) hx hb dJ21_numberOfLeadingZeros_40 hl (k := 1) rfl (by rw [ey7]; rfl) (by decide) rfl (fun ls hl9 => ?_)
    replace hl := hl9
    clear hl9
    refine lv_iload_n hx hb dJ21_numberOfLeadingZeros_43 rfl (lv_at hl 1 rfl) ?_
    refine lv_bipush (v := 8) hx hb dJ21_numberOfLeadingZeros_44 (by decide) ?_
    refine lv_iushr hx hb dJ21_numberOfLeadingZeros_46 rfl ?_
    refine lv_topi (fun y8 ey8 => ?_)
    replace h := h y8 ey8
    refine lv_istore_n (lv' := [(0, .int y8), (1, .int y7)]) hx hb dJ21_numberOfLeadingZeros_47 rfl hl (by decide) rfl (fun ls hl9 => ?_)
    replace hl := hl9
    clear hl9
    exact ww_J21_numberOfLeadingZeros_48 X  hB (lv_sub hl [0, 1] rfl) h
theorem ww_J21_numberOfLeadingZeros_0 {Qk : Int32 → Prop} (X : z_X l G A p R s m args meth c cJ21_numberOfLeadingZeros 2 RJ21 "numberOfLeadingZeros" (some .int) 0 0 8 120) {x0 : Int32} {H : Heap} {locs : List Loc} {ls : Array Slot} (hB : z_HB G z_none A s.heap T I Q T I Q H locs) (hl : lv_has ls 2 [(0, .int x0)]) (h : wb_J21_numberOfLeadingZeros_0 Qk x0) : W p l e R s m args below meth c H locs 0 0 (z_MQ below G z_none A T I Q (z_pi Qk T I Q) z_no args s 0 0) (F0 m 0 ls []) := by
  obtain ⟨hx, hb, -⟩ := id X
  unfold wb_J21_numberOfLeadingZeros_0 at h
  refine lv_iload_n hx hb dJ21_numberOfLeadingZeros_0 rfl (lv_at hl 0 rfl) ?_
  refine lv_if_gt (tgt := 15) hx hb dJ21_numberOfLeadingZeros_1 (by decide) (fun c1 => ?_) (fun c1 => ?_)
  · replace h := h.1 c1
    refine lv_bipush (v := 31) hx hb dJ21_numberOfLeadingZeros_15 (by decide) ?_
    refine lv_istore_n (lv' := [(1, .int 31), (0, .int x0)]) hx hb dJ21_numberOfLeadingZeros_17 rfl hl (by decide) rfl (fun ls hl9 => ?_)
    replace hl := hl9
    clear hl9
    refine lv_iload_n hx hb dJ21_numberOfLeadingZeros_18 rfl (lv_at hl 1 rfl) ?_
    refine lv_ldcw hx hb X.2.2.2.1 (X.2.2.2.2.1 _ q579) dJ21_numberOfLeadingZeros_19 ?_
    refine lv_icmp_lt (tgt := 33) hx hb dJ21_numberOfLeadingZeros_22 (by decide) (fun c2 => ?_) (fun c2 => ?_)
    · replace h := h.1 c2
      exact ww_J21_numberOfLeadingZeros_33 X  hB (lv_sub hl [1, 0] rfl) h
    · replace h := h.2 c2
      obtain ⟨y3, ey3⟩ : ∃ z : Int32, z = 31 + (-16) := ⟨_, rfl⟩
      replace h := h y3 ey3
      refine lv_iinc (v := y3) (lv' := [(1, .int y3), (0, .int x0)]) hx hb dJ21_numberOfLeadingZeros_25 hl (k := 0) rfl (by rw [ey3]; rfl) (by decide) rfl (fun ls hl9 => ?_)
      replace hl := hl9
      clear hl9
      refine lv_iload_n hx hb dJ21_numberOfLeadingZeros_28 rfl (lv_at hl 1 rfl) ?_
      refine lv_bipush (v := 16) hx hb dJ21_numberOfLeadingZeros_29 (by decide) ?_
      refine lv_iushr hx hb dJ21_numberOfLeadingZeros_31 rfl ?_
      refine lv_topi (fun y4 ey4 => ?_)
      replace h := h y4 ey4
      refine lv_istore_n (lv' := [(0, .int y4), (1, .int y3)]) hx hb dJ21_numberOfLeadingZeros_32 rfl hl (by decide) rfl (fun ls hl9 => ?_)
      replace hl := hl9
      clear hl9
      exact ww_J21_numberOfLeadingZeros_33 X  hB (lv_sub hl [0, 1] rfl) h
  · replace h := h.2 c1
    refine lv_iload_n hx hb dJ21_numberOfLeadingZeros_4 rfl (lv_at hl 0 rfl) ?_
    refine lv_if_ne (tgt := 13) hx hb dJ21_numberOfLeadingZeros_5 (by decide) (fun c5 => ?_) (fun c5 => ?_)
    · replace h := h.1 c5
      refine lv_iconst (v := 0) hx hb dJ21_numberOfLeadingZeros_13 (by decide) ?_
      exact ww_J21_numberOfLeadingZeros_14 X  hB (lv_sub hl [] rfl) h
    · replace h := h.2 c5
      refine lv_bipush (v := 32) hx hb dJ21_numberOfLeadingZeros_8 (by decide) ?_
      refine lv_goto (tgt := 14) hx hb dJ21_numberOfLeadingZeros_10 (by decide) ?_
      exact ww_J21_numberOfLeadingZeros_14 X  hB (lv_sub hl [] rfl) h
theorem pk_J21_numberOfLeadingZeros : z_PS yJ21_numberOfLeadingZeros cJ21_numberOfLeadingZeros 2 (some .int) 1 := ⟨q577, q118, q578, by decide +kernel⟩
theorem met_J21_numberOfLeadingZeros {l : Launch} {G : z_E} {T : z_T} {I : z_I} {Q : z_Q} (x0 : Int32) (Qk : Int32 → Prop) (h : wp_J21_numberOfLeadingZeros x0 Qk) : z_GM l G yJ21_numberOfLeadingZeros (ws_ yJ21_numberOfLeadingZeros cJ21_numberOfLeadingZeros 2 (some .int)) 8 120 0 0 [.int x0] z_none T I Q (z_pi Qk T I Q) z_no := by
  refine z_body (own := RJ21) (nm := "numberOfLeadingZeros") (by decide +kernel) rfl rfl (Nat.le_of_ble_eq_true rfl) (fun p e R s m below meth c A ls X hB hl => ?_)
  exact ww_J21_numberOfLeadingZeros_0 X hB hl h
/-! J5_tableSizeFor -/
theorem ww_J5_tableSizeFor_31 {Qk : Int32 → Prop} (X : z_X l G A p R s m args meth c cJ5_tableSizeFor 2 RJ5 "tableSizeFor" (some .int) 0 0 9 141) {s0 : Int32} {H : Heap} {locs : List Loc} {ls : Array Slot} (hB : z_HB G z_none A s.heap T I Q T I Q H locs) (hl : lv_has ls 2 []) (h : wb_J5_tableSizeFor_31 Qk s0) : W p l e R s m args below meth c H locs 0 0 (z_MQ below G z_none A T I Q (z_pi Qk T I Q) z_no args s 0 0) (F0 m 31 ls [.int s0]) := by
  obtain ⟨hx, hb, -⟩ := id X
  unfold wb_J5_tableSizeFor_31 at h
  exact z_iret X hB ⟨_, rfl, h, rfl, rfl, rfl⟩ (Nat.le_refl 0) (Nat.le_refl 0) dJ5_tableSizeFor_31
theorem ww_J5_tableSizeFor_0 {Qk : Int32 → Prop} (X : z_X l G A p R s m args meth c cJ5_tableSizeFor 2 RJ5 "tableSizeFor" (some .int) 0 0 9 141) {x0 : Int32} {H : Heap} {locs : List Loc} {ls : Array Slot} (hB : z_HB G z_none A s.heap T I Q T I Q H locs) (hl : lv_has ls 2 [(0, .int x0)]) (h : wb_J5_tableSizeFor_0 Qk x0) : W p l e R s m args below meth c H locs 0 0 (z_MQ below G z_none A T I Q (z_pi Qk T I Q) z_no args s 0 0) (F0 m 0 ls []) := by
  obtain ⟨hx, hb, -⟩ := id X
  unfold wb_J5_tableSizeFor_0 at h
  refine lv_iconst (v := (-1)) hx hb dJ5_tableSizeFor_0 (by decide) ?_
  refine lv_iload_n hx hb dJ5_tableSizeFor_1 rfl (lv_at hl 0 rfl) ?_
  refine lv_iconst (v := 1) hx hb dJ5_tableSizeFor_2 (by decide) ?_
  refine lv_isub hx hb dJ5_tableSizeFor_3 ?_
  refine z_callip (z_runS (rest := [.int (-1)]) [.int (x0 - 1)] pk_J21_numberOfLeadingZeros (met_J21_numberOfLeadingZeros (x0 - 1) _ h) X hB (fun h => h) q1037 rfl hl.1 (Nat.le_of_ble_eq_true rfl) dJ5_tableSizeFor_4 (Nat.le_refl 0) (Nat.le_refl 0) (by decide) (by decide)) hB (fun r1 H locs h9 hB => ?_)
  replace h := h9
  clear h9
  refine lv_iushr hx hb dJ5_tableSizeFor_7 rfl ?_
  refine lv_topi (fun y2 ey2 => ?_)
  replace h := h y2 ey2
  refine lv_istore_n (lv' := [(1, .int y2), (0, .int x0)]) hx hb dJ5_tableSizeFor_8 rfl hl (by decide) rfl (fun ls hl9 => ?_)
  replace hl := hl9
  clear hl9
  refine lv_iload_n hx hb dJ5_tableSizeFor_9 rfl (lv_at hl 0 rfl) ?_
  refine lv_if_ge (tgt := 17) hx hb dJ5_tableSizeFor_10 (by decide) (fun c3 => ?_) (fun c3 => ?_)
  · replace h := h.1 c3
    refine lv_iload_n hx hb dJ5_tableSizeFor_17 rfl (lv_at hl 0 rfl) ?_
    refine lv_ldc hx hb X.2.2.2.1 (X.2.2.2.2.1 _ q527) dJ5_tableSizeFor_18 ?_
    refine lv_icmp_lt (tgt := 28) hx hb dJ5_tableSizeFor_20 (by decide) (fun c4 => ?_) (fun c4 => ?_)
    · replace h := h.1 c4
      refine lv_iload_n hx hb dJ5_tableSizeFor_28 rfl (lv_at hl 0 rfl) ?_
      refine lv_iconst (v := 1) hx hb dJ5_tableSizeFor_29 (by decide) ?_
      refine lv_iadd hx hb dJ5_tableSizeFor_30 ?_
      exact ww_J5_tableSizeFor_31 X  hB (lv_sub hl [] rfl) h
    · replace h := h.2 c4
      refine lv_ldc hx hb X.2.2.2.1 (X.2.2.2.2.1 _ q527) dJ5_tableSizeFor_23 ?_
      refine lv_goto (tgt := 31) hx hb dJ5_tableSizeFor_25 (by decide) ?_
      exact ww_J5_tableSizeFor_31 X  hB (lv_sub hl [] rfl) h
  · replace h := h.2 c3
    refine lv_iconst (v := 1) hx hb dJ5_tableSizeFor_13 (by decide) ?_
    refine lv_goto (tgt := 31) hx hb dJ5_tableSizeFor_14 (by decide) ?_
    exact ww_J5_tableSizeFor_31 X  hB (lv_sub hl [] rfl) h
theorem pk_J5_tableSizeFor : z_PS yJ5_tableSizeFor cJ5_tableSizeFor 2 (some .int) 1 := ⟨q1035, q101, q1036, by decide +kernel⟩
theorem met_J5_tableSizeFor {l : Launch} {G : z_E} {T : z_T} {I : z_I} {Q : z_Q} (x0 : Int32) (Qk : Int32 → Prop) (h : wp_J5_tableSizeFor x0 Qk) : z_GM l G yJ5_tableSizeFor (ws_ yJ5_tableSizeFor cJ5_tableSizeFor 2 (some .int)) 9 141 0 0 [.int x0] z_none T I Q (z_pi Qk T I Q) z_no := by
  refine z_body (own := RJ5) (nm := "tableSizeFor") (by decide +kernel) rfl rfl (Nat.le_of_ble_eq_true rfl) (fun p e R s m below meth c A ls X hB hl => ?_)
  exact ww_J5_tableSizeFor_0 X hB hl h
/-! J5_init -/
theorem ww_J5_init_57 {co : Nat} {o : Nat} {Qk : z_T → z_I → z_Q → Prop} (X : z_X l G A p R s m args meth c cJ5_init 3 RJ5 "<init>" none mc ms 10 162) (ho : (T0 o).1 = 22) (hoc : (T0 o).2.2 = co) {cells slots : Nat} {T : z_T} {I : z_I} {Q : z_Q} {kc : Nat} {ks : Nat} {x2 : UInt32} {H : Heap} {locs : List Loc} {ls : Array Slot} (hB : z_HB G (z_co co) A s.heap T0 I0 Q0 T I Q H locs) (hK1 : cells + kc ≤ mc) (hK2 : slots + ks ≤ ms) (hl : lv_has ls 3 [(2, .float x2)]) (h : wb_J5_init_57 co o Qk T I Q kc ks x2) : W p l e R s m args below meth c H locs cells slots (z_MQ below G (z_co co) A T0 I0 Q0 (z_qv Qk) z_no args s mc ms) (F0 m 57 ls []) := by
  obtain ⟨hx, hb, -⟩ := id X
  unfold wb_J5_init_57 at h
  exact h.elim
theorem ww_J5_init_44 {co : Nat} {o : Nat} {Qk : z_T → z_I → z_Q → Prop} (X : z_X l G A p R s m args meth c cJ5_init 3 RJ5 "<init>" none mc ms 10 162) (ho : (T0 o).1 = 22) (hoc : (T0 o).2.2 = co) {cells slots : Nat} {T : z_T} {I : z_I} {Q : z_Q} {kc : Nat} {ks : Nat} {x1 : Int32} {x2 : UInt32} {H : Heap} {locs : List Loc} {ls : Array Slot} (hB : z_HB G (z_co co) A s.heap T0 I0 Q0 T I Q H locs) (hK1 : cells + kc ≤ mc) (hK2 : slots + ks ≤ ms) (hl : lv_has ls 3 [(0, .ref o), (1, .int x1), (2, .float x2)]) (h : wb_J5_init_44 co o Qk T I Q kc ks x1 x2) : W p l e R s m args below meth c H locs cells slots (z_MQ below G (z_co co) A T0 I0 Q0 (z_qv Qk) z_no args s mc ms) (F0 m 44 ls []) := by
  obtain ⟨hx, hb, -⟩ := id X
  unfold wb_J5_init_44 at h
  refine lv_fload_n hx hb dJ5_init_44 rfl (lv_at hl 2 rfl) ?_
  refine lv_fconst0 hx hb dJ5_init_45 ?_
  refine lv_fcmp hx hb dJ5_init_46 ?_
  refine lv_if_le (tgt := 57) hx hb dJ5_init_47 (by decide) (fun c4 => ?_) (fun c4 => ?_)
  · replace h := h.1 c4
    exact ww_J5_init_57 X ho hoc  hB hK1 hK2 (lv_sub hl [2] rfl) h
  · replace h := h.2 c4
    refine lv_fload_n hx hb dJ5_init_50 rfl (lv_at hl 2 rfl) ?_
    refine z_callzp (z_runS (rest := []) [.float x2] pk_J22_isNaN (met_J22_isNaN x2 _ h) X hB (fun h => h) q528 rfl hl.1 (Nat.le_of_ble_eq_true rfl) dJ5_init_51 (z_k4 hK1) (z_k4 hK2) (by decide) (by decide)) hB (fun r5 H locs hz h9 hB => ?_)
    replace h := h9
    clear h9
    replace h := h hz
    refine lv_if_eq (tgt := 84) hx hb dJ5_init_54 (by decide) (fun c6 => ?_) (fun c6 => ?_)
    · replace h := h.1 c6
      refine lv_aload_n (x := o) hx hb dJ5_init_84 rfl (lv_at hl 0 rfl) ?_
      refine lv_fload_n hx hb dJ5_init_85 rfl (lv_at hl 2 rfl) ?_
      obtain ⟨I7, eI7⟩ : ∃ z, z = z_up I o 5 x2.toInt32 := ⟨_, rfl⟩
      replace h := h I7 eI7
      refine z_putfF (x := x2) eI7 tyJ6 X hB kc_J6 in_J6 tyJ6_ok nmJ6 (j := 5) (Nat.le_of_ble_eq_true rfl) q1054 (fun _ h => h) rfl rfl rfl (by decide) (z_fo hB ho (by decide)) (z_foc hB ho (by decide) hoc) rfl  dJ5_init_86 (fun H locs hB => ?_)
      refine lv_aload_n (x := o) hx hb dJ5_init_89 rfl (lv_at hl 0 rfl) ?_
      refine lv_iload_n hx hb dJ5_init_90 rfl (lv_at hl 1 rfl) ?_
      refine z_callip (z_runS (rest := [.ref o]) [.int x1] pk_J5_tableSizeFor (met_J5_tableSizeFor x1 _ h) X hB (fun h => h) q1034 rfl hl.1 (Nat.le_of_ble_eq_true rfl) dJ5_init_91 (z_k4 hK1) (z_k4 hK2) (by decide) (by decide)) hB (fun r8 H locs h9 hB => ?_)
      replace h := h9
      clear h9
      obtain ⟨I9, eI9⟩ : ∃ z, z = z_up I7 o 4 r8 := ⟨_, rfl⟩
      replace h := h I9 eI9
      refine z_puti (x := r8) eI9 tyJ6 X hB kc_J6 in_J6 tyJ6_ok nmJ6 (j := 4) (Nat.le_of_ble_eq_true rfl) q1053 (fun _ h => h) rfl rfl (by decide) (z_fo hB ho (by decide)) (z_foc hB ho (by decide) hoc) rfl (Or.inl rfl) dJ5_init_94 (fun H locs hB => ?_)
      exact z_vret X hB ⟨rfl, h⟩ (z_k3 hK1) (z_k3 hK2) dJ5_init_97
    · replace h := h.2 c6
      exact ww_J5_init_57 X ho hoc  hB hK1 hK2 (lv_sub hl [2] rfl) h
theorem ww_J5_init_0 {co : Nat} {o : Nat} {Qk : z_T → z_I → z_Q → Prop} (X : z_X l G A p R s m args meth c cJ5_init 3 RJ5 "<init>" none mc ms 10 162) (ho : (T0 o).1 = 22) (hoc : (T0 o).2.2 = co) {cells slots : Nat} {T : z_T} {I : z_I} {Q : z_Q} {kc : Nat} {ks : Nat} {x1 : Int32} {x2 : UInt32} {H : Heap} {locs : List Loc} {ls : Array Slot} (hB : z_HB G (z_co co) A s.heap T0 I0 Q0 T I Q H locs) (hK1 : cells + kc ≤ mc) (hK2 : slots + ks ≤ ms) (hl : lv_has ls 3 [(0, .ref o), (1, .int x1), (2, .float x2)]) (h : wb_J5_init_0 co o Qk T I Q kc ks x1 x2) : W p l e R s m args below meth c H locs cells slots (z_MQ below G (z_co co) A T0 I0 Q0 (z_qv Qk) z_no args s mc ms) (F0 m 0 ls []) := by
  obtain ⟨hx, hb, -⟩ := id X
  unfold wb_J5_init_0 at h
  refine lv_aload_n (x := o) hx hb dJ5_init_0 rfl (lv_at hl 0 rfl) ?_
  refine z_callvp (z_runI (rest := []) [] pk_J4_init (met_J4_init o _ h) X hB (fun h => h) q202 rfl hl.1 (Nat.le_of_ble_eq_true rfl) dJ5_init_1 (z_k4 hK1) (z_k4 hK2) (by decide) (by decide)) hB (fun H locs h9 hB => ?_)
  replace h := h9
  clear h9
  refine lv_iload_n hx hb dJ5_init_4 rfl (lv_at hl 1 rfl) ?_
  refine lv_if_ge (tgt := 35) hx hb dJ5_init_5 (by decide) (fun c2 => ?_) (fun c2 => ?_)
  · replace h := h.1 c2
    refine lv_iload_n hx hb dJ5_init_35 rfl (lv_at hl 1 rfl) ?_
    refine lv_ldc hx hb X.2.2.2.1 (X.2.2.2.2.1 _ q527) dJ5_init_36 ?_
    refine lv_icmp_le (tgt := 44) hx hb dJ5_init_38 (by decide) (fun c3 => ?_) (fun c3 => ?_)
    · replace h := h.1 c3
      exact ww_J5_init_44 X ho hoc  hB hK1 hK2 (lv_sub hl [0, 1, 2] rfl) h
    · replace h := h.2 c3
      refine lv_ldc hx hb X.2.2.2.1 (X.2.2.2.2.1 _ q527) dJ5_init_41 ?_
      refine lv_istore_n (lv' := [(1, .int 1073741824), (0, .ref o), (2, .float x2)]) hx hb dJ5_init_43 rfl hl (by decide) rfl (fun ls hl9 => ?_)
      replace hl := hl9
      clear hl9
      exact ww_J5_init_44 X ho hoc  hB hK1 hK2 (lv_sub hl [1, 0, 2] rfl) h
  · replace h := h.2 c2
    exact h.elim
theorem pk_J5_init : z_PI yJ5_init cJ5_init 3 2 := ⟨q200, q101, q201, rfl, by decide +kernel⟩
theorem met_J5_init {l : Launch} {G : z_E} {T : z_T} {I : z_I} {Q : z_Q} (co : Nat) (o : Nat) (x1 : Int32) (x2 : UInt32) (kc : Nat) (ks : Nat) (Qk : z_T → z_I → z_Q → Prop) (h : wp_J5_init co T I Q o x1 x2 kc ks Qk) : z_GM l G yJ5_init (ws_ yJ5_init cJ5_init 3 none) 10 162 kc ks [.ref o, .int x1, .float x2] (z_co co) T I Q (z_qv Qk) z_no := by
  obtain ⟨ho, hoc, h⟩ := h
  refine z_body (own := RJ5) (nm := "<init>") (by decide +kernel) rfl rfl (Nat.le_of_ble_eq_true rfl) (fun p e R s m below meth c A ls X hB hl => ?_)
  exact ww_J5_init_0 X ho hoc hB z_k0 z_k0 hl h
/-! J6_init -/
theorem ww_J6_init_0 {co : Nat} {o : Nat} {Qk : z_T → z_I → z_Q → Prop} (X : z_X l G A p R s m args meth c cJ6_init 3 RJ6 "<init>" none mc ms 11 184) (ho : (T0 o).1 = 22) (hoc : (T0 o).2.2 = co) {cells slots : Nat} {T : z_T} {I : z_I} {Q : z_Q} {kc : Nat} {ks : Nat} {x1 : Int32} {x2 : UInt32} {H : Heap} {locs : List Loc} {ls : Array Slot} (hB : z_HB G (z_co co) A s.heap T0 I0 Q0 T I Q H locs) (hK1 : cells + kc ≤ mc) (hK2 : slots + ks ≤ ms) (hl : lv_has ls 3 [(0, .ref o), (1, .int x1), (2, .float x2)]) (h : wb_J6_init_0 co o Qk T I Q kc ks x1 x2) : W p l e R s m args below meth c H locs cells slots (z_MQ below G (z_co co) A T0 I0 Q0 (z_qv Qk) z_no args s mc ms) (F0 m 0 ls []) := by
  obtain ⟨hx, hb, -⟩ := id X
  unfold wb_J6_init_0 at h
  refine lv_aload_n (x := o) hx hb dJ6_init_0 rfl (lv_at hl 0 rfl) ?_
  refine lv_iload_n hx hb dJ6_init_1 rfl (lv_at hl 1 rfl) ?_
  refine lv_fload_n hx hb dJ6_init_2 rfl (lv_at hl 2 rfl) ?_
  obtain ⟨kc2, ks3, g1, g2, h⟩ := h
  refine z_callv (z_runI (rest := []) [.int x1, .float x2] pk_J5_init (met_J5_init co o x1 x2 kc2 ks3 _ h) X hB hB.2.2.2.2.2.2 q199 rfl hl.1 (Nat.le_of_ble_eq_true rfl) dJ6_init_3 (z_k1 hK1 g1) (z_k1 hK2 g2) (by decide) (by decide)) hB (fun _ h => h) (fun T4 I5 Q6 H locs h9 hF hB => ?_)
  replace h := h9
  clear h9
  replace h := h hF
  replace hK1 := z_k2 hK1 g1
  replace hK2 := z_k2 hK2 g2
  refine lv_aload_n (x := o) hx hb dJ6_init_6 rfl (lv_at hl 0 rfl) ?_
  refine lv_iconst (v := 0) hx hb dJ6_init_7 (by decide) ?_
  obtain ⟨I7, eI7⟩ : ∃ z, z = z_up I5 o 11 0 := ⟨_, rfl⟩
  replace h := h I7 eI7
  refine z_puti (x := 0) eI7 tyJ6 X hB kc_J6 in_J6 tyJ6_ok nmJ6 (j := 11) (Nat.le_of_ble_eq_true rfl) q1043 (fun _ h => h) rfl rfl (by decide) (z_fo hB ho (by decide)) (z_foc hB ho (by decide) hoc) rfl (Or.inl rfl) dJ6_init_8 (fun H locs hB => ?_)
  refine lv_aload_n (x := o) hx hb dJ6_init_11 rfl (lv_at hl 0 rfl) ?_
  refine lv_iconst (v := 0) hx hb dJ6_init_12 (by decide) ?_
  obtain ⟨I8, eI8⟩ : ∃ z, z = z_up I7 o 10 0 := ⟨_, rfl⟩
  replace h := h I8 eI8
  refine z_putiF (x := 0) eI8 tyJ6 X hB kc_J6 in_J6 tyJ6_ok nmJ6 (j := 10) (Nat.le_of_ble_eq_true rfl) q1042 (fun _ h => h) rfl rfl rfl (by decide) (z_fo hB ho (by decide)) (z_foc hB ho (by decide) hoc) rfl (Or.inr ⟨rfl, Or.inl rfl⟩) dJ6_init_13 (fun H locs hB => ?_)
  exact z_vret X hB ⟨rfl, h⟩ (z_k3 hK1) (z_k3 hK2) dJ6_init_16
theorem pk_J6_init : z_PI yJ6_init cJ6_init 3 2 := ⟨q197, q102, q198, rfl, by decide +kernel⟩
theorem met_J6_init {l : Launch} {G : z_E} {T : z_T} {I : z_I} {Q : z_Q} (co : Nat) (o : Nat) (x1 : Int32) (x2 : UInt32) (kc : Nat) (ks : Nat) (Qk : z_T → z_I → z_Q → Prop) (h : wp_J6_init co T I Q o x1 x2 kc ks Qk) : z_GM l G yJ6_init (ws_ yJ6_init cJ6_init 3 none) 11 184 kc ks [.ref o, .int x1, .float x2] (z_co co) T I Q (z_qv Qk) z_no := by
  obtain ⟨ho, hoc, h⟩ := h
  refine z_body (own := RJ6) (nm := "<init>") (by decide +kernel) rfl rfl (Nat.le_of_ble_eq_true rfl) (fun p e R s m below meth c A ls X hB hl => ?_)
  exact ww_J6_init_0 X ho hoc hB z_k0 z_k0 hl h
/-! J2_init -/
theorem ww_J2_init_0 {co : Nat} {o : Nat} {Qk : z_T → z_I → z_Q → Prop} (X : z_X l G A p R s m args meth c cJ2_init 4 RJ2 "<init>" none mc ms 12 206) (ho : (T0 o).1 = 21) (hoc : (T0 o).2.2 = co) {cells slots : Nat} {T : z_T} {I : z_I} {Q : z_Q} {kc : Nat} {ks : Nat} {x1 : Int32} {x2 : UInt32} {x3 : Int32} {H : Heap} {locs : List Loc} {ls : Array Slot} (hB : z_HB G (z_co co) A s.heap T0 I0 Q0 T I Q H locs) (hK1 : cells + kc ≤ mc) (hK2 : slots + ks ≤ ms) (hl : lv_has ls 4 [(0, .ref o), (1, .int x1), (2, .float x2), (3, .int x3)]) (h : wb_J2_init_0 co o Qk T I Q kc ks x1 x2 x3) : W p l e R s m args below meth c H locs cells slots (z_MQ below G (z_co co) A T0 I0 Q0 (z_qv Qk) z_no args s mc ms) (F0 m 0 ls []) := by
  obtain ⟨hx, hb, -⟩ := id X
  unfold wb_J2_init_0 at h
  refine lv_aload_n (x := o) hx hb dJ2_init_0 rfl (lv_at hl 0 rfl) ?_
  refine z_callvp (z_runI (rest := []) [] pk_J1_init (met_J1_init o _ h) X hB (fun h => h) q187 rfl hl.1 (Nat.le_of_ble_eq_true rfl) dJ2_init_1 (z_k4 hK1) (z_k4 hK2) (by decide) (by decide)) hB (fun H locs h9 hB => ?_)
  replace h := h9
  clear h9
  refine lv_aload_n (x := o) hx hb dJ2_init_4 rfl (lv_at hl 0 rfl) ?_
  obtain ⟨g1, g2, h⟩ := h
  refine z_new (col := co) tyJ6 X hB kc_J6 in_J6 tyJ6_ok q194 q195 q102 (by decide) (z_dvJ6) rfl (z_k1 hK1 g1) (z_k1 hK2 g2) dJ2_init_5 (fun a2 H hq hB => ?_)
  obtain ⟨T3, eT3⟩ : ∃ z, z = z_t T a2 (22, 0, co) := ⟨_, rfl⟩
  obtain ⟨I4, eI4⟩ : ∃ z, z = z_row I a2 (fun _ => 0) := ⟨_, rfl⟩
  obtain ⟨Q5, eQ5⟩ : ∃ z, z = z_row Q a2 (fun _ => none) := ⟨_, rfl⟩
  rw [← eT3, ← eI4, ← eQ5] at hB
  replace h := h a2 T3 I4 Q5 hq eT3 eI4 eQ5
  have hk_a2 := z_tq eT3
  have hc_a2 : (T3 a2).2.2 = co := by rw [z_tqc eT3]
  replace hK1 := z_k2 hK1 g1
  replace hK2 := z_k2 hK2 g2
  refine lv_dup hx hb dJ2_init_8 rfl ?_
  refine lv_iload_n hx hb dJ2_init_9 rfl (lv_at hl 1 rfl) ?_
  refine lv_fload_n hx hb dJ2_init_10 rfl (lv_at hl 2 rfl) ?_
  obtain ⟨kc7, ks8, g1, g2, h⟩ := h
  refine z_callv (z_runI (rest := [.ref a2, .ref o]) [.int x1, .float x2] pk_J6_init (met_J6_init co a2 x1 x2 kc7 ks8 _ h) X hB hB.2.2.2.2.2.2 q196 rfl hl.1 (Nat.le_of_ble_eq_true rfl) dJ2_init_11 (z_k1 hK1 g1) (z_k1 hK2 g2) (by decide) (by decide)) hB (fun _ h => h) (fun T9 I10 Q11 H locs h9 hF hB => ?_)
  replace h := h9
  clear h9
  replace h := h hF
  have hc_a2 : (T9 a2).2.2 = co := by rw [z_te hF hk_a2 (by decide)]; exact hc_a2
  have hk_a2 := z_tk hF hk_a2 (by decide)
  replace hK1 := z_k2 hK1 g1
  replace hK2 := z_k2 hK2 g2
  obtain ⟨Q12, eQ12⟩ : ∃ z, z = z_up Q11 o 0 (some a2) := ⟨_, rfl⟩
  replace h := h Q12 eQ12
  refine z_putq (x := (some a2)) eQ12 tyJ3 X hB kc_J3 in_J3 tyJ3_ok nmJ3 (j := 0) (Nat.le_of_ble_eq_true rfl) q1084 (fun _ h => h) rfl rfl (by decide) (z_fo hB ho (by decide)) (z_foc hB ho (by decide) hoc) rfl (Or.inl ⟨_, rfl⟩) dJ2_init_14 (fun H locs hB => ?_)
  exact z_vret X hB ⟨rfl, h⟩ (z_k3 hK1) (z_k3 hK2) dJ2_init_17
theorem pk_J2_init : z_PI yJ2_init cJ2_init 4 3 := ⟨q185, q98, q186, rfl, by decide +kernel⟩
theorem met_J2_init {l : Launch} {G : z_E} {T : z_T} {I : z_I} {Q : z_Q} (co : Nat) (o : Nat) (x1 : Int32) (x2 : UInt32) (x3 : Int32) (kc : Nat) (ks : Nat) (Qk : z_T → z_I → z_Q → Prop) (h : wp_J2_init co T I Q o x1 x2 x3 kc ks Qk) : z_GM l G yJ2_init (ws_ yJ2_init cJ2_init 4 none) 12 206 kc ks [.ref o, .int x1, .float x2, .int x3] (z_co co) T I Q (z_qv Qk) z_no := by
  obtain ⟨ho, hoc, h⟩ := h
  refine z_body (own := RJ2) (nm := "<init>") (by decide +kernel) rfl rfl (Nat.le_of_ble_eq_true rfl) (fun p e R s m below meth c A ls X hB hl => ?_)
  exact ww_J2_init_0 X ho hoc hB z_k0 z_k0 hl h
/-! J3_init -/
theorem ww_J3_init_0 {co : Nat} {o : Nat} {Qk : z_T → z_I → z_Q → Prop} (X : z_X l G A p R s m args meth c cJ3_init 1 RJ3 "<init>" none mc ms 13 229) (ho : (T0 o).1 = 21) {cells slots : Nat} {T : z_T} {I : z_I} {Q : z_Q} {kc : Nat} {ks : Nat} {H : Heap} {locs : List Loc} {ls : Array Slot} (hB : z_HB G (z_co co) A s.heap T0 I0 Q0 T I Q H locs) (hK1 : cells + kc ≤ mc) (hK2 : slots + ks ≤ ms) (hl : lv_has ls 1 [(0, .ref o)]) (h : wb_J3_init_0 co o Qk T I Q kc ks) : W p l e R s m args below meth c H locs cells slots (z_MQ below G (z_co co) A T0 I0 Q0 (z_qv Qk) z_no args s mc ms) (F0 m 0 ls []) := by
  obtain ⟨hx, hb, -⟩ := id X
  unfold wb_J3_init_0 at h
  refine lv_aload_n (x := o) hx hb dJ3_init_0 rfl (lv_at hl 0 rfl) ?_
  refine lv_bipush (v := 16) hx hb dJ3_init_1 (by decide) ?_
  refine lv_ldcf hx hb X.2.2.2.1 (X.2.2.2.2.1 _ q183) dJ3_init_3 ?_
  refine lv_iconst (v := 1) hx hb dJ3_init_5 (by decide) ?_
  obtain ⟨kc2, ks3, g1, g2, h⟩ := h
  refine z_callv (z_runI (rest := []) [.int 16, .float (1061158912 : UInt32), .int 1] pk_J2_init (met_J2_init co o 16 (1061158912 : UInt32) 1 kc2 ks3 _ h) X hB hB.2.2.2.2.2.2 q184 rfl hl.1 (Nat.le_of_ble_eq_true rfl) dJ3_init_6 (z_k1 hK1 g1) (z_k1 hK2 g2) (by decide) (by decide)) hB (fun _ h => h) (fun T4 I5 Q6 H locs h9 hF hB => ?_)
  replace h := h9
  clear h9
  replace h := h hF
  replace hK1 := z_k2 hK1 g1
  replace hK2 := z_k2 hK2 g2
  exact z_vret X hB ⟨rfl, h⟩ (z_k3 hK1) (z_k3 hK2) dJ3_init_9
theorem pk_J3_init : z_PI yJ3_init cJ3_init 1 0 := ⟨q181, q99, q182, rfl, by decide +kernel⟩
theorem met_J3_init {l : Launch} {G : z_E} {T : z_T} {I : z_I} {Q : z_Q} (co : Nat) (o : Nat) (kc : Nat) (ks : Nat) (Qk : z_T → z_I → z_Q → Prop) (h : wp_J3_init co T I Q o kc ks Qk) : z_GM l G yJ3_init (ws_ yJ3_init cJ3_init 1 none) 13 229 kc ks [.ref o] (z_co co) T I Q (z_qv Qk) z_no := by
  obtain ⟨ho, h⟩ := h
  refine z_body (own := RJ3) (nm := "<init>") (by decide +kernel) rfl rfl (Nat.le_of_ble_eq_true rfl) (fun p e R s m below meth c A ls X hB hl => ?_)
  exact ww_J3_init_0 X ho hB z_k0 z_k0 hl h
/-! X2_init_2 -/
theorem wv_X2_init_2_231 {co : Nat} {o : Nat} {Qk : z_T → z_I → z_Q → Prop} (X : z_X l G A p R s m args meth c cX2_init_2 5 RX2 "<init>" none mc ms 14 268) (ho : (T0 o).1 = 3) (hoc : (T0 o).2.2 = co) : ∀ (n : Nat) {cells slots : Nat} {T : z_T} {I : z_I} {Q : z_Q} {kc : Nat} {ks : Nat} {x1 : Option Nat} {x2 : Option Nat} {H : Heap} {locs : List Loc} {ls : Array Slot}, z_HB G (z_co co) A s.heap T0 I0 Q0 T I Q H locs → cells + kc ≤ mc → slots + ks ≤ ms → lv_has ls 5 [(0, .ref o), (1, va_rf x1), (2, va_rf x2)] → wl_X2_init_2_231 G.2.2 co o Qk n T I Q kc ks x1 x2 → W p l e R s m args below meth c H locs cells slots (z_MQ below G (z_co co) A T0 I0 Q0 (z_qv Qk) z_no args s mc ms) (F0 m 231 ls []) := by
  intro n
  induction n with
  | zero =>
    intro cells slots T I Q kc ks x1 x2 H locs ls hB hK1 hK2 hl h
    exact h.elim
  | succ n ih =>
    intro cells slots T I Q kc ks x1 x2 H locs ls hB hK1 hK2 hl h
    obtain ⟨hx, hb, -⟩ := id X
    unfold wl_X2_init_2_231 at h
    refine z_aload_n (x := x2) hx hb dX2_init_2_231 rfl (lv_at hl 2 rfl) ?_
    obtain ⟨a147, rfl, h⟩ := h
    refine z_call5zp (z_run_itHas (rest := []) h X hB q1490 hl.1 (Nat.le_of_ble_eq_true rfl) dX2_init_2_232 (z_k4 hK1) (z_k4 hK2) (by decide) (by decide)) hB (fun r148 H locs hz h9 hB => ?_)
    replace h := h9
    clear h9
    replace h := h hz
    refine lv_if_eq (tgt := 261) hx hb dX2_init_2_237 (by decide) (fun c149 => ?_) (fun c149 => ?_)
    · replace h := h.1 c149
      refine z_aload_n (x := x1) hx hb dX2_init_2_261 rfl (lv_at hl 1 rfl) ?_
      obtain ⟨a150, rfl, h⟩ := h
      obtain ⟨hk_a150, h⟩ := h
      refine z_getq X hB.1 kc_X2 in_X2 (j := 5) (Nat.le_of_ble_eq_true rfl) q1250 (fun _ h => h) rfl (by decide) hk_a150 dX2_init_2_262 ?_
      refine lv_iconst (v := 0) hx hb dX2_init_2_265 (by decide) ?_
      refine lv_aload_n (x := o) hx hb dX2_init_2_266 rfl (lv_at hl 0 rfl) ?_
      refine z_getq X hB.1 kc_X2 in_X2 (j := 5) (Nat.le_of_ble_eq_true rfl) q1250 (fun _ h => h) rfl (by decide) (z_fo hB ho (by decide)) dX2_init_2_267 ?_
      refine lv_iconst (v := 0) hx hb dX2_init_2_270 (by decide) ?_
      refine lv_bipush (v := 8) hx hb dX2_init_2_271 (by decide) ?_
      obtain ⟨a151, ea151, h⟩ := h
      refine z_stk (st' := [.int 8, .int 0, va_rf (Q o 5), .int 0, .ref a151]) (by rw [ea151] <;> rfl) ?_
      obtain ⟨a152, ea152, h⟩ := h
      refine z_stk (st' := [.int 8, .int 0, .ref a152, .int 0, .ref a151]) (by rw [ea152] <;> rfl) ?_
      obtain ⟨hk_a151, h⟩ := h
      obtain ⟨hk_a152, h⟩ := h
      obtain ⟨hc_a152, h⟩ := h
      obtain ⟨h1, h⟩ := h
      obtain ⟨I153, eI153⟩ : ∃ z, z = z_row I a152 (va_cpy (I a151) (I a152) (0 : Int32).toNatClampNeg (0 : Int32).toNatClampNeg (8 : Int32).toNatClampNeg) := ⟨_, rfl⟩
      replace h := h I153 eI153
      refine z_copyi (rest := []) X hB hl.1 hk_a151 hk_a152 hc_a152 h1 q2355 (by decide) (Nat.le_of_ble_eq_true rfl) dX2_init_2_273 (fun H locs hB => ?_)
      rw [← eI153] at hB
      refine lv_aload_n (x := o) hx hb dX2_init_2_276 rfl (lv_at hl 0 rfl) ?_
      refine lv_aload_n (x := a150) hx hb dX2_init_2_277 rfl (lv_at hl 1 rfl) ?_
      refine z_geti X hB.1 kc_X2 in_X2 (j := 6) (Nat.le_of_ble_eq_true rfl) q1253 (fun _ h => h) rfl (by decide) hk_a150 dX2_init_2_278 ?_
      obtain ⟨I154, eI154⟩ : ∃ z, z = z_up I153 o 6 (I153 a150 6) := ⟨_, rfl⟩
      replace h := h I154 eI154
      refine z_puti (x := (I153 a150 6)) eI154 tyX2 X hB kc_X2 in_X2 tyX2_ok nmX2 (j := 6) (Nat.le_of_ble_eq_true rfl) q1253 (fun _ h => h) rfl rfl (by decide) (z_fo hB ho (by decide)) (z_foc hB ho (by decide) hoc) rfl (Or.inl rfl) dX2_init_2_281 (fun H locs hB => ?_)
      refine lv_aload_n (x := o) hx hb dX2_init_2_284 rfl (lv_at hl 0 rfl) ?_
      refine lv_aload_n (x := a150) hx hb dX2_init_2_285 rfl (lv_at hl 1 rfl) ?_
      refine z_geti X hB.1 kc_X2 in_X2 (j := 7) (Nat.le_of_ble_eq_true rfl) q1256 (fun _ h => h) rfl (by decide) hk_a150 dX2_init_2_286 ?_
      obtain ⟨I155, eI155⟩ : ∃ z, z = z_up I154 o 7 (I154 a150 7) := ⟨_, rfl⟩
      replace h := h I155 eI155
      refine z_puti (x := (I154 a150 7)) eI155 tyX2 X hB kc_X2 in_X2 tyX2_ok nmX2 (j := 7) (Nat.le_of_ble_eq_true rfl) q1256 (fun _ h => h) rfl rfl (by decide) (z_fo hB ho (by decide)) (z_foc hB ho (by decide) hoc) rfl (Or.inl rfl) dX2_init_2_289 (fun H locs hB => ?_)
      refine lv_aload_n (x := o) hx hb dX2_init_2_292 rfl (lv_at hl 0 rfl) ?_
      refine lv_aload_n (x := a150) hx hb dX2_init_2_293 rfl (lv_at hl 1 rfl) ?_
      refine z_geti X hB.1 kc_X2 in_X2 (j := 8) (Nat.le_of_ble_eq_true rfl) q1258 (fun _ h => h) rfl (by decide) hk_a150 dX2_init_2_294 ?_
      obtain ⟨I156, eI156⟩ : ∃ z, z = z_up I155 o 8 (I155 a150 8) := ⟨_, rfl⟩
      replace h := h I156 eI156
      refine z_puti (x := (I155 a150 8)) eI156 tyX2 X hB kc_X2 in_X2 tyX2_ok nmX2 (j := 8) (Nat.le_of_ble_eq_true rfl) q1258 (fun _ h => h) rfl rfl (by decide) (z_fo hB ho (by decide)) (z_foc hB ho (by decide) hoc) rfl (Or.inl rfl) dX2_init_2_297 (fun H locs hB => ?_)
      refine lv_aload_n (x := o) hx hb dX2_init_2_300 rfl (lv_at hl 0 rfl) ?_
      refine lv_aload_n (x := a150) hx hb dX2_init_2_301 rfl (lv_at hl 1 rfl) ?_
      refine z_geti X hB.1 kc_X2 in_X2 (j := 9) (Nat.le_of_ble_eq_true rfl) q1261 (fun _ h => h) rfl (by decide) hk_a150 dX2_init_2_302 ?_
      obtain ⟨I157, eI157⟩ : ∃ z, z = z_up I156 o 9 (I156 a150 9) := ⟨_, rfl⟩
      replace h := h I157 eI157
      refine z_puti (x := (I156 a150 9)) eI157 tyX2 X hB kc_X2 in_X2 tyX2_ok nmX2 (j := 9) (Nat.le_of_ble_eq_true rfl) q1261 (fun _ h => h) rfl rfl (by decide) (z_fo hB ho (by decide)) (z_foc hB ho (by decide) hoc) rfl (Or.inl rfl) dX2_init_2_305 (fun H locs hB => ?_)
      refine lv_aload_n (x := o) hx hb dX2_init_2_308 rfl (lv_at hl 0 rfl) ?_
      refine lv_aload_n (x := a150) hx hb dX2_init_2_309 rfl (lv_at hl 1 rfl) ?_
      refine z_geti X hB.1 kc_X2 in_X2 (j := 10) (Nat.le_of_ble_eq_true rfl) q1264 (fun _ h => h) rfl (by decide) hk_a150 dX2_init_2_310 ?_
      obtain ⟨I158, eI158⟩ : ∃ z, z = z_up I157 o 10 (I157 a150 10) := ⟨_, rfl⟩
      replace h := h I158 eI158
      refine z_puti (x := (I157 a150 10)) eI158 tyX2 X hB kc_X2 in_X2 tyX2_ok nmX2 (j := 10) (Nat.le_of_ble_eq_true rfl) q1264 (fun _ h => h) rfl rfl (by decide) (z_fo hB ho (by decide)) (z_foc hB ho (by decide) hoc) rfl (Or.inl rfl) dX2_init_2_313 (fun H locs hB => ?_)
      refine lv_aload_n (x := o) hx hb dX2_init_2_316 rfl (lv_at hl 0 rfl) ?_
      refine lv_aload_n (x := a150) hx hb dX2_init_2_317 rfl (lv_at hl 1 rfl) ?_
      refine z_geti X hB.1 kc_X2 in_X2 (j := 11) (Nat.le_of_ble_eq_true rfl) q1266 (fun _ h => h) rfl (by decide) hk_a150 dX2_init_2_318 ?_
      obtain ⟨I159, eI159⟩ : ∃ z, z = z_up I158 o 11 (I158 a150 11) := ⟨_, rfl⟩
      replace h := h I159 eI159
      refine z_puti (x := (I158 a150 11)) eI159 tyX2 X hB kc_X2 in_X2 tyX2_ok nmX2 (j := 11) (Nat.le_of_ble_eq_true rfl) q1266 (fun _ h => h) rfl rfl (by decide) (z_fo hB ho (by decide)) (z_foc hB ho (by decide) hoc) rfl (Or.inl rfl) dX2_init_2_321 (fun H locs hB => ?_)
      exact z_vret X hB ⟨rfl, h⟩ (z_k3 hK1) (z_k3 hK2) dX2_init_2_324
    · replace h := h.2 c149
      refine lv_aload_n (x := a147) hx hb dX2_init_2_240 rfl (lv_at hl 2 rfl) ?_
      refine z_call5r (z_run_itNext (rest := []) h X hB hB.2.2.2.2.2.2 q1524 hl.1 (Nat.le_of_ble_eq_true rfl) dX2_init_2_241 (z_k4 hK1) (z_k4 hK2) (by decide) (by decide)) hB (fun _ h => h) (fun r160 T161 I162 Q163 H locs h9 hF hB => ?_)
      replace h := h9
      clear h9
      replace h := h hF
      obtain ⟨h2, h⟩ := h
      refine z_castR X hB.1 kc_X11 (by decide) h2 q2353 (Or.inl rfl) dX2_init_2_246 ?_
      refine z_astore_n (x := r160) (lv' := [(3, va_rf r160), (0, .ref o), (1, va_rf x1), (2, .ref a147)]) hx hb dX2_init_2_249 rfl hl (by decide) rfl (fun ls hl9 => ?_)
      replace hl := hl9
      clear hl9
      refine lv_aload_n (x := o) hx hb dX2_init_2_250 rfl (lv_at hl 1 rfl) ?_
      refine z_getq X hB.1 kc_X2 in_X2 (j := 4) (Nat.le_of_ble_eq_true rfl) q1248 (fun _ h => h) rfl (by decide) (z_fo hB ho (by decide)) dX2_init_2_251 ?_
      refine z_aload_n (x := r160) hx hb dX2_init_2_254 rfl (lv_at hl 0 rfl) ?_
      obtain ⟨a164, ea164, h⟩ := h
      refine z_stk (st' := [va_rf r160, .ref a164]) (by rw [ea164] <;> rfl) ?_
      obtain ⟨hk_a164, h⟩ := h
      obtain ⟨kc166, ks167, g1, g2, h⟩ := h
      refine z_callv (z_runV (rest := []) [va_rf r160] pk_J31_addLast (met_J31_addLast co a164 r160 kc166 ks167 _ h) X hB hB.2.2.2.2.2.2 q2354 kc_J31 (by decide) hk_a164 rfl hl.1 (Nat.le_of_ble_eq_true rfl) dX2_init_2_255 (z_k1 hK1 g1) (z_k1 hK2 g2) (by decide) (by decide)) hB (fun _ h => h) (fun T168 I169 Q170 H locs h9 hF hB => ?_)
      replace h := h9
      clear h9
      replace h := h hF
      replace hK1 := z_k2 hK1 g1
      replace hK2 := z_k2 hK2 g2
      refine lv_goto (tgt := 231) hx hb dX2_init_2_258 (by decide) ?_
      exact ih hB hK1 hK2 (lv_sub hl [1, 2, 3] rfl) h
theorem wv_X2_init_2_182 {co : Nat} {o : Nat} {Qk : z_T → z_I → z_Q → Prop} (X : z_X l G A p R s m args meth c cX2_init_2 5 RX2 "<init>" none mc ms 14 268) (ho : (T0 o).1 = 3) (hoc : (T0 o).2.2 = co) : ∀ (n : Nat) {cells slots : Nat} {T : z_T} {I : z_I} {Q : z_Q} {kc : Nat} {ks : Nat} {x1 : Option Nat} {x2 : Int32} {H : Heap} {locs : List Loc} {ls : Array Slot}, z_HB G (z_co co) A s.heap T0 I0 Q0 T I Q H locs → cells + kc ≤ mc → slots + ks ≤ ms → lv_has ls 5 [(0, .ref o), (1, va_rf x1), (2, .int x2)] → wl_X2_init_2_182 G.2.2 co o Qk n T I Q kc ks x1 x2 → W p l e R s m args below meth c H locs cells slots (z_MQ below G (z_co co) A T0 I0 Q0 (z_qv Qk) z_no args s mc ms) (F0 m 182 ls []) := by
  intro n
  induction n with
  | zero =>
    intro cells slots T I Q kc ks x1 x2 H locs ls hB hK1 hK2 hl h
    exact h.elim
  | succ n ih =>
    intro cells slots T I Q kc ks x1 x2 H locs ls hB hK1 hK2 hl h
    obtain ⟨hx, hb, -⟩ := id X
    unfold wl_X2_init_2_182 at h
    refine lv_iload_n hx hb dX2_init_2_182 rfl (lv_at hl 2 rfl) ?_
    refine lv_iconst (v := 3) hx hb dX2_init_2_183 (by decide) ?_
    refine lv_icmp_ge (tgt := 223) hx hb dX2_init_2_184 (by decide) (fun c115 => ?_) (fun c115 => ?_)
    · replace h := h.1 c115
      refine z_aload_n (x := x1) hx hb dX2_init_2_223 rfl (lv_at hl 1 rfl) ?_
      obtain ⟨a116, rfl, h⟩ := h
      obtain ⟨hk_a116, h⟩ := h
      refine z_getq X hB.1 kc_X2 in_X2 (j := 4) (Nat.le_of_ble_eq_true rfl) q1248 (fun _ h => h) rfl (by decide) hk_a116 dX2_init_2_224 ?_
      obtain ⟨a117, ea117, h⟩ := h
      refine z_stk (st' := [.ref a117]) (by rw [ea117] <;> rfl) ?_
      obtain ⟨hk_a117, h⟩ := h
      obtain ⟨kc119, ks120, g1, g2, h⟩ := h
      refine z_callr (z_runV (rest := []) [] pk_J31_iterator (met_J31_iterator co a117 kc119 ks120 _ h) X hB hB.2.2.2.2.2.2 q2352 kc_J31 (by decide) hk_a117 rfl hl.1 (Nat.le_of_ble_eq_true rfl) dX2_init_2_227 (z_k1 hK1 g1) (z_k1 hK2 g2) (by decide) (by decide)) hB (fun _ h => h) (fun r118 T121 I122 Q123 H locs h9 hF hB => ?_)
      replace h := h9
      clear h9
      replace h := h hF
      have hk_a116 := z_tk hF hk_a116 (by decide)
      replace hK1 := z_k2 hK1 g1
      replace hK2 := z_k2 hK2 g2
      refine z_astore_n (x := r118) (lv' := [(2, va_rf r118), (0, .ref o), (1, .ref a116)]) hx hb dX2_init_2_230 rfl hl (by decide) rfl (fun ls hl9 => ?_)
      replace hl := hl9
      clear hl9
      obtain ⟨w, h⟩ := h
      exact wv_X2_init_2_231 X ho hoc  w hB hK1 hK2 (lv_sub hl [1, 2, 0] rfl) h
    · replace h := h.2 c115
      refine lv_aload_n (x := o) hx hb dX2_init_2_187 rfl (lv_at hl 0 rfl) ?_
      refine z_getq X hB.1 kc_X2 in_X2 (j := 2) (Nat.le_of_ble_eq_true rfl) q1240 (fun _ h => h) rfl (by decide) (z_fo hB ho (by decide)) dX2_init_2_188 ?_
      refine lv_iload_n hx hb dX2_init_2_191 rfl (lv_at hl 2 rfl) ?_
      obtain ⟨g1, g2, h⟩ := h
      refine z_new (col := co) tyX4 X hB kc_X4 in_X4 tyX4_ok q1090 q1171 q130 (by decide) (z_dvX4) rfl (z_k1 hK1 g1) (z_k1 hK2 g2) dX2_init_2_192 (fun a124 H hq hB => ?_)
      obtain ⟨T125, eT125⟩ : ∃ z, z = z_t T a124 (4, 0, co) := ⟨_, rfl⟩
      obtain ⟨I126, eI126⟩ : ∃ z, z = z_row I a124 (fun _ => 0) := ⟨_, rfl⟩
      obtain ⟨Q127, eQ127⟩ : ∃ z, z = z_row Q a124 (fun _ => none) := ⟨_, rfl⟩
      rw [← eT125, ← eI126, ← eQ127] at hB
      replace h := h a124 T125 I126 Q127 hq eT125 eI126 eQ127
      have hk_a124 := z_tq eT125
      have hc_a124 : (T125 a124).2.2 = co := by rw [z_tqc eT125]
      replace hK1 := z_k2 hK1 g1
      replace hK2 := z_k2 hK2 g2
      refine lv_dup hx hb dX2_init_2_195 rfl ?_
      refine lv_aload_n (x := o) hx hb dX2_init_2_196 rfl (lv_at hl 0 rfl) ?_
      refine lv_iload_n hx hb dX2_init_2_197 rfl (lv_at hl 2 rfl) ?_
      obtain ⟨kc129, ks130, g1, g2, h⟩ := h
      refine z_callv (z_runI (rest := [.ref a124, .int x2, va_rf (Q o 2)]) [.ref o, .int x2] pk_X4_init (met_X4_init co a124 o x2 kc129 ks130 _ h) X hB hB.2.2.2.2.2.2 q1172 rfl hl.1 (by simp [z_cat, z_cati, z_catl, z_catf, z_catd, z_catq]) dX2_init_2_198 (z_k1 hK1 g1) (z_k1 hK2 g2) (by decide) (by decide)) hB (fun _ h => h) (fun T131 I132 Q133 H locs h9 hF hB => ?_)
      replace h := h9
      clear h9
      replace h := h hF
      have hc_a124 : (T131 a124).2.2 = co := by rw [z_te hF hk_a124 (by decide)]; exact hc_a124
      have hk_a124 := z_tk hF hk_a124 (by decide)
      replace hK1 := z_k2 hK1 g1
      replace hK2 := z_k2 hK2 g2
      obtain ⟨a134, ea134, h⟩ := h
      refine z_stk (st' := [.ref a124, .int x2, .ref a134]) (by rw [ea134] <;> rfl) ?_
      obtain ⟨hk_a134, h⟩ := h
      obtain ⟨hc_a134, h⟩ := h
      obtain ⟨h1, h⟩ := h
      obtain ⟨h2, h⟩ := h
      obtain ⟨Q135, eQ135⟩ : ∃ z, z = z_up Q133 a134 x2.toNatClampNeg (some a124) := ⟨_, rfl⟩
      replace h := h Q135 eQ135
      refine z_aastX (k := 4) (x := (some a124)) X hB (by decide) hk_a134 hc_a134 h1 h2 dX2_init_2_201 (fun H locs hB => ?_)
      rw [← eQ135] at hB
      refine lv_aload_n (x := o) hx hb dX2_init_2_202 rfl (lv_at hl 0 rfl) ?_
      refine z_getq X hB.1 kc_X2 in_X2 (j := 2) (Nat.le_of_ble_eq_true rfl) q1240 (fun _ h => h) rfl (by decide) (z_fo hB ho (by decide)) dX2_init_2_203 ?_
      refine lv_iload_n hx hb dX2_init_2_206 rfl (lv_at hl 2 rfl) ?_
      obtain ⟨a136, ea136, h⟩ := h
      refine z_stk (st' := [.int x2, .ref a136]) (by rw [ea136] <;> rfl) ?_
      obtain ⟨hk_a136, h⟩ := h
      obtain ⟨h1, h⟩ := h
      refine z_aald (k := 4) X hB.1 (by decide) hk_a136 h1 dX2_init_2_207 ?_
      refine z_aload_n (x := x1) hx hb dX2_init_2_208 rfl (lv_at hl 1 rfl) ?_
      obtain ⟨a137, rfl, h⟩ := h
      obtain ⟨hk_a137, h⟩ := h
      refine z_getq X hB.1 kc_X2 in_X2 (j := 2) (Nat.le_of_ble_eq_true rfl) q1240 (fun _ h => h) rfl (by decide) hk_a137 dX2_init_2_209 ?_
      refine lv_iload_n hx hb dX2_init_2_212 rfl (lv_at hl 2 rfl) ?_
      obtain ⟨a138, ea138, h⟩ := h
      refine z_stk (st' := [.int x2, .ref a138, va_rf (Q135 a136 x2.toNatClampNeg)]) (by rw [ea138] <;> rfl) ?_
      obtain ⟨hk_a138, h⟩ := h
      obtain ⟨h1, h⟩ := h
      refine z_aald (k := 4) X hB.1 (by decide) hk_a138 h1 dX2_init_2_213 ?_
      obtain ⟨a139, ea139, h⟩ := h
      refine z_stk (st' := [va_rf (Q135 a138 x2.toNatClampNeg), .ref a139]) (by rw [ea139] <;> rfl) ?_
      obtain ⟨hk_a139, h⟩ := h
      obtain ⟨kc141, ks142, g1, g2, h⟩ := h
      refine z_callv (z_runV (rest := []) [va_rf (Q135 a138 x2.toNatClampNeg)] pk_X4_become (met_X4_become co a139 (Q135 a138 x2.toNatClampNeg) kc141 ks142 _ h) X hB hB.2.2.2.2.2.2 q2329 kc_X4 (by decide) hk_a139 rfl hl.1 (Nat.le_of_ble_eq_true rfl) dX2_init_2_214 (z_k1 hK1 g1) (z_k1 hK2 g2) (by decide) (by decide)) hB (fun _ h => h) (fun T143 I144 Q145 H locs h9 hF hB => ?_)
      replace h := h9
      clear h9
      replace h := h hF
      have hk_a137 := z_tk hF hk_a137 (by decide)
      replace hK1 := z_k2 hK1 g1
      replace hK2 := z_k2 hK2 g2
      obtain ⟨y146, ey146⟩ : ∃ z : Int32, z = x2 + 1 := ⟨_, rfl⟩
      replace h := h y146 ey146
      refine lv_iinc (v := y146) (lv' := [(2, .int y146), (0, .ref o), (1, .ref a137)]) hx hb dX2_init_2_217 hl (k := 2) rfl (by rw [ey146]; rfl) (by decide) rfl (fun ls hl9 => ?_)
      replace hl := hl9
      clear hl9
      refine lv_goto (tgt := 182) hx hb dX2_init_2_220 (by decide) ?_
      exact ih hB hK1 hK2 (lv_sub hl [1, 2, 0] rfl) h
theorem wv_X2_init_2_141 {co : Nat} {o : Nat} {Qk : z_T → z_I → z_Q → Prop} (X : z_X l G A p R s m args meth c cX2_init_2 5 RX2 "<init>" none mc ms 14 268) (ho : (T0 o).1 = 3) (hoc : (T0 o).2.2 = co) : ∀ (n : Nat) {cells slots : Nat} {T : z_T} {I : z_I} {Q : z_Q} {kc : Nat} {ks : Nat} {x1 : Option Nat} {x2 : Option Nat} {H : Heap} {locs : List Loc} {ls : Array Slot}, z_HB G (z_co co) A s.heap T0 I0 Q0 T I Q H locs → cells + kc ≤ mc → slots + ks ≤ ms → lv_has ls 5 [(0, .ref o), (1, va_rf x1), (2, va_rf x2)] → wl_X2_init_2_141 G.2.2 co o Qk n T I Q kc ks x1 x2 → W p l e R s m args below meth c H locs cells slots (z_MQ below G (z_co co) A T0 I0 Q0 (z_qv Qk) z_no args s mc ms) (F0 m 141 ls []) := by
  intro n
  induction n with
  | zero =>
    intro cells slots T I Q kc ks x1 x2 H locs ls hB hK1 hK2 hl h
    exact h.elim
  | succ n ih =>
    intro cells slots T I Q kc ks x1 x2 H locs ls hB hK1 hK2 hl h
    obtain ⟨hx, hb, -⟩ := id X
    unfold wl_X2_init_2_141 at h
    refine z_aload_n (x := x2) hx hb dX2_init_2_141 rfl (lv_at hl 2 rfl) ?_
    obtain ⟨a93, rfl, h⟩ := h
    refine z_call5zp (z_run_itHas (rest := []) h X hB q1490 hl.1 (Nat.le_of_ble_eq_true rfl) dX2_init_2_142 (z_k4 hK1) (z_k4 hK2) (by decide) (by decide)) hB (fun r94 H locs hz h9 hB => ?_)
    replace h := h9
    clear h9
    replace h := h hz
    refine lv_if_eq (tgt := 180) hx hb dX2_init_2_147 (by decide) (fun c95 => ?_) (fun c95 => ?_)
    · replace h := h.1 c95
      refine lv_iconst (v := 0) hx hb dX2_init_2_180 (by decide) ?_
      refine lv_istore_n (i := 2) (lv' := [(2, .int 0), (0, .ref o), (1, va_rf x1)]) hx hb dX2_init_2_181 rfl hl (by decide) (by simp [z_cat, z_rfs, z_catq]) (fun ls hl9 => ?_)
      replace hl := hl9
      clear hl9
      obtain ⟨w, h⟩ := h
      exact wv_X2_init_2_182 X ho hoc  w hB hK1 hK2 (lv_sub hl [1, 2, 0] rfl) h
    · replace h := h.2 c95
      refine lv_aload_n (x := a93) hx hb dX2_init_2_150 rfl (lv_at hl 2 rfl) ?_
      refine z_call5r (z_run_itNext (rest := []) h X hB hB.2.2.2.2.2.2 q1524 hl.1 (Nat.le_of_ble_eq_true rfl) dX2_init_2_151 (z_k4 hK1) (z_k4 hK2) (by decide) (by decide)) hB (fun _ h => h) (fun r96 T97 I98 Q99 H locs h9 hF hB => ?_)
      replace h := h9
      clear h9
      replace h := h hF
      obtain ⟨h2, h⟩ := h
      refine z_castR X hB.1 kc_X6 (by decide) h2 q2277 (Or.inl rfl) dX2_init_2_156 ?_
      refine z_astore_n (x := r96) (lv' := [(3, va_rf r96), (0, .ref o), (1, va_rf x1), (2, .ref a93)]) hx hb dX2_init_2_159 rfl hl (by decide) rfl (fun ls hl9 => ?_)
      replace hl := hl9
      clear hl9
      refine lv_aload_n (x := o) hx hb dX2_init_2_160 rfl (lv_at hl 1 rfl) ?_
      refine z_getq X hB.1 kc_X2 in_X2 (j := 3) (Nat.le_of_ble_eq_true rfl) q1245 (fun _ h => h) rfl (by decide) (z_fo hB ho (by decide)) dX2_init_2_161 ?_
      obtain ⟨g1, g2, h⟩ := h
      refine z_new (col := co) tyX6 X hB kc_X6 in_X6 tyX6_ok q2277 q2278 q149 (by decide) (z_dvX6) rfl (z_k1 hK1 g1) (z_k1 hK2 g2) dX2_init_2_164 (fun a100 H hq hB => ?_)
      obtain ⟨T101, eT101⟩ : ∃ z, z = z_t T97 a100 (6, 0, co) := ⟨_, rfl⟩
      obtain ⟨I102, eI102⟩ : ∃ z, z = z_row I98 a100 (fun _ => 0) := ⟨_, rfl⟩
      obtain ⟨Q103, eQ103⟩ : ∃ z, z = z_row Q99 a100 (fun _ => none) := ⟨_, rfl⟩
      rw [← eT101, ← eI102, ← eQ103] at hB
      replace h := h a100 T101 I102 Q103 hq eT101 eI102 eQ103
      have hk_a100 := z_tq eT101
      have hc_a100 : (T101 a100).2.2 = co := by rw [z_tqc eT101]
      replace hK1 := z_k2 hK1 g1
      replace hK2 := z_k2 hK2 g2
      refine lv_dup hx hb dX2_init_2_167 rfl ?_
      refine z_aload_n (x := r96) hx hb dX2_init_2_168 rfl (lv_at hl 0 rfl) ?_
      refine z_callv (z_runI (rest := [.ref a100, va_rf (Q99 o 3)]) [va_rf r96] pk_X6_init (met_X6_init co a100 r96 _ h) X hB hB.2.2.2.2.2.2 q2279 rfl hl.1 (by simp [z_cat, z_cati, z_catl, z_catf, z_catd, z_catq]) dX2_init_2_169 (z_k4 hK1) (z_k4 hK2) (by decide) (by decide)) hB (fun _ h => h) (fun T105 I106 Q107 H locs h9 hF hB => ?_)
      replace h := h9
      clear h9
      replace h := h hF
      have hc_a100 : (T105 a100).2.2 = co := by rw [z_te hF hk_a100 (by decide)]; exact hc_a100
      have hk_a100 := z_tk hF hk_a100 (by decide)
      obtain ⟨a108, ea108, h⟩ := h
      refine z_stk (st' := [.ref a100, .ref a108]) (by rw [ea108] <;> rfl) ?_
      obtain ⟨hk_a108, h⟩ := h
      obtain ⟨kc110, ks111, g1, g2, h⟩ := h
      refine z_callz (z_runV (rest := []) [.ref a100] pk_J30_add (met_J30_add co a108 (some a100) kc110 ks111 _ h) X hB hB.2.2.2.2.2.2 q2309 kc_J30 (by decide) hk_a108 rfl hl.1 (Nat.le_of_ble_eq_true rfl) dX2_init_2_172 (z_k1 hK1 g1) (z_k1 hK2 g2) (by decide) (by decide)) hB (fun _ h => h) (fun r109 T112 I113 Q114 H locs hz h9 hF hB => ?_)
      replace h := h9
      clear h9
      replace h := h hz hF
      replace hK1 := z_k2 hK1 g1
      replace hK2 := z_k2 hK2 g2
      refine lv_istore (lv' := [(4, .int r109), (3, va_rf r96), (0, .ref o), (1, va_rf x1), (2, .ref a93)]) hx hb dX2_init_2_175 hl (by decide) (by simp [z_cat, z_rfs, z_catq]) (fun ls hl9 => ?_)
      replace hl := hl9
      clear hl9
      refine lv_goto (tgt := 141) hx hb dX2_init_2_177 (by decide) ?_
      exact ih hB hK1 hK2 (lv_sub hl [2, 3, 4] rfl) h
theorem wv_X2_init_2_103 {co : Nat} {o : Nat} {Qk : z_T → z_I → z_Q → Prop} (X : z_X l G A p R s m args meth c cX2_init_2 5 RX2 "<init>" none mc ms 14 268) (ho : (T0 o).1 = 3) (hoc : (T0 o).2.2 = co) : ∀ (n : Nat) {cells slots : Nat} {T : z_T} {I : z_I} {Q : z_Q} {kc : Nat} {ks : Nat} {x1 : Option Nat} {x2 : Int32} {H : Heap} {locs : List Loc} {ls : Array Slot}, z_HB G (z_co co) A s.heap T0 I0 Q0 T I Q H locs → cells + kc ≤ mc → slots + ks ≤ ms → lv_has ls 5 [(0, .ref o), (1, va_rf x1), (2, .int x2)] → wl_X2_init_2_103 G.2.2 co o Qk n T I Q kc ks x1 x2 → W p l e R s m args below meth c H locs cells slots (z_MQ below G (z_co co) A T0 I0 Q0 (z_qv Qk) z_no args s mc ms) (F0 m 103 ls []) := by
  intro n
  induction n with
  | zero =>
    intro cells slots T I Q kc ks x1 x2 H locs ls hB hK1 hK2 hl h
    exact h.elim
  | succ n ih =>
    intro cells slots T I Q kc ks x1 x2 H locs ls hB hK1 hK2 hl h
    obtain ⟨hx, hb, -⟩ := id X
    unfold wl_X2_init_2_103 at h
    refine lv_iload_n hx hb dX2_init_2_103 rfl (lv_at hl 2 rfl) ?_
    refine lv_iconst (v := 3) hx hb dX2_init_2_104 (by decide) ?_
    refine lv_icmp_ge (tgt := 133) hx hb dX2_init_2_105 (by decide) (fun c69 => ?_) (fun c69 => ?_)
    · replace h := h.1 c69
      refine z_aload_n (x := x1) hx hb dX2_init_2_133 rfl (lv_at hl 1 rfl) ?_
      obtain ⟨a70, rfl, h⟩ := h
      obtain ⟨hk_a70, h⟩ := h
      refine z_getq X hB.1 kc_X2 in_X2 (j := 3) (Nat.le_of_ble_eq_true rfl) q1245 (fun _ h => h) rfl (by decide) hk_a70 dX2_init_2_134 ?_
      obtain ⟨a71, ea71, h⟩ := h
      refine z_stk (st' := [.ref a71]) (by rw [ea71] <;> rfl) ?_
      obtain ⟨hk_a71, h⟩ := h
      obtain ⟨kc73, ks74, g1, g2, h⟩ := h
      refine z_callr (z_runV (rest := []) [] pk_J30_iterator (met_J30_iterator co a71 kc73 ks74 _ h) X hB hB.2.2.2.2.2.2 q2254 kc_J30 (by decide) hk_a71 rfl hl.1 (Nat.le_of_ble_eq_true rfl) dX2_init_2_137 (z_k1 hK1 g1) (z_k1 hK2 g2) (by decide) (by decide)) hB (fun _ h => h) (fun r72 T75 I76 Q77 H locs h9 hF hB => ?_)
      replace h := h9
      clear h9
      replace h := h hF
      have hk_a70 := z_tk hF hk_a70 (by decide)
      replace hK1 := z_k2 hK1 g1
      replace hK2 := z_k2 hK2 g2
      refine z_astore_n (x := r72) (lv' := [(2, va_rf r72), (0, .ref o), (1, .ref a70)]) hx hb dX2_init_2_140 rfl hl (by decide) rfl (fun ls hl9 => ?_)
      replace hl := hl9
      clear hl9
      obtain ⟨w, h⟩ := h
      exact wv_X2_init_2_141 X ho hoc  w hB hK1 hK2 (lv_sub hl [1, 2, 0] rfl) h
    · replace h := h.2 c69
      refine lv_aload_n (x := o) hx hb dX2_init_2_108 rfl (lv_at hl 0 rfl) ?_
      refine z_getq X hB.1 kc_X2 in_X2 (j := 1) (Nat.le_of_ble_eq_true rfl) q1237 (fun _ h => h) rfl (by decide) (z_fo hB ho (by decide)) dX2_init_2_109 ?_
      refine lv_iload_n hx hb dX2_init_2_112 rfl (lv_at hl 2 rfl) ?_
      obtain ⟨g1, g2, h⟩ := h
      refine z_new (col := co) tyX3 X hB kc_X3 in_X3 tyX3_ok q1088 q1138 q129 (by decide) (z_dvX3) rfl (z_k1 hK1 g1) (z_k1 hK2 g2) dX2_init_2_113 (fun a78 H hq hB => ?_)
      obtain ⟨T79, eT79⟩ : ∃ z, z = z_t T a78 (5, 0, co) := ⟨_, rfl⟩
      obtain ⟨I80, eI80⟩ : ∃ z, z = z_row I a78 (fun _ => 0) := ⟨_, rfl⟩
      obtain ⟨Q81, eQ81⟩ : ∃ z, z = z_row Q a78 (fun _ => none) := ⟨_, rfl⟩
      rw [← eT79, ← eI80, ← eQ81] at hB
      replace h := h a78 T79 I80 Q81 hq eT79 eI80 eQ81
      have hk_a78 := z_tq eT79
      have hc_a78 : (T79 a78).2.2 = co := by rw [z_tqc eT79]
      replace hK1 := z_k2 hK1 g1
      replace hK2 := z_k2 hK2 g2
      refine lv_dup hx hb dX2_init_2_116 rfl ?_
      refine z_aload_n (x := x1) hx hb dX2_init_2_117 rfl (lv_at hl 1 rfl) ?_
      obtain ⟨a82, rfl, h⟩ := h
      obtain ⟨hk_a82, h⟩ := h
      refine z_getq X hB.1 kc_X2 in_X2 (j := 1) (Nat.le_of_ble_eq_true rfl) q1237 (fun _ h => h) rfl (by decide) hk_a82 dX2_init_2_118 ?_
      refine lv_iload_n hx hb dX2_init_2_121 rfl (lv_at hl 2 rfl) ?_
      obtain ⟨a83, ea83, h⟩ := h
      refine z_stk (st' := [.int x2, .ref a83, .ref a78, .ref a78, .int x2, va_rf (Q o 1)]) (by rw [ea83] <;> rfl) ?_
      obtain ⟨hk_a83, h⟩ := h
      obtain ⟨h1, h⟩ := h
      refine z_aald (k := 3) X hB.1 (by decide) hk_a83 h1 dX2_init_2_122 ?_
      obtain ⟨kc85, ks86, g1, g2, h⟩ := h
      refine z_callv (z_runI (rest := [.ref a78, .int x2, va_rf (Q o 1)]) [va_rf (Q81 a83 x2.toNatClampNeg)] pk_X3_init_2 (met_X3_init_2 co a78 (Q81 a83 x2.toNatClampNeg) kc85 ks86 _ h) X hB hB.2.2.2.2.2.2 q2185 rfl hl.1 (by simp [z_cat, z_cati, z_catl, z_catf, z_catd, z_catq]) dX2_init_2_123 (z_k1 hK1 g1) (z_k1 hK2 g2) (by decide) (by decide)) hB (fun _ h => h) (fun T87 I88 Q89 H locs h9 hF hB => ?_)
      replace h := h9
      clear h9
      replace h := h hF
      have hc_a78 : (T87 a78).2.2 = co := by rw [z_te hF hk_a78 (by decide)]; exact hc_a78
      have hk_a78 := z_tk hF hk_a78 (by decide)
      have hk_a82 := z_tk hF hk_a82 (by decide)
      replace hK1 := z_k2 hK1 g1
      replace hK2 := z_k2 hK2 g2
      obtain ⟨a90, ea90, h⟩ := h
      refine z_stk (st' := [.ref a78, .int x2, .ref a90]) (by rw [ea90] <;> rfl) ?_
      obtain ⟨hk_a90, h⟩ := h
      obtain ⟨hc_a90, h⟩ := h
      obtain ⟨h1, h⟩ := h
      obtain ⟨h2, h⟩ := h
      obtain ⟨Q91, eQ91⟩ : ∃ z, z = z_up Q89 a90 x2.toNatClampNeg (some a78) := ⟨_, rfl⟩
      replace h := h Q91 eQ91
      refine z_aastX (k := 3) (x := (some a78)) X hB (by decide) hk_a90 hc_a90 h1 h2 dX2_init_2_126 (fun H locs hB => ?_)
      rw [← eQ91] at hB
      obtain ⟨y92, ey92⟩ : ∃ z : Int32, z = x2 + 1 := ⟨_, rfl⟩
      replace h := h y92 ey92
      refine lv_iinc (v := y92) (lv' := [(2, .int y92), (0, .ref o), (1, .ref a82)]) hx hb dX2_init_2_127 hl (k := 2) rfl (by rw [ey92]; rfl) (by decide) rfl (fun ls hl9 => ?_)
      replace hl := hl9
      clear hl9
      refine lv_goto (tgt := 103) hx hb dX2_init_2_130 (by decide) ?_
      exact ih hB hK1 hK2 (lv_sub hl [1, 2, 0] rfl) h
theorem wv_X2_init_2_69 {co : Nat} {o : Nat} {Qk : z_T → z_I → z_Q → Prop} (X : z_X l G A p R s m args meth c cX2_init_2 5 RX2 "<init>" none mc ms 14 268) (ho : (T0 o).1 = 3) (hoc : (T0 o).2.2 = co) : ∀ (n : Nat) {cells slots : Nat} {T : z_T} {I : z_I} {Q : z_Q} {kc : Nat} {ks : Nat} {x1 : Option Nat} {x2 : Option Nat} {H : Heap} {locs : List Loc} {ls : Array Slot}, z_HB G (z_co co) A s.heap T0 I0 Q0 T I Q H locs → cells + kc ≤ mc → slots + ks ≤ ms → lv_has ls 5 [(0, .ref o), (1, va_rf x1), (2, va_rf x2)] → wl_X2_init_2_69 G.2.2 co o Qk n T I Q kc ks x1 x2 → W p l e R s m args below meth c H locs cells slots (z_MQ below G (z_co co) A T0 I0 Q0 (z_qv Qk) z_no args s mc ms) (F0 m 69 ls []) := by
  intro n
  induction n with
  | zero =>
    intro cells slots T I Q kc ks x1 x2 H locs ls hB hK1 hK2 hl h
    exact h.elim
  | succ n ih =>
    intro cells slots T I Q kc ks x1 x2 H locs ls hB hK1 hK2 hl h
    obtain ⟨hx, hb, -⟩ := id X
    unfold wl_X2_init_2_69 at h
    refine z_aload_n (x := x2) hx hb dX2_init_2_69 rfl (lv_at hl 2 rfl) ?_
    obtain ⟨a55, rfl, h⟩ := h
    refine z_call5zp (z_run_itHas (rest := []) h X hB q1490 hl.1 (Nat.le_of_ble_eq_true rfl) dX2_init_2_70 (z_k4 hK1) (z_k4 hK2) (by decide) (by decide)) hB (fun r56 H locs hz h9 hB => ?_)
    replace h := h9
    clear h9
    replace h := h hz
    refine lv_if_eq (tgt := 101) hx hb dX2_init_2_75 (by decide) (fun c57 => ?_) (fun c57 => ?_)
    · replace h := h.1 c57
      refine lv_iconst (v := 0) hx hb dX2_init_2_101 (by decide) ?_
      refine lv_istore_n (i := 2) (lv' := [(2, .int 0), (0, .ref o), (1, va_rf x1)]) hx hb dX2_init_2_102 rfl hl (by decide) (by simp [z_cat, z_rfs, z_catq]) (fun ls hl9 => ?_)
      replace hl := hl9
      clear hl9
      obtain ⟨w, h⟩ := h
      exact wv_X2_init_2_103 X ho hoc  w hB hK1 hK2 (lv_sub hl [1, 2, 0] rfl) h
    · replace h := h.2 c57
      refine lv_aload_n (x := a55) hx hb dX2_init_2_78 rfl (lv_at hl 2 rfl) ?_
      refine z_call5r (z_run_itNext (rest := []) h X hB hB.2.2.2.2.2.2 q1524 hl.1 (Nat.le_of_ble_eq_true rfl) dX2_init_2_79 (z_k4 hK1) (z_k4 hK2) (by decide) (by decide)) hB (fun _ h => h) (fun r58 T59 I60 Q61 H locs h9 hF hB => ?_)
      replace h := h9
      clear h9
      replace h := h hF
      obtain ⟨h2, h⟩ := h
      refine z_castR X hB.1 kc_X7 (by decide) h2 q1615 (Or.inl rfl) dX2_init_2_84 ?_
      refine z_astore_n (x := r58) (lv' := [(3, va_rf r58), (0, .ref o), (1, va_rf x1), (2, .ref a55)]) hx hb dX2_init_2_87 rfl hl (by decide) rfl (fun ls hl9 => ?_)
      replace hl := hl9
      clear hl9
      refine lv_aload_n (x := o) hx hb dX2_init_2_88 rfl (lv_at hl 1 rfl) ?_
      refine z_getq X hB.1 kc_X2 in_X2 (j := 0) (Nat.le_of_ble_eq_true rfl) q1234 (fun _ h => h) rfl (by decide) (z_fo hB ho (by decide)) dX2_init_2_89 ?_
      refine z_aload_n (x := r58) hx hb dX2_init_2_92 rfl (lv_at hl 0 rfl) ?_
      obtain ⟨a62, ea62, h⟩ := h
      refine z_stk (st' := [va_rf r58, .ref a62]) (by rw [ea62] <;> rfl) ?_
      obtain ⟨hk_a62, h⟩ := h
      obtain ⟨kc64, ks65, g1, g2, h⟩ := h
      refine z_callz (z_runU (rest := []) [va_rf r58] pu_J3_J2_add_LinkedHashSet rfl (met_J2_add co a62 r58 kc64 ks65 _ h) X hB hB.2.2.2.2.2.2 q1630 kc_J3 (by decide) hk_a62 rfl hl.1 (Nat.le_of_ble_eq_true rfl) dX2_init_2_93 (z_k1 hK1 g1) (z_k1 hK2 g2) (by decide) (by decide)) hB (fun _ h => h) (fun r63 T66 I67 Q68 H locs hz h9 hF hB => ?_)
      replace h := h9
      clear h9
      replace h := h hz hF
      replace hK1 := z_k2 hK1 g1
      replace hK2 := z_k2 hK2 g2
      refine lv_istore (lv' := [(4, .int r63), (3, va_rf r58), (0, .ref o), (1, va_rf x1), (2, .ref a55)]) hx hb dX2_init_2_96 hl (by decide) (by simp [z_cat, z_rfs, z_catq]) (fun ls hl9 => ?_)
      replace hl := hl9
      clear hl9
      refine lv_goto (tgt := 69) hx hb dX2_init_2_98 (by decide) ?_
      exact ih hB hK1 hK2 (lv_sub hl [2, 3, 4] rfl) h
theorem ww_X2_init_2_0 {co : Nat} {o : Nat} {Qk : z_T → z_I → z_Q → Prop} (X : z_X l G A p R s m args meth c cX2_init_2 5 RX2 "<init>" none mc ms 14 268) (ho : (T0 o).1 = 3) (hoc : (T0 o).2.2 = co) {cells slots : Nat} {T : z_T} {I : z_I} {Q : z_Q} {kc : Nat} {ks : Nat} {x1 : Option Nat} {H : Heap} {locs : List Loc} {ls : Array Slot} (hB : z_HB G (z_co co) A s.heap T0 I0 Q0 T I Q H locs) (hK1 : cells + kc ≤ mc) (hK2 : slots + ks ≤ ms) (hl : lv_has ls 5 [(0, .ref o), (1, va_rf x1)]) (h : wb_X2_init_2_0 G.2.2 co o Qk T I Q kc ks x1) : W p l e R s m args below meth c H locs cells slots (z_MQ below G (z_co co) A T0 I0 Q0 (z_qv Qk) z_no args s mc ms) (F0 m 0 ls []) := by
  obtain ⟨hx, hb, -⟩ := id X
  unfold wb_X2_init_2_0 at h
  refine lv_aload_n (x := o) hx hb dX2_init_2_0 rfl (lv_at hl 0 rfl) ?_
  refine z_objInit (rest := []) X q177 hl.1 dX2_init_2_1 (by decide) (Nat.le_of_ble_eq_true rfl) ?_
  refine lv_aload_n (x := o) hx hb dX2_init_2_4 rfl (lv_at hl 0 rfl) ?_
  obtain ⟨g1, g2, h⟩ := h
  refine z_new (col := co) tyJ3 X hB kc_J3 in_J3 tyJ3_ok q178 q179 q99 (by decide) (z_dvJ3) rfl (z_k1 hK1 g1) (z_k1 hK2 g2) dX2_init_2_5 (fun a1 H hq hB => ?_)
  obtain ⟨T2, eT2⟩ : ∃ z, z = z_t T a1 (21, 0, co) := ⟨_, rfl⟩
  obtain ⟨I3, eI3⟩ : ∃ z, z = z_row I a1 (fun _ => 0) := ⟨_, rfl⟩
  obtain ⟨Q4, eQ4⟩ : ∃ z, z = z_row Q a1 (fun _ => none) := ⟨_, rfl⟩
  rw [← eT2, ← eI3, ← eQ4] at hB
  replace h := h a1 T2 I3 Q4 hq eT2 eI3 eQ4
  have hk_a1 := z_tq eT2
  have hc_a1 : (T2 a1).2.2 = co := by rw [z_tqc eT2]
  replace hK1 := z_k2 hK1 g1
  replace hK2 := z_k2 hK2 g2
  refine lv_dup hx hb dX2_init_2_8 rfl ?_
  obtain ⟨kc6, ks7, g1, g2, h⟩ := h
  refine z_callv (z_runI (rest := [.ref a1, .ref o]) [] pk_J3_init (met_J3_init co a1 kc6 ks7 _ h) X hB hB.2.2.2.2.2.2 q180 rfl hl.1 (Nat.le_of_ble_eq_true rfl) dX2_init_2_9 (z_k1 hK1 g1) (z_k1 hK2 g2) (by decide) (by decide)) hB (fun _ h => h) (fun T8 I9 Q10 H locs h9 hF hB => ?_)
  replace h := h9
  clear h9
  replace h := h hF
  have hc_a1 : (T8 a1).2.2 = co := by rw [z_te hF hk_a1 (by decide)]; exact hc_a1
  have hk_a1 := z_tk hF hk_a1 (by decide)
  replace hK1 := z_k2 hK1 g1
  replace hK2 := z_k2 hK2 g2
  obtain ⟨Q11, eQ11⟩ : ∃ z, z = z_up Q10 o 0 (some a1) := ⟨_, rfl⟩
  replace h := h Q11 eQ11
  refine z_putqF (x := (some a1)) eQ11 tyX2 X hB kc_X2 in_X2 tyX2_ok nmX2 (j := 0) (Nat.le_of_ble_eq_true rfl) q1234 (fun _ h => h) rfl rfl rfl (by decide) (z_fo hB ho (by decide)) (z_foc hB ho (by decide) hoc) rfl (Or.inl ⟨_, rfl⟩) dX2_init_2_12 (fun H locs hB => ?_)
  refine lv_aload_n (x := o) hx hb dX2_init_2_15 rfl (lv_at hl 0 rfl) ?_
  refine lv_iconst (v := 3) hx hb dX2_init_2_16 (by decide) ?_
  obtain ⟨g1, g2, h⟩ := h
  refine z_newq (k := 3) (n := 3) (col := co) X hB (by decide) q1088 (by decide) rfl (Nat.le_of_ble_eq_true rfl) rfl (z_k1 hK1 g1) (z_k1 hK2 g2) dX2_init_2_17 (fun a12 H hq hB => ?_)
  obtain ⟨T13, eT13⟩ : ∃ z, z = z_t T8 a12 (103, 3, co) := ⟨_, rfl⟩
  obtain ⟨I14, eI14⟩ : ∃ z, z = z_row I9 a12 (fun _ => 0) := ⟨_, rfl⟩
  obtain ⟨Q15, eQ15⟩ : ∃ z, z = z_row Q11 a12 (fun _ => none) := ⟨_, rfl⟩
  rw [← eT13, ← eI14, ← eQ15] at hB
  replace h := h a12 T13 I14 Q15 hq eT13 eI14 eQ15
  have hk_a12 := z_tq eT13
  have hc_a12 : (T13 a12).2.2 = co := by rw [z_tqc eT13]
  replace hK1 := z_k2 hK1 g1
  replace hK2 := z_k2 hK2 g2
  obtain ⟨Q16, eQ16⟩ : ∃ z, z = z_up Q15 o 1 (some a12) := ⟨_, rfl⟩
  replace h := h Q16 eQ16
  refine z_putqF (x := (some a12)) eQ16 tyX2 X hB kc_X2 in_X2 tyX2_ok nmX2 (j := 1) (Nat.le_of_ble_eq_true rfl) q1237 (fun _ h => h) rfl rfl rfl (by decide) (z_fo hB ho (by decide)) (z_foc hB ho (by decide) hoc) rfl (Or.inr ⟨_, rfl⟩) dX2_init_2_20 (fun H locs hB => ?_)
  refine lv_aload_n (x := o) hx hb dX2_init_2_23 rfl (lv_at hl 0 rfl) ?_
  refine lv_iconst (v := 3) hx hb dX2_init_2_24 (by decide) ?_
  obtain ⟨g1, g2, h⟩ := h
  refine z_newq (k := 4) (n := 3) (col := co) X hB (by decide) q1090 (by decide) rfl (Nat.le_of_ble_eq_true rfl) rfl (z_k1 hK1 g1) (z_k1 hK2 g2) dX2_init_2_25 (fun a17 H hq hB => ?_)
  obtain ⟨T18, eT18⟩ : ∃ z, z = z_t T13 a17 (104, 3, co) := ⟨_, rfl⟩
  obtain ⟨I19, eI19⟩ : ∃ z, z = z_row I14 a17 (fun _ => 0) := ⟨_, rfl⟩
  obtain ⟨Q20, eQ20⟩ : ∃ z, z = z_row Q16 a17 (fun _ => none) := ⟨_, rfl⟩
  rw [← eT18, ← eI19, ← eQ20] at hB
  replace h := h a17 T18 I19 Q20 hq eT18 eI19 eQ20
  have hk_a17 := z_tq eT18
  have hc_a17 : (T18 a17).2.2 = co := by rw [z_tqc eT18]
  replace hK1 := z_k2 hK1 g1
  replace hK2 := z_k2 hK2 g2
  obtain ⟨Q21, eQ21⟩ : ∃ z, z = z_up Q20 o 2 (some a17) := ⟨_, rfl⟩
  replace h := h Q21 eQ21
  refine z_putqF (x := (some a17)) eQ21 tyX2 X hB kc_X2 in_X2 tyX2_ok nmX2 (j := 2) (Nat.le_of_ble_eq_true rfl) q1240 (fun _ h => h) rfl rfl rfl (by decide) (z_fo hB ho (by decide)) (z_foc hB ho (by decide) hoc) rfl (Or.inr ⟨_, rfl⟩) dX2_init_2_28 (fun H locs hB => ?_)
  refine lv_aload_n (x := o) hx hb dX2_init_2_31 rfl (lv_at hl 0 rfl) ?_
  obtain ⟨g1, g2, h⟩ := h
  refine z_new (col := co) tyJ30 X hB kc_J30 in_J30 tyJ30_ok q1092 q1093 q127 (by decide) (z_dvJ30) rfl (z_k1 hK1 g1) (z_k1 hK2 g2) dX2_init_2_32 (fun a22 H hq hB => ?_)
  obtain ⟨T23, eT23⟩ : ∃ z, z = z_t T18 a22 (19, 0, co) := ⟨_, rfl⟩
  obtain ⟨I24, eI24⟩ : ∃ z, z = z_row I19 a22 (fun _ => 0) := ⟨_, rfl⟩
  obtain ⟨Q25, eQ25⟩ : ∃ z, z = z_row Q21 a22 (fun _ => none) := ⟨_, rfl⟩
  rw [← eT23, ← eI24, ← eQ25] at hB
  replace h := h a22 T23 I24 Q25 hq eT23 eI24 eQ25
  have hk_a22 := z_tq eT23
  have hc_a22 : (T23 a22).2.2 = co := by rw [z_tqc eT23]
  replace hK1 := z_k2 hK1 g1
  replace hK2 := z_k2 hK2 g2
  refine lv_dup hx hb dX2_init_2_35 rfl ?_
  refine z_callv (z_runI (rest := [.ref a22, .ref o]) [] pk_J30_init (met_J30_init co a22 _ h) X hB hB.2.2.2.2.2.2 q1094 rfl hl.1 (Nat.le_of_ble_eq_true rfl) dX2_init_2_36 (z_k4 hK1) (z_k4 hK2) (by decide) (by decide)) hB (fun _ h => h) (fun T27 I28 Q29 H locs h9 hF hB => ?_)
  replace h := h9
  clear h9
  replace h := h hF
  have hc_a22 : (T27 a22).2.2 = co := by rw [z_te hF hk_a22 (by decide)]; exact hc_a22
  have hk_a22 := z_tk hF hk_a22 (by decide)
  obtain ⟨Q30, eQ30⟩ : ∃ z, z = z_up Q29 o 3 (some a22) := ⟨_, rfl⟩
  replace h := h Q30 eQ30
  refine z_putqF (x := (some a22)) eQ30 tyX2 X hB kc_X2 in_X2 tyX2_ok nmX2 (j := 3) (Nat.le_of_ble_eq_true rfl) q1245 (fun _ h => h) rfl rfl rfl (by decide) (z_fo hB ho (by decide)) (z_foc hB ho (by decide) hoc) rfl (Or.inl ⟨_, rfl⟩) dX2_init_2_39 (fun H locs hB => ?_)
  refine lv_aload_n (x := o) hx hb dX2_init_2_42 rfl (lv_at hl 0 rfl) ?_
  obtain ⟨g1, g2, h⟩ := h
  refine z_new (col := co) tyJ31 X hB kc_J31 in_J31 tyJ31_ok q1118 q1119 q128 (by decide) (z_dvJ31) rfl (z_k1 hK1 g1) (z_k1 hK2 g2) dX2_init_2_43 (fun a31 H hq hB => ?_)
  obtain ⟨T32, eT32⟩ : ∃ z, z = z_t T27 a31 (17, 0, co) := ⟨_, rfl⟩
  obtain ⟨I33, eI33⟩ : ∃ z, z = z_row I28 a31 (fun _ => 0) := ⟨_, rfl⟩
  obtain ⟨Q34, eQ34⟩ : ∃ z, z = z_row Q30 a31 (fun _ => none) := ⟨_, rfl⟩
  rw [← eT32, ← eI33, ← eQ34] at hB
  replace h := h a31 T32 I33 Q34 hq eT32 eI33 eQ34
  have hk_a31 := z_tq eT32
  have hc_a31 : (T32 a31).2.2 = co := by rw [z_tqc eT32]
  replace hK1 := z_k2 hK1 g1
  replace hK2 := z_k2 hK2 g2
  refine lv_dup hx hb dX2_init_2_46 rfl ?_
  obtain ⟨kc36, ks37, g1, g2, h⟩ := h
  refine z_callv (z_runI (rest := [.ref a31, .ref o]) [] pk_J31_init (met_J31_init co a31 kc36 ks37 _ h) X hB hB.2.2.2.2.2.2 q1120 rfl hl.1 (Nat.le_of_ble_eq_true rfl) dX2_init_2_47 (z_k1 hK1 g1) (z_k1 hK2 g2) (by decide) (by decide)) hB (fun _ h => h) (fun T38 I39 Q40 H locs h9 hF hB => ?_)
  replace h := h9
  clear h9
  replace h := h hF
  have hc_a31 : (T38 a31).2.2 = co := by rw [z_te hF hk_a31 (by decide)]; exact hc_a31
  have hk_a31 := z_tk hF hk_a31 (by decide)
  replace hK1 := z_k2 hK1 g1
  replace hK2 := z_k2 hK2 g2
  obtain ⟨Q41, eQ41⟩ : ∃ z, z = z_up Q40 o 4 (some a31) := ⟨_, rfl⟩
  replace h := h Q41 eQ41
  refine z_putqF (x := (some a31)) eQ41 tyX2 X hB kc_X2 in_X2 tyX2_ok nmX2 (j := 4) (Nat.le_of_ble_eq_true rfl) q1248 (fun _ h => h) rfl rfl rfl (by decide) (z_fo hB ho (by decide)) (z_foc hB ho (by decide) hoc) rfl (Or.inl ⟨_, rfl⟩) dX2_init_2_50 (fun H locs hB => ?_)
  refine lv_aload_n (x := o) hx hb dX2_init_2_53 rfl (lv_at hl 0 rfl) ?_
  refine lv_bipush (v := 8) hx hb dX2_init_2_54 (by decide) ?_
  obtain ⟨g1, g2, h⟩ := h
  refine z_newa (k := 0) (n := 8) (col := co) (.int) rfl (by decide) X hB q1170 (by decide) rfl (Nat.le_of_ble_eq_true rfl) rfl (z_k1 hK1 g1) (z_k1 hK2 g2) dX2_init_2_56 (fun a42 H hq hB => ?_)
  obtain ⟨T43, eT43⟩ : ∃ z, z = z_t T38 a42 (100, 8, co) := ⟨_, rfl⟩
  obtain ⟨I44, eI44⟩ : ∃ z, z = z_row I39 a42 (fun _ => 0) := ⟨_, rfl⟩
  obtain ⟨Q45, eQ45⟩ : ∃ z, z = z_row Q41 a42 (fun _ => none) := ⟨_, rfl⟩
  rw [← eT43, ← eI44, ← eQ45] at hB
  replace h := h a42 T43 I44 Q45 hq eT43 eI44 eQ45
  have hk_a42 := z_tq eT43
  have hc_a42 : (T43 a42).2.2 = co := by rw [z_tqc eT43]
  replace hK1 := z_k2 hK1 g1
  replace hK2 := z_k2 hK2 g2
  obtain ⟨Q46, eQ46⟩ : ∃ z, z = z_up Q45 o 5 (some a42) := ⟨_, rfl⟩
  replace h := h Q46 eQ46
  refine z_putqF (x := (some a42)) eQ46 tyX2 X hB kc_X2 in_X2 tyX2_ok nmX2 (j := 5) (Nat.le_of_ble_eq_true rfl) q1250 (fun _ h => h) rfl rfl rfl (by decide) (z_fo hB ho (by decide)) (z_foc hB ho (by decide) hoc) rfl (Or.inr ⟨_, rfl⟩) dX2_init_2_58 (fun H locs hB => ?_)
  refine z_aload_n (x := x1) hx hb dX2_init_2_61 rfl (lv_at hl 1 rfl) ?_
  obtain ⟨a47, rfl, h⟩ := h
  obtain ⟨hk_a47, h⟩ := h
  refine z_getq X hB.1 kc_X2 in_X2 (j := 0) (Nat.le_of_ble_eq_true rfl) q1234 (fun _ h => h) rfl (by decide) hk_a47 dX2_init_2_62 ?_
  obtain ⟨a48, ea48, h⟩ := h
  refine z_stk (st' := [.ref a48]) (by rw [ea48] <;> rfl) ?_
  obtain ⟨hk_a48, h⟩ := h
  obtain ⟨kc50, ks51, g1, g2, h⟩ := h
  refine z_callr (z_runU (rest := []) [] pu_J3_J2_iterator_LinkedHashSet rfl (met_J2_iterator co a48 kc50 ks51 _ h) X hB hB.2.2.2.2.2.2 q1388 kc_J3 (by decide) hk_a48 rfl hl.1 (Nat.le_of_ble_eq_true rfl) dX2_init_2_65 (z_k1 hK1 g1) (z_k1 hK2 g2) (by decide) (by decide)) hB (fun _ h => h) (fun r49 T52 I53 Q54 H locs h9 hF hB => ?_)
  replace h := h9
  clear h9
  replace h := h hF
  have hk_a47 := z_tk hF hk_a47 (by decide)
  replace hK1 := z_k2 hK1 g1
  replace hK2 := z_k2 hK2 g2
  refine z_astore_n (x := r49) (lv' := [(2, va_rf r49), (0, .ref o), (1, .ref a47)]) hx hb dX2_init_2_68 rfl hl (by decide) rfl (fun ls hl9 => ?_)
  replace hl := hl9
  clear hl9
  obtain ⟨w, h⟩ := h
  exact wv_X2_init_2_69 X ho hoc  w hB hK1 hK2 (lv_sub hl [1, 2, 0] rfl) h
theorem pk_X2_init_2 : z_PI yX2_init_2 cX2_init_2 5 1 := ⟨q1628, q95, q1629, rfl, by decide +kernel⟩
theorem met_X2_init_2 {l : Launch} {G : z_E} {T : z_T} {I : z_I} {Q : z_Q} (co : Nat) (o : Nat) (x1 : Option Nat) (kc : Nat) (ks : Nat) (Qk : z_T → z_I → z_Q → Prop) (h : wp_X2_init_2 G.2.2 co T I Q o x1 kc ks Qk) : z_GM l G yX2_init_2 (ws_ yX2_init_2 cX2_init_2 5 none) 14 268 kc ks [.ref o, va_rf x1] (z_co co) T I Q (z_qv Qk) z_no := by
  obtain ⟨ho, hoc, h⟩ := h
  refine z_body (own := RX2) (nm := "<init>") (by decide +kernel) rfl rfl (by cases x1 <;> exact Nat.le_of_ble_eq_true rfl) (fun p e R s m below meth c A ls X hB hl => ?_)
  replace hl : lv_has ls 5 [(0, .ref o), (1, va_rf x1)] := by cases x1 <;> exact hl
  exact ww_X2_init_2_0 X ho hoc hB z_k0 z_k0 hl h
/-! X2_isSafe -/
theorem ww_X2_isSafe_17 {co : Nat} {o : Nat} {Qk : Int32 → z_T → z_I → z_Q → Prop} (X : z_X l G A p R s m args meth c cX2_isSafe 1 RX2 "isSafe" (some .boolean) mc ms 18 339) (ho : (T0 o).1 = 3) {cells slots : Nat} {T : z_T} {I : z_I} {Q : z_Q} {kc : Nat} {ks : Nat} {s0 : Int32} {H : Heap} {locs : List Loc} {ls : Array Slot} (hB : z_HB G (z_co co) A s.heap T0 I0 Q0 T I Q H locs) (hK1 : cells + kc ≤ mc) (hK2 : slots + ks ≤ ms) (hl : lv_has ls 1 []) (h : wb_X2_isSafe_17 co o Qk T I Q kc ks s0) : W p l e R s m args below meth c H locs cells slots (z_MQ below G (z_co co) A T0 I0 Q0 (z_qz Qk) z_no args s mc ms) (F0 m 17 ls [.int s0]) := by
  obtain ⟨hx, hb, -⟩ := id X
  unfold wb_X2_isSafe_17 at h
  obtain ⟨hz, h⟩ := h
  exact z_zret X hB hz ⟨_, rfl, hz, h⟩ (z_k3 hK1) (z_k3 hK2) dX2_isSafe_17
theorem ww_X2_isSafe_0 {co : Nat} {o : Nat} {Qk : Int32 → z_T → z_I → z_Q → Prop} (X : z_X l G A p R s m args meth c cX2_isSafe 1 RX2 "isSafe" (some .boolean) mc ms 18 339) (ho : (T0 o).1 = 3) {cells slots : Nat} {T : z_T} {I : z_I} {Q : z_Q} {kc : Nat} {ks : Nat} {H : Heap} {locs : List Loc} {ls : Array Slot} (hB : z_HB G (z_co co) A s.heap T0 I0 Q0 T I Q H locs) (hK1 : cells + kc ≤ mc) (hK2 : slots + ks ≤ ms) (hl : lv_has ls 1 [(0, .ref o)]) (h : wb_X2_isSafe_0 co o Qk T I Q kc ks) : W p l e R s m args below meth c H locs cells slots (z_MQ below G (z_co co) A T0 I0 Q0 (z_qz Qk) z_no args s mc ms) (F0 m 0 ls []) := by
  obtain ⟨hx, hb, -⟩ := id X
  unfold wb_X2_isSafe_0 at h
  refine lv_aload_n (x := o) hx hb dX2_isSafe_0 rfl (lv_at hl 0 rfl) ?_
  refine lv_iconst (v := (-1)) hx hb dX2_isSafe_1 (by decide) ?_
  refine lv_iconst (v := 0) hx hb dX2_isSafe_2 (by decide) ?_
  refine lv_iconst (v := 0) hx hb dX2_isSafe_3 (by decide) ?_
  refine lv_null hx hb dX2_isSafe_4 ?_
  refine z_stk (st' := [va_rf none, .int 0, .int 0, .int (-1), .ref o]) rfl ?_
  obtain ⟨kc2, ks3, g1, g2, h⟩ := h
  refine z_calli (z_runV (rest := []) [.int (-1), .int 0, .int 0, va_rf none] pk_X2_stuck (met_X2_stuck co o (-1) 0 0 none kc2 ks3 _ h) X hB hB.2.2.2.2.2.2 q1322 kc_X2 (by decide) (z_fo hB ho (by decide)) rfl hl.1 (Nat.le_of_ble_eq_true rfl) dX2_isSafe_5 (z_k1 hK1 g1) (z_k1 hK2 g2) (by decide) (by decide)) hB (fun _ h => h) (fun r1 T4 I5 Q6 H locs h9 hF hB => ?_)
  replace h := h9
  clear h9
  replace h := h hF
  replace hK1 := z_k2 hK1 g1
  replace hK2 := z_k2 hK2 g2
  refine lv_iconst (v := (-1)) hx hb dX2_isSafe_8 (by decide) ?_
  refine lv_icmp_ne (tgt := 16) hx hb dX2_isSafe_9 (by decide) (fun c7 => ?_) (fun c7 => ?_)
  · replace h := h.1 c7
    refine lv_iconst (v := 0) hx hb dX2_isSafe_16 (by decide) ?_
    exact ww_X2_isSafe_17 X ho  hB hK1 hK2 (lv_sub hl [] rfl) h
  · replace h := h.2 c7
    refine lv_iconst (v := 1) hx hb dX2_isSafe_12 (by decide) ?_
    refine lv_goto (tgt := 17) hx hb dX2_isSafe_13 (by decide) ?_
    exact ww_X2_isSafe_17 X ho  hB hK1 hK2 (lv_sub hl [] rfl) h
theorem pk_X2_isSafe : z_PV RX2 yX2_isSafe cX2_isSafe 1 (some .boolean) 0 := ⟨q1319, q1320, q95, q1321, by decide +kernel⟩
theorem met_X2_isSafe {l : Launch} {G : z_E} {T : z_T} {I : z_I} {Q : z_Q} (co : Nat) (o : Nat) (kc : Nat) (ks : Nat) (Qk : Int32 → z_T → z_I → z_Q → Prop) (h : wp_X2_isSafe co T I Q o kc ks Qk) : z_GM l G yX2_isSafe (ws_ yX2_isSafe cX2_isSafe 1 (some .boolean)) 18 339 kc ks [.ref o] (z_co co) T I Q (z_qz Qk) z_no := by
  obtain ⟨ho, h⟩ := h
  refine z_body (own := RX2) (nm := "isSafe") (by decide +kernel) rfl rfl (Nat.le_of_ble_eq_true rfl) (fun p e R s m below meth c A ls X hB hl => ?_)
  exact ww_X2_isSafe_0 X ho hB z_k0 z_k0 hl h
/-! X2_init -/
theorem wv_X2_init_89 {co : Nat} {o : Nat} {Qk : z_T → z_I → z_Q → Prop} (X : z_X l G A p R s m args meth c cX2_init 2 RX2 "<init>" none mc ms 14 249) (ho : (T0 o).1 = 3) (hoc : (T0 o).2.2 = co) : ∀ (n : Nat) {cells slots : Nat} {T : z_T} {I : z_I} {Q : z_Q} {kc : Nat} {ks : Nat} {x1 : Int32} {H : Heap} {locs : List Loc} {ls : Array Slot}, z_HB G (z_co co) A s.heap T0 I0 Q0 T I Q H locs → cells + kc ≤ mc → slots + ks ≤ ms → lv_has ls 2 [(0, .ref o), (1, .int x1)] → wl_X2_init_89 G.2.2 co o Qk n T I Q kc ks x1 → W p l e R s m args below meth c H locs cells slots (z_MQ below G (z_co co) A T0 I0 Q0 (z_qv Qk) z_no args s mc ms) (F0 m 89 ls []) := by
  intro n
  induction n with
  | zero =>
    intro cells slots T I Q kc ks x1 H locs ls hB hK1 hK2 hl h
    exact h.elim
  | succ n ih =>
    intro cells slots T I Q kc ks x1 H locs ls hB hK1 hK2 hl h
    obtain ⟨hx, hb, -⟩ := id X
    unfold wl_X2_init_89 at h
    refine lv_iload_n hx hb dX2_init_89 rfl (lv_at hl 1 rfl) ?_
    refine lv_iconst (v := 3) hx hb dX2_init_90 (by decide) ?_
    refine lv_icmp_ge (tgt := 115) hx hb dX2_init_91 (by decide) (fun c61 => ?_) (fun c61 => ?_)
    · replace h := h.1 c61
      exact z_vret X hB ⟨rfl, h⟩ (z_k3 hK1) (z_k3 hK2) dX2_init_115
    · replace h := h.2 c61
      refine lv_aload_n (x := o) hx hb dX2_init_94 rfl (lv_at hl 0 rfl) ?_
      refine z_getq X hB.1 kc_X2 in_X2 (j := 2) (Nat.le_of_ble_eq_true rfl) q1240 (fun _ h => h) rfl (by decide) (z_fo hB ho (by decide)) dX2_init_95 ?_
      refine lv_iload_n hx hb dX2_init_98 rfl (lv_at hl 1 rfl) ?_
      obtain ⟨g1, g2, h⟩ := h
      refine z_new (col := co) tyX4 X hB kc_X4 in_X4 tyX4_ok q1090 q1171 q130 (by decide) (z_dvX4) rfl (z_k1 hK1 g1) (z_k1 hK2 g2) dX2_init_99 (fun a62 H hq hB => ?_)
      obtain ⟨T63, eT63⟩ : ∃ z, z = z_t T a62 (4, 0, co) := ⟨_, rfl⟩
      obtain ⟨I64, eI64⟩ : ∃ z, z = z_row I a62 (fun _ => 0) := ⟨_, rfl⟩
      obtain ⟨Q65, eQ65⟩ : ∃ z, z = z_row Q a62 (fun _ => none) := ⟨_, rfl⟩
      rw [← eT63, ← eI64, ← eQ65] at hB
      replace h := h a62 T63 I64 Q65 hq eT63 eI64 eQ65
      have hk_a62 := z_tq eT63
      have hc_a62 : (T63 a62).2.2 = co := by rw [z_tqc eT63]
      replace hK1 := z_k2 hK1 g1
      replace hK2 := z_k2 hK2 g2
      refine lv_dup hx hb dX2_init_102 rfl ?_
      refine lv_aload_n (x := o) hx hb dX2_init_103 rfl (lv_at hl 0 rfl) ?_
      refine lv_iload_n hx hb dX2_init_104 rfl (lv_at hl 1 rfl) ?_
      obtain ⟨kc67, ks68, g1, g2, h⟩ := h
      refine z_callv (z_runI (rest := [.ref a62, .int x1, va_rf (Q o 2)]) [.ref o, .int x1] pk_X4_init (met_X4_init co a62 o x1 kc67 ks68 _ h) X hB hB.2.2.2.2.2.2 q1172 rfl hl.1 (by simp [z_cat, z_cati, z_catl, z_catf, z_catd, z_catq]) dX2_init_105 (z_k1 hK1 g1) (z_k1 hK2 g2) (by decide) (by decide)) hB (fun _ h => h) (fun T69 I70 Q71 H locs h9 hF hB => ?_)
      replace h := h9
      clear h9
      replace h := h hF
      have hc_a62 : (T69 a62).2.2 = co := by rw [z_te hF hk_a62 (by decide)]; exact hc_a62
      have hk_a62 := z_tk hF hk_a62 (by decide)
      replace hK1 := z_k2 hK1 g1
      replace hK2 := z_k2 hK2 g2
      obtain ⟨a72, ea72, h⟩ := h
      refine z_stk (st' := [.ref a62, .int x1, .ref a72]) (by rw [ea72] <;> rfl) ?_
      obtain ⟨hk_a72, h⟩ := h
      obtain ⟨hc_a72, h⟩ := h
      obtain ⟨h1, h⟩ := h
      obtain ⟨h2, h⟩ := h
      obtain ⟨Q73, eQ73⟩ : ∃ z, z = z_up Q71 a72 x1.toNatClampNeg (some a62) := ⟨_, rfl⟩
      replace h := h Q73 eQ73
      refine z_aastX (k := 4) (x := (some a62)) X hB (by decide) hk_a72 hc_a72 h1 h2 dX2_init_108 (fun H locs hB => ?_)
      rw [← eQ73] at hB
      obtain ⟨y74, ey74⟩ : ∃ z : Int32, z = x1 + 1 := ⟨_, rfl⟩
      replace h := h y74 ey74
      refine lv_iinc (v := y74) (lv' := [(1, .int y74), (0, .ref o)]) hx hb dX2_init_109 hl (k := 1) rfl (by rw [ey74]; rfl) (by decide) rfl (fun ls hl9 => ?_)
      replace hl := hl9
      clear hl9
      refine lv_goto (tgt := 89) hx hb dX2_init_112 (by decide) ?_
      exact ih hB hK1 hK2 (lv_sub hl [1, 0] rfl) h
theorem wv_X2_init_63 {co : Nat} {o : Nat} {Qk : z_T → z_I → z_Q → Prop} (X : z_X l G A p R s m args meth c cX2_init 2 RX2 "<init>" none mc ms 14 249) (ho : (T0 o).1 = 3) (hoc : (T0 o).2.2 = co) : ∀ (n : Nat) {cells slots : Nat} {T : z_T} {I : z_I} {Q : z_Q} {kc : Nat} {ks : Nat} {x1 : Int32} {H : Heap} {locs : List Loc} {ls : Array Slot}, z_HB G (z_co co) A s.heap T0 I0 Q0 T I Q H locs → cells + kc ≤ mc → slots + ks ≤ ms → lv_has ls 2 [(0, .ref o), (1, .int x1)] → wl_X2_init_63 G.2.2 co o Qk n T I Q kc ks x1 → W p l e R s m args below meth c H locs cells slots (z_MQ below G (z_co co) A T0 I0 Q0 (z_qv Qk) z_no args s mc ms) (F0 m 63 ls []) := by
  intro n
  induction n with
  | zero =>
    intro cells slots T I Q kc ks x1 H locs ls hB hK1 hK2 hl h
    exact h.elim
  | succ n ih =>
    intro cells slots T I Q kc ks x1 H locs ls hB hK1 hK2 hl h
    obtain ⟨hx, hb, -⟩ := id X
    unfold wl_X2_init_63 at h
    refine lv_iload_n hx hb dX2_init_63 rfl (lv_at hl 1 rfl) ?_
    refine lv_iconst (v := 3) hx hb dX2_init_64 (by decide) ?_
    refine lv_icmp_ge (tgt := 87) hx hb dX2_init_65 (by decide) (fun c47 => ?_) (fun c47 => ?_)
    · replace h := h.1 c47
      refine lv_iconst (v := 0) hx hb dX2_init_87 (by decide) ?_
      refine lv_istore_n (lv' := [(1, .int 0), (0, .ref o)]) hx hb dX2_init_88 rfl hl (by decide) rfl (fun ls hl9 => ?_)
      replace hl := hl9
      clear hl9
      obtain ⟨w, h⟩ := h
      exact wv_X2_init_89 X ho hoc  w hB hK1 hK2 (lv_sub hl [1, 0] rfl) h
    · replace h := h.2 c47
      refine lv_aload_n (x := o) hx hb dX2_init_68 rfl (lv_at hl 0 rfl) ?_
      refine z_getq X hB.1 kc_X2 in_X2 (j := 1) (Nat.le_of_ble_eq_true rfl) q1237 (fun _ h => h) rfl (by decide) (z_fo hB ho (by decide)) dX2_init_69 ?_
      refine lv_iload_n hx hb dX2_init_72 rfl (lv_at hl 1 rfl) ?_
      obtain ⟨g1, g2, h⟩ := h
      refine z_new (col := co) tyX3 X hB kc_X3 in_X3 tyX3_ok q1088 q1138 q129 (by decide) (z_dvX3) rfl (z_k1 hK1 g1) (z_k1 hK2 g2) dX2_init_73 (fun a48 H hq hB => ?_)
      obtain ⟨T49, eT49⟩ : ∃ z, z = z_t T a48 (5, 0, co) := ⟨_, rfl⟩
      obtain ⟨I50, eI50⟩ : ∃ z, z = z_row I a48 (fun _ => 0) := ⟨_, rfl⟩
      obtain ⟨Q51, eQ51⟩ : ∃ z, z = z_row Q a48 (fun _ => none) := ⟨_, rfl⟩
      rw [← eT49, ← eI50, ← eQ51] at hB
      replace h := h a48 T49 I50 Q51 hq eT49 eI50 eQ51
      have hk_a48 := z_tq eT49
      have hc_a48 : (T49 a48).2.2 = co := by rw [z_tqc eT49]
      replace hK1 := z_k2 hK1 g1
      replace hK2 := z_k2 hK2 g2
      refine lv_dup hx hb dX2_init_76 rfl ?_
      obtain ⟨kc53, ks54, g1, g2, h⟩ := h
      refine z_callv (z_runI (rest := [.ref a48, .int x1, va_rf (Q o 1)]) [] pk_X3_init (met_X3_init co a48 kc53 ks54 _ h) X hB hB.2.2.2.2.2.2 q1139 rfl hl.1 (by simp [z_cat, z_cati, z_catl, z_catf, z_catd, z_catq]) dX2_init_77 (z_k1 hK1 g1) (z_k1 hK2 g2) (by decide) (by decide)) hB (fun _ h => h) (fun T55 I56 Q57 H locs h9 hF hB => ?_)
      replace h := h9
      clear h9
      replace h := h hF
      have hc_a48 : (T55 a48).2.2 = co := by rw [z_te hF hk_a48 (by decide)]; exact hc_a48
      have hk_a48 := z_tk hF hk_a48 (by decide)
      replace hK1 := z_k2 hK1 g1
      replace hK2 := z_k2 hK2 g2
      obtain ⟨a58, ea58, h⟩ := h
      refine z_stk (st' := [.ref a48, .int x1, .ref a58]) (by rw [ea58] <;> rfl) ?_
      obtain ⟨hk_a58, h⟩ := h
      obtain ⟨hc_a58, h⟩ := h
      obtain ⟨h1, h⟩ := h
      obtain ⟨h2, h⟩ := h
      obtain ⟨Q59, eQ59⟩ : ∃ z, z = z_up Q57 a58 x1.toNatClampNeg (some a48) := ⟨_, rfl⟩
      replace h := h Q59 eQ59
      refine z_aastX (k := 3) (x := (some a48)) X hB (by decide) hk_a58 hc_a58 h1 h2 dX2_init_80 (fun H locs hB => ?_)
      rw [← eQ59] at hB
      obtain ⟨y60, ey60⟩ : ∃ z : Int32, z = x1 + 1 := ⟨_, rfl⟩
      replace h := h y60 ey60
      refine lv_iinc (v := y60) (lv' := [(1, .int y60), (0, .ref o)]) hx hb dX2_init_81 hl (k := 1) rfl (by rw [ey60]; rfl) (by decide) rfl (fun ls hl9 => ?_)
      replace hl := hl9
      clear hl9
      refine lv_goto (tgt := 63) hx hb dX2_init_84 (by decide) ?_
      exact ih hB hK1 hK2 (lv_sub hl [1, 0] rfl) h
theorem ww_X2_init_0 {co : Nat} {o : Nat} {Qk : z_T → z_I → z_Q → Prop} (X : z_X l G A p R s m args meth c cX2_init 2 RX2 "<init>" none mc ms 14 249) (ho : (T0 o).1 = 3) (hoc : (T0 o).2.2 = co) {cells slots : Nat} {T : z_T} {I : z_I} {Q : z_Q} {kc : Nat} {ks : Nat} {H : Heap} {locs : List Loc} {ls : Array Slot} (hB : z_HB G (z_co co) A s.heap T0 I0 Q0 T I Q H locs) (hK1 : cells + kc ≤ mc) (hK2 : slots + ks ≤ ms) (hl : lv_has ls 2 [(0, .ref o)]) (h : wb_X2_init_0 G.2.2 co o Qk T I Q kc ks) : W p l e R s m args below meth c H locs cells slots (z_MQ below G (z_co co) A T0 I0 Q0 (z_qv Qk) z_no args s mc ms) (F0 m 0 ls []) := by
  obtain ⟨hx, hb, -⟩ := id X
  unfold wb_X2_init_0 at h
  refine lv_aload_n (x := o) hx hb dX2_init_0 rfl (lv_at hl 0 rfl) ?_
  refine z_objInit (rest := []) X q177 hl.1 dX2_init_1 (by decide) (Nat.le_of_ble_eq_true rfl) ?_
  refine lv_aload_n (x := o) hx hb dX2_init_4 rfl (lv_at hl 0 rfl) ?_
  obtain ⟨g1, g2, h⟩ := h
  refine z_new (col := co) tyJ3 X hB kc_J3 in_J3 tyJ3_ok q178 q179 q99 (by decide) (z_dvJ3) rfl (z_k1 hK1 g1) (z_k1 hK2 g2) dX2_init_5 (fun a1 H hq hB => ?_)
  obtain ⟨T2, eT2⟩ : ∃ z, z = z_t T a1 (21, 0, co) := ⟨_, rfl⟩
  obtain ⟨I3, eI3⟩ : ∃ z, z = z_row I a1 (fun _ => 0) := ⟨_, rfl⟩
  obtain ⟨Q4, eQ4⟩ : ∃ z, z = z_row Q a1 (fun _ => none) := ⟨_, rfl⟩
  rw [← eT2, ← eI3, ← eQ4] at hB
  replace h := h a1 T2 I3 Q4 hq eT2 eI3 eQ4
  have hk_a1 := z_tq eT2
  have hc_a1 : (T2 a1).2.2 = co := by rw [z_tqc eT2]
  replace hK1 := z_k2 hK1 g1
  replace hK2 := z_k2 hK2 g2
  refine lv_dup hx hb dX2_init_8 rfl ?_
  obtain ⟨kc6, ks7, g1, g2, h⟩ := h
  refine z_callv (z_runI (rest := [.ref a1, .ref o]) [] pk_J3_init (met_J3_init co a1 kc6 ks7 _ h) X hB hB.2.2.2.2.2.2 q180 rfl hl.1 (Nat.le_of_ble_eq_true rfl) dX2_init_9 (z_k1 hK1 g1) (z_k1 hK2 g2) (by decide) (by decide)) hB (fun _ h => h) (fun T8 I9 Q10 H locs h9 hF hB => ?_)
  replace h := h9
  clear h9
  replace h := h hF
  have hc_a1 : (T8 a1).2.2 = co := by rw [z_te hF hk_a1 (by decide)]; exact hc_a1
  have hk_a1 := z_tk hF hk_a1 (by decide)
  replace hK1 := z_k2 hK1 g1
  replace hK2 := z_k2 hK2 g2
  obtain ⟨Q11, eQ11⟩ : ∃ z, z = z_up Q10 o 0 (some a1) := ⟨_, rfl⟩
  replace h := h Q11 eQ11
  refine z_putqF (x := (some a1)) eQ11 tyX2 X hB kc_X2 in_X2 tyX2_ok nmX2 (j := 0) (Nat.le_of_ble_eq_true rfl) q1234 (fun _ h => h) rfl rfl rfl (by decide) (z_fo hB ho (by decide)) (z_foc hB ho (by decide) hoc) rfl (Or.inl ⟨_, rfl⟩) dX2_init_12 (fun H locs hB => ?_)
  refine lv_aload_n (x := o) hx hb dX2_init_15 rfl (lv_at hl 0 rfl) ?_
  refine lv_iconst (v := 3) hx hb dX2_init_16 (by decide) ?_
  obtain ⟨g1, g2, h⟩ := h
  refine z_newq (k := 3) (n := 3) (col := co) X hB (by decide) q1088 (by decide) rfl (Nat.le_of_ble_eq_true rfl) rfl (z_k1 hK1 g1) (z_k1 hK2 g2) dX2_init_17 (fun a12 H hq hB => ?_)
  obtain ⟨T13, eT13⟩ : ∃ z, z = z_t T8 a12 (103, 3, co) := ⟨_, rfl⟩
  obtain ⟨I14, eI14⟩ : ∃ z, z = z_row I9 a12 (fun _ => 0) := ⟨_, rfl⟩
  obtain ⟨Q15, eQ15⟩ : ∃ z, z = z_row Q11 a12 (fun _ => none) := ⟨_, rfl⟩
  rw [← eT13, ← eI14, ← eQ15] at hB
  replace h := h a12 T13 I14 Q15 hq eT13 eI14 eQ15
  have hk_a12 := z_tq eT13
  have hc_a12 : (T13 a12).2.2 = co := by rw [z_tqc eT13]
  replace hK1 := z_k2 hK1 g1
  replace hK2 := z_k2 hK2 g2
  obtain ⟨Q16, eQ16⟩ : ∃ z, z = z_up Q15 o 1 (some a12) := ⟨_, rfl⟩
  replace h := h Q16 eQ16
  refine z_putqF (x := (some a12)) eQ16 tyX2 X hB kc_X2 in_X2 tyX2_ok nmX2 (j := 1) (Nat.le_of_ble_eq_true rfl) q1237 (fun _ h => h) rfl rfl rfl (by decide) (z_fo hB ho (by decide)) (z_foc hB ho (by decide) hoc) rfl (Or.inr ⟨_, rfl⟩) dX2_init_20 (fun H locs hB => ?_)
  refine lv_aload_n (x := o) hx hb dX2_init_23 rfl (lv_at hl 0 rfl) ?_
  refine lv_iconst (v := 3) hx hb dX2_init_24 (by decide) ?_
  obtain ⟨g1, g2, h⟩ := h
  refine z_newq (k := 4) (n := 3) (col := co) X hB (by decide) q1090 (by decide) rfl (Nat.le_of_ble_eq_true rfl) rfl (z_k1 hK1 g1) (z_k1 hK2 g2) dX2_init_25 (fun a17 H hq hB => ?_)
  obtain ⟨T18, eT18⟩ : ∃ z, z = z_t T13 a17 (104, 3, co) := ⟨_, rfl⟩
  obtain ⟨I19, eI19⟩ : ∃ z, z = z_row I14 a17 (fun _ => 0) := ⟨_, rfl⟩
  obtain ⟨Q20, eQ20⟩ : ∃ z, z = z_row Q16 a17 (fun _ => none) := ⟨_, rfl⟩
  rw [← eT18, ← eI19, ← eQ20] at hB
  replace h := h a17 T18 I19 Q20 hq eT18 eI19 eQ20
  have hk_a17 := z_tq eT18
  have hc_a17 : (T18 a17).2.2 = co := by rw [z_tqc eT18]
  replace hK1 := z_k2 hK1 g1
  replace hK2 := z_k2 hK2 g2
  obtain ⟨Q21, eQ21⟩ : ∃ z, z = z_up Q20 o 2 (some a17) := ⟨_, rfl⟩
  replace h := h Q21 eQ21
  refine z_putqF (x := (some a17)) eQ21 tyX2 X hB kc_X2 in_X2 tyX2_ok nmX2 (j := 2) (Nat.le_of_ble_eq_true rfl) q1240 (fun _ h => h) rfl rfl rfl (by decide) (z_fo hB ho (by decide)) (z_foc hB ho (by decide) hoc) rfl (Or.inr ⟨_, rfl⟩) dX2_init_28 (fun H locs hB => ?_)
  refine lv_aload_n (x := o) hx hb dX2_init_31 rfl (lv_at hl 0 rfl) ?_
  obtain ⟨g1, g2, h⟩ := h
  refine z_new (col := co) tyJ30 X hB kc_J30 in_J30 tyJ30_ok q1092 q1093 q127 (by decide) (z_dvJ30) rfl (z_k1 hK1 g1) (z_k1 hK2 g2) dX2_init_32 (fun a22 H hq hB => ?_)
  obtain ⟨T23, eT23⟩ : ∃ z, z = z_t T18 a22 (19, 0, co) := ⟨_, rfl⟩
  obtain ⟨I24, eI24⟩ : ∃ z, z = z_row I19 a22 (fun _ => 0) := ⟨_, rfl⟩
  obtain ⟨Q25, eQ25⟩ : ∃ z, z = z_row Q21 a22 (fun _ => none) := ⟨_, rfl⟩
  rw [← eT23, ← eI24, ← eQ25] at hB
  replace h := h a22 T23 I24 Q25 hq eT23 eI24 eQ25
  have hk_a22 := z_tq eT23
  have hc_a22 : (T23 a22).2.2 = co := by rw [z_tqc eT23]
  replace hK1 := z_k2 hK1 g1
  replace hK2 := z_k2 hK2 g2
  refine lv_dup hx hb dX2_init_35 rfl ?_
  refine z_callv (z_runI (rest := [.ref a22, .ref o]) [] pk_J30_init (met_J30_init co a22 _ h) X hB hB.2.2.2.2.2.2 q1094 rfl hl.1 (Nat.le_of_ble_eq_true rfl) dX2_init_36 (z_k4 hK1) (z_k4 hK2) (by decide) (by decide)) hB (fun _ h => h) (fun T27 I28 Q29 H locs h9 hF hB => ?_)
  replace h := h9
  clear h9
  replace h := h hF
  have hc_a22 : (T27 a22).2.2 = co := by rw [z_te hF hk_a22 (by decide)]; exact hc_a22
  have hk_a22 := z_tk hF hk_a22 (by decide)
  obtain ⟨Q30, eQ30⟩ : ∃ z, z = z_up Q29 o 3 (some a22) := ⟨_, rfl⟩
  replace h := h Q30 eQ30
  refine z_putqF (x := (some a22)) eQ30 tyX2 X hB kc_X2 in_X2 tyX2_ok nmX2 (j := 3) (Nat.le_of_ble_eq_true rfl) q1245 (fun _ h => h) rfl rfl rfl (by decide) (z_fo hB ho (by decide)) (z_foc hB ho (by decide) hoc) rfl (Or.inl ⟨_, rfl⟩) dX2_init_39 (fun H locs hB => ?_)
  refine lv_aload_n (x := o) hx hb dX2_init_42 rfl (lv_at hl 0 rfl) ?_
  obtain ⟨g1, g2, h⟩ := h
  refine z_new (col := co) tyJ31 X hB kc_J31 in_J31 tyJ31_ok q1118 q1119 q128 (by decide) (z_dvJ31) rfl (z_k1 hK1 g1) (z_k1 hK2 g2) dX2_init_43 (fun a31 H hq hB => ?_)
  obtain ⟨T32, eT32⟩ : ∃ z, z = z_t T27 a31 (17, 0, co) := ⟨_, rfl⟩
  obtain ⟨I33, eI33⟩ : ∃ z, z = z_row I28 a31 (fun _ => 0) := ⟨_, rfl⟩
  obtain ⟨Q34, eQ34⟩ : ∃ z, z = z_row Q30 a31 (fun _ => none) := ⟨_, rfl⟩
  rw [← eT32, ← eI33, ← eQ34] at hB
  replace h := h a31 T32 I33 Q34 hq eT32 eI33 eQ34
  have hk_a31 := z_tq eT32
  have hc_a31 : (T32 a31).2.2 = co := by rw [z_tqc eT32]
  replace hK1 := z_k2 hK1 g1
  replace hK2 := z_k2 hK2 g2
  refine lv_dup hx hb dX2_init_46 rfl ?_
  obtain ⟨kc36, ks37, g1, g2, h⟩ := h
  refine z_callv (z_runI (rest := [.ref a31, .ref o]) [] pk_J31_init (met_J31_init co a31 kc36 ks37 _ h) X hB hB.2.2.2.2.2.2 q1120 rfl hl.1 (Nat.le_of_ble_eq_true rfl) dX2_init_47 (z_k1 hK1 g1) (z_k1 hK2 g2) (by decide) (by decide)) hB (fun _ h => h) (fun T38 I39 Q40 H locs h9 hF hB => ?_)
  replace h := h9
  clear h9
  replace h := h hF
  have hc_a31 : (T38 a31).2.2 = co := by rw [z_te hF hk_a31 (by decide)]; exact hc_a31
  have hk_a31 := z_tk hF hk_a31 (by decide)
  replace hK1 := z_k2 hK1 g1
  replace hK2 := z_k2 hK2 g2
  obtain ⟨Q41, eQ41⟩ : ∃ z, z = z_up Q40 o 4 (some a31) := ⟨_, rfl⟩
  replace h := h Q41 eQ41
  refine z_putqF (x := (some a31)) eQ41 tyX2 X hB kc_X2 in_X2 tyX2_ok nmX2 (j := 4) (Nat.le_of_ble_eq_true rfl) q1248 (fun _ h => h) rfl rfl rfl (by decide) (z_fo hB ho (by decide)) (z_foc hB ho (by decide) hoc) rfl (Or.inl ⟨_, rfl⟩) dX2_init_50 (fun H locs hB => ?_)
  refine lv_aload_n (x := o) hx hb dX2_init_53 rfl (lv_at hl 0 rfl) ?_
  refine lv_bipush (v := 8) hx hb dX2_init_54 (by decide) ?_
  obtain ⟨g1, g2, h⟩ := h
  refine z_newa (k := 0) (n := 8) (col := co) (.int) rfl (by decide) X hB q1170 (by decide) rfl (Nat.le_of_ble_eq_true rfl) rfl (z_k1 hK1 g1) (z_k1 hK2 g2) dX2_init_56 (fun a42 H hq hB => ?_)
  obtain ⟨T43, eT43⟩ : ∃ z, z = z_t T38 a42 (100, 8, co) := ⟨_, rfl⟩
  obtain ⟨I44, eI44⟩ : ∃ z, z = z_row I39 a42 (fun _ => 0) := ⟨_, rfl⟩
  obtain ⟨Q45, eQ45⟩ : ∃ z, z = z_row Q41 a42 (fun _ => none) := ⟨_, rfl⟩
  rw [← eT43, ← eI44, ← eQ45] at hB
  replace h := h a42 T43 I44 Q45 hq eT43 eI44 eQ45
  have hk_a42 := z_tq eT43
  have hc_a42 : (T43 a42).2.2 = co := by rw [z_tqc eT43]
  replace hK1 := z_k2 hK1 g1
  replace hK2 := z_k2 hK2 g2
  obtain ⟨Q46, eQ46⟩ : ∃ z, z = z_up Q45 o 5 (some a42) := ⟨_, rfl⟩
  replace h := h Q46 eQ46
  refine z_putqF (x := (some a42)) eQ46 tyX2 X hB kc_X2 in_X2 tyX2_ok nmX2 (j := 5) (Nat.le_of_ble_eq_true rfl) q1250 (fun _ h => h) rfl rfl rfl (by decide) (z_fo hB ho (by decide)) (z_foc hB ho (by decide) hoc) rfl (Or.inr ⟨_, rfl⟩) dX2_init_58 (fun H locs hB => ?_)
  refine lv_iconst (v := 0) hx hb dX2_init_61 (by decide) ?_
  refine lv_istore_n (lv' := [(1, .int 0), (0, .ref o)]) hx hb dX2_init_62 rfl hl (by decide) rfl (fun ls hl9 => ?_)
  replace hl := hl9
  clear hl9
  obtain ⟨w, h⟩ := h
  exact wv_X2_init_63 X ho hoc  w hB hK1 hK2 (lv_sub hl [1, 0] rfl) h
theorem pk_X2_init : z_PI yX2_init cX2_init 2 0 := ⟨q175, q95, q176, rfl, by decide +kernel⟩
theorem met_X2_init {l : Launch} {G : z_E} {T : z_T} {I : z_I} {Q : z_Q} (co : Nat) (o : Nat) (kc : Nat) (ks : Nat) (Qk : z_T → z_I → z_Q → Prop) (h : wp_X2_init G.2.2 co T I Q o kc ks Qk) : z_GM l G yX2_init (ws_ yX2_init cX2_init 2 none) 14 249 kc ks [.ref o] (z_co co) T I Q (z_qv Qk) z_no := by
  obtain ⟨ho, hoc, h⟩ := h
  refine z_body (own := RX2) (nm := "<init>") (by decide +kernel) rfl rfl (Nat.le_of_ble_eq_true rfl) (fun p e R s m below meth c A ls X hB hl => ?_)
  exact ww_X2_init_0 X ho hoc hB z_k0 z_k0 hl h
/-! J31_circularClear -/
theorem wv_J31_circularClear_12 {co : Nat} {Qk : z_T → z_I → z_Q → Prop} (X : z_X l G A p R s m args meth c cJ31_circularClear 4 RJ31 "circularClear" none 0 0 8 120) : ∀ (n : Nat) {T : z_T} {I : z_I} {Q : z_Q} {x0 : Option Nat} {x1 : Int32} {x2 : Int32} {x3 : Int32} {H : Heap} {locs : List Loc} {ls : Array Slot}, z_HB G (z_co co) A s.heap T0 I0 Q0 T I Q H locs → lv_has ls 4 [(0, va_rf x0), (1, .int x1), (2, .int x2), (3, .int x3)] → wl_J31_circularClear_12 co Qk n T I Q x0 x1 x2 x3 → W p l e R s m args below meth c H locs 0 0 (z_MQ below G (z_co co) A T0 I0 Q0 (z_qv Qk) z_no args s 0 0) (F0 m 12 ls []) := by
  intro n
  induction n with
  | zero =>
    intro T I Q x0 x1 x2 x3 H locs ls hB hl h
    exact h.elim
  | succ n ih =>
    intro T I Q x0 x1 x2 x3 H locs ls hB hl h
    obtain ⟨hx, hb, -⟩ := id X
    unfold wl_J31_circularClear_12 at h
    refine lv_iload_n hx hb dJ31_circularClear_12 rfl (lv_at hl 1 rfl) ?_
    refine lv_iload_n hx hb dJ31_circularClear_13 rfl (lv_at hl 3 rfl) ?_
    refine lv_icmp_ge (tgt := 27) hx hb dJ31_circularClear_14 (by decide) (fun c3 => ?_) (fun c3 => ?_)
    · replace h := h.1 c3
      refine lv_iload_n hx hb dJ31_circularClear_27 rfl (lv_at hl 3 rfl) ?_
      refine lv_iload_n hx hb dJ31_circularClear_28 rfl (lv_at hl 2 rfl) ?_
      refine lv_icmp_ne (tgt := 35) hx hb dJ31_circularClear_29 (by decide) (fun c4 => ?_) (fun c4 => ?_)
      · replace h := h.1 c4
        refine lv_iconst (v := 0) hx hb dJ31_circularClear_35 (by decide) ?_
        refine lv_istore_n (i := 1) (lv' := [(1, .int 0), (0, va_rf x0), (2, .int x2), (3, .int x3)]) hx hb dJ31_circularClear_36 rfl hl (by decide) (by simp [z_cat, z_rfs, z_catq]) (fun ls hl9 => ?_)
        replace hl := hl9
        clear hl9
        refine lv_iload_n hx hb dJ31_circularClear_37 rfl (lv_at hl 2 rfl) ?_
        refine lv_istore_n (lv' := [(3, .int x2), (1, .int 0), (0, va_rf x0), (2, .int x2)]) hx hb dJ31_circularClear_38 rfl hl (by decide) rfl (fun ls hl9 => ?_)
        replace hl := hl9
        clear hl9
        refine lv_goto (tgt := 12) hx hb dJ31_circularClear_39 (by decide) ?_
        exact ih hB (lv_sub hl [2, 1, 3, 0] rfl) h
      · replace h := h.2 c4
        refine lv_goto (tgt := 42) hx hb dJ31_circularClear_32 (by decide) ?_
        exact z_vret X hB ⟨rfl, h⟩ (Nat.le_refl 0) (Nat.le_refl 0) dJ31_circularClear_42
    · replace h := h.2 c3
      refine z_aload_n (x := x0) hx hb dJ31_circularClear_17 rfl (lv_at hl 0 rfl) ?_
      refine lv_iload_n hx hb dJ31_circularClear_18 rfl (lv_at hl 1 rfl) ?_
      refine lv_null hx hb dJ31_circularClear_19 ?_
      refine z_stk (st' := [va_rf none, .int x1, va_rf x0]) rfl ?_
      obtain ⟨a5, rfl, h⟩ := h
      obtain ⟨hk_a5, h⟩ := h
      obtain ⟨hc_a5, h⟩ := h
      obtain ⟨h1, h⟩ := h
      obtain ⟨Q6, eQ6⟩ : ∃ z, z = z_up Q a5 x1.toNatClampNeg none := ⟨_, rfl⟩
      replace h := h Q6 eQ6
      refine z_aastX (k := 2) (x := none) X hB (by decide) hk_a5 hc_a5 h1 (fun _ h => by cases h) dJ31_circularClear_20 (fun H locs hB => ?_)
      rw [← eQ6] at hB
      obtain ⟨y7, ey7⟩ : ∃ z : Int32, z = x1 + 1 := ⟨_, rfl⟩
      replace h := h y7 ey7
      refine lv_iinc (v := y7) (lv' := [(1, .int y7), (0, .ref a5), (2, .int x2), (3, .int x3)]) hx hb dJ31_circularClear_21 hl (k := 1) rfl (by rw [ey7]; rfl) (by decide) rfl (fun ls hl9 => ?_)
      replace hl := hl9
      clear hl9
      refine lv_goto (tgt := 12) hx hb dJ31_circularClear_24 (by decide) ?_
      exact ih hB (lv_sub hl [1, 0, 2, 3] rfl) h
theorem ww_J31_circularClear_11 {co : Nat} {Qk : z_T → z_I → z_Q → Prop} (X : z_X l G A p R s m args meth c cJ31_circularClear 4 RJ31 "circularClear" none 0 0 8 120) {T : z_T} {I : z_I} {Q : z_Q} {x0 : Option Nat} {x1 : Int32} {x2 : Int32} {s0 : Int32} {H : Heap} {locs : List Loc} {ls : Array Slot} (hB : z_HB G (z_co co) A s.heap T0 I0 Q0 T I Q H locs) (hl : lv_has ls 4 [(0, va_rf x0), (1, .int x1), (2, .int x2)]) (h : wb_J31_circularClear_11 co Qk T I Q x0 x1 x2 s0) : W p l e R s m args below meth c H locs 0 0 (z_MQ below G (z_co co) A T0 I0 Q0 (z_qv Qk) z_no args s 0 0) (F0 m 11 ls [.int s0]) := by
  obtain ⟨hx, hb, -⟩ := id X
  unfold wb_J31_circularClear_11 at h
  refine lv_istore_n (lv' := [(3, .int s0), (0, va_rf x0), (1, .int x1), (2, .int x2)]) hx hb dJ31_circularClear_11 rfl hl (by decide) rfl (fun ls hl9 => ?_)
  replace hl := hl9
  clear hl9
  obtain ⟨w, h⟩ := h
  exact wv_J31_circularClear_12 X  w hB (lv_sub hl [1, 2, 3, 0] rfl) h
theorem ww_J31_circularClear_0 {co : Nat} {Qk : z_T → z_I → z_Q → Prop} (X : z_X l G A p R s m args meth c cJ31_circularClear 4 RJ31 "circularClear" none 0 0 8 120) {T : z_T} {I : z_I} {Q : z_Q} {x0 : Option Nat} {x1 : Int32} {x2 : Int32} {H : Heap} {locs : List Loc} {ls : Array Slot} (hB : z_HB G (z_co co) A s.heap T0 I0 Q0 T I Q H locs) (hl : lv_has ls 4 [(0, va_rf x0), (1, .int x1), (2, .int x2)]) (h : wb_J31_circularClear_0 co Qk T I Q x0 x1 x2) : W p l e R s m args below meth c H locs 0 0 (z_MQ below G (z_co co) A T0 I0 Q0 (z_qv Qk) z_no args s 0 0) (F0 m 0 ls []) := by
  obtain ⟨hx, hb, -⟩ := id X
  unfold wb_J31_circularClear_0 at h
  refine lv_iload_n hx hb dJ31_circularClear_0 rfl (lv_at hl 1 rfl) ?_
  refine lv_iload_n hx hb dJ31_circularClear_1 rfl (lv_at hl 2 rfl) ?_
  refine lv_icmp_gt (tgt := 9) hx hb dJ31_circularClear_2 (by decide) (fun c1 => ?_) (fun c1 => ?_)
  · replace h := h.1 c1
    refine z_aload_n (x := x0) hx hb dJ31_circularClear_9 rfl (lv_at hl 0 rfl) ?_
    obtain ⟨a2, rfl, h⟩ := h
    obtain ⟨hk_a2, h⟩ := h
    refine z_alen (k := 2) X hB.1 (by decide) hk_a2 dJ31_circularClear_10 ?_
    exact ww_J31_circularClear_11 X  hB (lv_sub hl [0, 1, 2] rfl) h
  · replace h := h.2 c1
    refine lv_iload_n hx hb dJ31_circularClear_5 rfl (lv_at hl 2 rfl) ?_
    refine lv_goto (tgt := 11) hx hb dJ31_circularClear_6 (by decide) ?_
    exact ww_J31_circularClear_11 X  hB (lv_sub hl [0, 1, 2] rfl) h
theorem pk_J31_circularClear : z_PS yJ31_circularClear cJ31_circularClear 4 none 3 := ⟨q3202, q128, q3203, by decide +kernel⟩
theorem met_J31_circularClear {l : Launch} {G : z_E} {T : z_T} {I : z_I} {Q : z_Q} (co : Nat) (x0 : Option Nat) (x1 : Int32) (x2 : Int32) (Qk : z_T → z_I → z_Q → Prop) (h : wp_J31_circularClear co T I Q x0 x1 x2 Qk) : z_GM l G yJ31_circularClear (ws_ yJ31_circularClear cJ31_circularClear 4 none) 8 120 0 0 [va_rf x0, .int x1, .int x2] (z_co co) T I Q (z_qv Qk) z_no := by
  refine z_body (own := RJ31) (nm := "circularClear") (by decide +kernel) rfl rfl (by cases x0 <;> exact Nat.le_of_ble_eq_true rfl) (fun p e R s m below meth c A ls X hB hl => ?_)
  replace hl : lv_has ls 4 [(0, va_rf x0), (1, .int x1), (2, .int x2)] := by cases x0 <;> exact hl
  exact ww_J31_circularClear_0 X hB hl h
/-! J31_clear -/
theorem ww_J31_clear_0 {co : Nat} {o : Nat} {Qk : z_T → z_I → z_Q → Prop} (X : z_X l G A p R s m args meth c cJ31_clear 1 RJ31 "clear" none 0 0 9 143) (ho : (T0 o).1 = 17) (hoc : (T0 o).2.2 = co) {T : z_T} {I : z_I} {Q : z_Q} {H : Heap} {locs : List Loc} {ls : Array Slot} (hB : z_HB G (z_co co) A s.heap T0 I0 Q0 T I Q H locs) (hl : lv_has ls 1 [(0, .ref o)]) (h : wb_J31_clear_0 co o Qk T I Q) : W p l e R s m args below meth c H locs 0 0 (z_MQ below G (z_co co) A T0 I0 Q0 (z_qv Qk) z_no args s 0 0) (F0 m 0 ls []) := by
  obtain ⟨hx, hb, -⟩ := id X
  unfold wb_J31_clear_0 at h
  refine lv_aload_n (x := o) hx hb dJ31_clear_0 rfl (lv_at hl 0 rfl) ?_
  refine z_getq X hB.1 kc_J31 in_J31 (j := 0) (Nat.le_of_ble_eq_true rfl) q1126 (fun _ h => h) rfl (by decide) (z_fo hB ho (by decide)) dJ31_clear_1 ?_
  refine lv_aload_n (x := o) hx hb dJ31_clear_4 rfl (lv_at hl 0 rfl) ?_
  refine z_geti X hB.1 kc_J31 in_J31 (j := 1) (Nat.le_of_ble_eq_true rfl) q1129 (fun _ h => h) rfl (by decide) (z_fo hB ho (by decide)) dJ31_clear_5 ?_
  refine lv_aload_n (x := o) hx hb dJ31_clear_8 rfl (lv_at hl 0 rfl) ?_
  refine z_geti X hB.1 kc_J31 in_J31 (j := 2) (Nat.le_of_ble_eq_true rfl) q1130 (fun _ h => h) rfl (by decide) (z_fo hB ho (by decide)) dJ31_clear_9 ?_
  refine z_callv (z_runS (rest := []) [va_rf (Q o 0), .int (I o 1), .int (I o 2)] pk_J31_circularClear (met_J31_circularClear co (Q o 0) (I o 1) (I o 2) _ h) X hB hB.2.2.2.2.2.2 q3201 rfl hl.1 (Nat.le_of_ble_eq_true rfl) dJ31_clear_12 (Nat.le_refl 0) (Nat.le_refl 0) (by decide) (by decide)) hB (fun _ h => h) (fun T2 I3 Q4 H locs h9 hF hB => ?_)
  replace h := h9
  clear h9
  replace h := h hF
  refine lv_aload_n (x := o) hx hb dJ31_clear_15 rfl (lv_at hl 0 rfl) ?_
  refine lv_aload_n (x := o) hx hb dJ31_clear_16 rfl (lv_at hl 0 rfl) ?_
  refine lv_iconst (v := 0) hx hb dJ31_clear_17 (by decide) ?_
  refine lv_dup_x1 hx hb dJ31_clear_18 rfl rfl ?_
  obtain ⟨I5, eI5⟩ : ∃ z, z = z_up I3 o 2 0 := ⟨_, rfl⟩
  replace h := h I5 eI5
  refine z_puti (x := 0) eI5 tyJ31 X hB kc_J31 in_J31 tyJ31_ok nmJ31 (j := 2) (Nat.le_of_ble_eq_true rfl) q1130 (fun _ h => h) rfl rfl (by decide) (z_fo hB ho (by decide)) (z_foc hB ho (by decide) hoc) rfl (Or.inl rfl) dJ31_clear_19 (fun H locs hB => ?_)
  obtain ⟨I6, eI6⟩ : ∃ z, z = z_up I5 o 1 0 := ⟨_, rfl⟩
  replace h := h I6 eI6
  refine z_puti (x := 0) eI6 tyJ31 X hB kc_J31 in_J31 tyJ31_ok nmJ31 (j := 1) (Nat.le_of_ble_eq_true rfl) q1129 (fun _ h => h) rfl rfl (by decide) (z_fo hB ho (by decide)) (z_foc hB ho (by decide) hoc) rfl (Or.inl rfl) dJ31_clear_22 (fun H locs hB => ?_)
  exact z_vret X hB ⟨rfl, h⟩ (Nat.le_refl 0) (Nat.le_refl 0) dJ31_clear_25
theorem pk_J31_clear : z_PV RJ31 yJ31_clear cJ31_clear 1 none 0 := ⟨q3198, q3199, q128, q3200, by decide +kernel⟩
theorem met_J31_clear {l : Launch} {G : z_E} {T : z_T} {I : z_I} {Q : z_Q} (co : Nat) (o : Nat) (Qk : z_T → z_I → z_Q → Prop) (h : wp_J31_clear co T I Q o Qk) : z_GM l G yJ31_clear (ws_ yJ31_clear cJ31_clear 1 none) 9 143 0 0 [.ref o] (z_co co) T I Q (z_qv Qk) z_no := by
  obtain ⟨ho, hoc, h⟩ := h
  refine z_body (own := RJ31) (nm := "clear") (by decide +kernel) rfl rfl (Nat.le_of_ble_eq_true rfl) (fun p e R s m below meth c A ls X hB hl => ?_)
  exact ww_J31_clear_0 X ho hoc hB hl h
/-! X1_restore -/
theorem ww_X1_restore_12 {o : Nat} {Qk : Int32 → z_T → z_I → z_Q → Prop} {Xk : String → Nat → z_T → z_I → z_Q → Prop} (X : z_X l G A p R s m args meth c cX1_restore 1 RX1 "restore" (some .int) mc ms 15 292) (ho : (T0 o).1 = 1) (hoc : 3 ≤ (T0 o).2.2) {cells slots : Nat} {T : z_T} {I : z_I} {Q : z_Q} {kc : Nat} {ks : Nat} {s0 : Int32} {H : Heap} {locs : List Loc} {ls : Array Slot} (hB : z_HB G z_PR A s.heap T0 I0 Q0 T I Q H locs) (hK1 : cells + kc ≤ mc) (hK2 : slots + ks ≤ ms) (hl : lv_has ls 1 [(0, .ref o)]) (h : wb_X1_restore_12 G.2.2 o Qk Xk T I Q kc ks s0) : W p l e R s m args below meth c H locs cells slots (z_MQ below G z_PR A T0 I0 Q0 (z_qi Qk) Xk args s mc ms) (F0 m 12 ls [.int s0]) := by
  obtain ⟨hx, hb, -⟩ := id X
  unfold wb_X1_restore_12 at h
  obtain ⟨kc4, ks5, g1, g2, h⟩ := h
  refine z_callXv (z_runS (rest := []) [.int s0] pk_X1_checkState (met_X1_checkState s0 kc4 ks5 _ _ h) X hB hB.2.2.2.2.2.2 q2456 rfl hl.1 (Nat.le_of_ble_eq_true rfl) dX1_restore_12 (z_k1 hK1 g1) (z_k1 hK2 g2) (by decide) (by decide)) hB (fun _ h => h) (z_on (by decide +kernel) X (z_k1 hK1 g1) (z_k1 hK2 g2)) (fun T6 I7 Q8 H locs h9 hF hB => ?_)
  replace h := h9
  clear h9
  replace h := h hF
  replace hK1 := z_k2 hK1 g1
  replace hK2 := z_k2 hK2 g2
  refine lv_aload_n (x := o) hx hb dX1_restore_15 rfl (lv_at hl 0 rfl) ?_
  obtain ⟨co9, hco9, h⟩ := h
  obtain ⟨g1, g2, h⟩ := h
  refine z_new (col := co9) tyX2 X hB kc_X2 in_X2 tyX2_ok q172 q173 q95 (by decide) (z_dvX2) hco9 (z_k1 hK1 g1) (z_k1 hK2 g2) dX1_restore_16 (fun a10 H hq hB => ?_)
  obtain ⟨T11, eT11⟩ : ∃ z, z = z_t T6 a10 (3, 0, co9) := ⟨_, rfl⟩
  obtain ⟨I12, eI12⟩ : ∃ z, z = z_row I7 a10 (fun _ => 0) := ⟨_, rfl⟩
  obtain ⟨Q13, eQ13⟩ : ∃ z, z = z_row Q8 a10 (fun _ => none) := ⟨_, rfl⟩
  rw [← eT11, ← eI12, ← eQ13] at hB
  replace h := h a10 T11 I12 Q13 hq eT11 eI12 eQ13
  have hk_a10 := z_tq eT11
  have hc_a10 : 3 ≤ (T11 a10).2.2 := by rw [z_tqc eT11]; exact hco9
  replace hK1 := z_k2 hK1 g1
  replace hK2 := z_k2 hK2 g2
  refine lv_dup hx hb dX1_restore_19 rfl ?_
  refine lv_aload_n (x := o) hx hb dX1_restore_20 rfl (lv_at hl 0 rfl) ?_
  refine z_getq X hB.1 kc_X1 in_X1 (j := 1) (Nat.le_of_ble_eq_true rfl) q1297 (fun _ h => h) rfl (by decide) (z_fo hB ho (by decide)) dX1_restore_21 ?_
  obtain ⟨co15, hco15, h⟩ := h
  obtain ⟨kc16, ks17, g1, g2, h⟩ := h
  refine z_callv (z_runI (rest := [.ref a10, .ref o]) [va_rf (Q13 o 1)] pk_X2_init_2 (met_X2_init_2 co15 a10 (Q13 o 1) kc16 ks17 _ h) X hB (z_coR0 hco15) q1627 rfl hl.1 (Nat.le_of_ble_eq_true rfl) dX1_restore_24 (z_k1 hK1 g1) (z_k1 hK2 g2) (by decide) (by decide)) hB (z_coR hco15) (fun T18 I19 Q20 H locs h9 hF hB => ?_)
  replace h := h9
  clear h9
  replace h := h hF
  have hc_a10 : 3 ≤ (T18 a10).2.2 := by rw [z_te hF hk_a10 (by decide)]; exact hc_a10
  have hk_a10 := z_tk hF hk_a10 (by decide)
  replace hK1 := z_k2 hK1 g1
  replace hK2 := z_k2 hK2 g2
  obtain ⟨Q21, eQ21⟩ : ∃ z, z = z_up Q20 o 0 (some a10) := ⟨_, rfl⟩
  replace h := h Q21 eQ21
  refine z_putq (x := (some a10)) eQ21 tyX1 X hB kc_X1 in_X1 tyX1_ok nmX1 (j := 0) (Nat.le_of_ble_eq_true rfl) q1296 (fun _ h => h) rfl rfl (by decide) (z_fo hB ho (by decide)) (z_foc hB ho (by decide) hoc) rfl (Or.inl ⟨_, rfl⟩) dX1_restore_27 (fun H locs hB => ?_)
  refine lv_aload_n (x := o) hx hb dX1_restore_30 rfl (lv_at hl 0 rfl) ?_
  refine z_getq X hB.1 kc_X1 in_X1 (j := 2) (Nat.le_of_ble_eq_true rfl) q1298 (fun _ h => h) rfl (by decide) (z_fo hB ho (by decide)) dX1_restore_31 ?_
  obtain ⟨a22, ea22, h⟩ := h
  refine z_stk (st' := [.ref a22]) (by rw [ea22] <;> rfl) ?_
  obtain ⟨hk_a22, h⟩ := h
  obtain ⟨co24, hco24, h⟩ := h
  refine z_callv (z_runV (rest := []) [] pk_J31_clear (met_J31_clear co24 a22 _ h) X hB (z_coR0 hco24) q3197 kc_J31 (by decide) hk_a22 rfl hl.1 (Nat.le_of_ble_eq_true rfl) dX1_restore_34 (z_k4 hK1) (z_k4 hK2) (by decide) (by decide)) hB (z_coR hco24) (fun T25 I26 Q27 H locs h9 hF hB => ?_)
  replace h := h9
  clear h9
  replace h := h hF
  refine lv_aload_n (x := o) hx hb dX1_restore_37 rfl (lv_at hl 0 rfl) ?_
  refine z_getq X hB.1 kc_X1 in_X1 (j := 0) (Nat.le_of_ble_eq_true rfl) q1296 (fun _ h => h) rfl (by decide) (z_fo hB ho (by decide)) dX1_restore_38 ?_
  obtain ⟨a28, ea28, h⟩ := h
  refine z_stk (st' := [.ref a28]) (by rw [ea28] <;> rfl) ?_
  obtain ⟨hk_a28, h⟩ := h
  refine z_getiN X hB.1 kc_X2 in_X2 (j := 6) (Nat.le_of_ble_eq_true rfl) q1255 (fun _ h => h) rfl (by decide) hk_a28 dX1_restore_41 ?_
  exact z_iret X hB ⟨_, rfl, h⟩ (z_k3 hK1) (z_k3 hK2) dX1_restore_44
theorem ww_X1_restore_0 {o : Nat} {Qk : Int32 → z_T → z_I → z_Q → Prop} {Xk : String → Nat → z_T → z_I → z_Q → Prop} (X : z_X l G A p R s m args meth c cX1_restore 1 RX1 "restore" (some .int) mc ms 15 292) (ho : (T0 o).1 = 1) (hoc : 3 ≤ (T0 o).2.2) {cells slots : Nat} {T : z_T} {I : z_I} {Q : z_Q} {kc : Nat} {ks : Nat} {H : Heap} {locs : List Loc} {ls : Array Slot} (hB : z_HB G z_PR A s.heap T0 I0 Q0 T I Q H locs) (hK1 : cells + kc ≤ mc) (hK2 : slots + ks ≤ ms) (hl : lv_has ls 1 [(0, .ref o)]) (h : wb_X1_restore_0 G.2.2 o Qk Xk T I Q kc ks) : W p l e R s m args below meth c H locs cells slots (z_MQ below G z_PR A T0 I0 Q0 (z_qi Qk) Xk args s mc ms) (F0 m 0 ls []) := by
  obtain ⟨hx, hb, -⟩ := id X
  unfold wb_X1_restore_0 at h
  refine lv_aload_n (x := o) hx hb dX1_restore_0 rfl (lv_at hl 0 rfl) ?_
  refine z_getq X hB.1 kc_X1 in_X1 (j := 1) (Nat.le_of_ble_eq_true rfl) q1297 (fun _ h => h) rfl (by decide) (z_fo hB ho (by decide)) dX1_restore_1 ?_
  refine z_ifnull (tgt := 11) hx hb dX1_restore_4 (by decide) (fun c1 => ?_) (fun a2 c1 => ?_)
  · replace h := h.1 c1
    refine lv_iconst (v := 0) hx hb dX1_restore_11 (by decide) ?_
    exact ww_X1_restore_12 X ho hoc  hB hK1 hK2 (lv_sub hl [0] rfl) h
  · replace h := h.2 a2 c1
    refine lv_iconst (v := 1) hx hb dX1_restore_7 (by decide) ?_
    refine lv_goto (tgt := 12) hx hb dX1_restore_8 (by decide) ?_
    exact ww_X1_restore_12 X ho hoc  hB hK1 hK2 (lv_sub hl [0] rfl) h
theorem pk_X1_restore : z_PV RX1 yX1_restore cX1_restore 1 (some .int) 0 := ⟨q3194, q3195, q94, q3196, by decide +kernel⟩
theorem met_X1_restore {l : Launch} {G : z_E} {T : z_T} {I : z_I} {Q : z_Q} (o : Nat) (kc : Nat) (ks : Nat) (Qk : Int32 → z_T → z_I → z_Q → Prop) (Xk : String → Nat → z_T → z_I → z_Q → Prop) (h : wp_X1_restore G.2.2 T I Q o kc ks Qk Xk) : z_GM l G yX1_restore (ws_ yX1_restore cX1_restore 1 (some .int)) 15 292 kc ks [.ref o] z_PR T I Q (z_qi Qk) Xk := by
  obtain ⟨ho, hoc, h⟩ := h
  refine z_body (own := RX1) (nm := "restore") (by decide +kernel) rfl rfl (Nat.le_of_ble_eq_true rfl) (fun p e R s m below meth c A ls X hB hl => ?_)
  exact ww_X1_restore_0 X ho hoc hB z_k0 z_k0 hl h
/-! J31_dec -/
theorem ww_J31_dec_11 {Qk : Int32 → Prop} (X : z_X l G A p R s m args meth c cJ31_dec 2 RJ31 "dec" (some .int) 0 0 8 120) {x0 : Int32} {H : Heap} {locs : List Loc} {ls : Array Slot} (hB : z_HB G z_none A s.heap T I Q T I Q H locs) (hl : lv_has ls 2 [(0, .int x0)]) (h : wb_J31_dec_11 Qk x0) : W p l e R s m args below meth c H locs 0 0 (z_MQ below G z_none A T I Q (z_pi Qk T I Q) z_no args s 0 0) (F0 m 11 ls []) := by
  obtain ⟨hx, hb, -⟩ := id X
  unfold wb_J31_dec_11 at h
  refine lv_iload_n hx hb dJ31_dec_11 rfl (lv_at hl 0 rfl) ?_
  exact z_iret X hB ⟨_, rfl, h, rfl, rfl, rfl⟩ (Nat.le_refl 0) (Nat.le_refl 0) dJ31_dec_12
theorem ww_J31_dec_0 {Qk : Int32 → Prop} (X : z_X l G A p R s m args meth c cJ31_dec 2 RJ31 "dec" (some .int) 0 0 8 120) {x0 : Int32} {x1 : Int32} {H : Heap} {locs : List Loc} {ls : Array Slot} (hB : z_HB G z_none A s.heap T I Q T I Q H locs) (hl : lv_has ls 2 [(0, .int x0), (1, .int x1)]) (h : wb_J31_dec_0 Qk x0 x1) : W p l e R s m args below meth c H locs 0 0 (z_MQ below G z_none A T I Q (z_pi Qk T I Q) z_no args s 0 0) (F0 m 0 ls []) := by
  obtain ⟨hx, hb, -⟩ := id X
  unfold wb_J31_dec_0 at h
  obtain ⟨y1, ey1⟩ : ∃ z : Int32, z = x0 + (-1) := ⟨_, rfl⟩
  replace h := h y1 ey1
  refine lv_iinc (v := y1) (lv' := [(0, .int y1), (1, .int x1)]) hx hb dJ31_dec_0 hl (k := 0) rfl (by rw [ey1]; rfl) (by decide) rfl (fun ls hl9 => ?_)
  replace hl := hl9
  clear hl9
  refine lv_iload_n hx hb dJ31_dec_3 rfl (lv_at hl 0 rfl) ?_
  refine lv_if_ge (tgt := 11) hx hb dJ31_dec_4 (by decide) (fun c2 => ?_) (fun c2 => ?_)
  · replace h := h.1 c2
    exact ww_J31_dec_11 X  hB (lv_sub hl [0] rfl) h
  · replace h := h.2 c2
    refine lv_iload_n hx hb dJ31_dec_7 rfl (lv_at hl 1 rfl) ?_
    refine lv_iconst (v := 1) hx hb dJ31_dec_8 (by decide) ?_
    refine lv_isub hx hb dJ31_dec_9 ?_
    refine lv_topi (fun y3 ey3 => ?_)
    replace h := h y3 ey3
    refine lv_istore_n (lv' := [(0, .int y3), (1, .int x1)]) hx hb dJ31_dec_10 rfl hl (by decide) rfl (fun ls hl9 => ?_)
    replace hl := hl9
    clear hl9
    exact ww_J31_dec_11 X  hB (lv_sub hl [0] rfl) h
theorem pk_J31_dec : z_PS yJ31_dec cJ31_dec 2 (some .int) 2 := ⟨q2731, q128, q2732, by decide +kernel⟩
theorem met_J31_dec {l : Launch} {G : z_E} {T : z_T} {I : z_I} {Q : z_Q} (x0 : Int32) (x1 : Int32) (Qk : Int32 → Prop) (h : wp_J31_dec x0 x1 Qk) : z_GM l G yJ31_dec (ws_ yJ31_dec cJ31_dec 2 (some .int)) 8 120 0 0 [.int x0, .int x1] z_none T I Q (z_pi Qk T I Q) z_no := by
  refine z_body (own := RJ31) (nm := "dec") (by decide +kernel) rfl rfl (Nat.le_of_ble_eq_true rfl) (fun p e R s m below meth c A ls X hB hl => ?_)
  exact ww_J31_dec_0 X hB hl h
/-! J31_pollLast -/
theorem ww_J31_pollLast_34 {co : Nat} {o : Nat} {Qk : Option Nat → z_T → z_I → z_Q → Prop} (X : z_X l G A p R s m args meth c cJ31_pollLast 4 RJ31 "pollLast" (some (.object "java/lang/Object")) 0 0 9 141) (ho : (T0 o).1 = 17) (hoc : (T0 o).2.2 = co) {T : z_T} {I : z_I} {Q : z_Q} {x3 : Option Nat} {H : Heap} {locs : List Loc} {ls : Array Slot} (hB : z_HB G (z_co co) A s.heap T0 I0 Q0 T I Q H locs) (hl : lv_has ls 4 [(3, va_rf x3)]) (h : wb_J31_pollLast_34 co o Qk T I Q x3) : W p l e R s m args below meth c H locs 0 0 (z_MQ below G (z_co co) A T0 I0 Q0 (z_qr Qk) z_no args s 0 0) (F0 m 34 ls []) := by
  obtain ⟨hx, hb, -⟩ := id X
  unfold wb_J31_pollLast_34 at h
  refine z_aload_n (x := x3) hx hb dJ31_pollLast_34 rfl (lv_at hl 0 rfl) ?_
  exact z_aret (v := x3) X (by first | exact Or.inl ⟨_, rfl⟩ | exact Or.inr ⟨_, rfl⟩) hB ⟨_, rfl, h⟩ (Nat.le_refl 0) (Nat.le_refl 0) dJ31_pollLast_35
theorem ww_J31_pollLast_0 {co : Nat} {o : Nat} {Qk : Option Nat → z_T → z_I → z_Q → Prop} (X : z_X l G A p R s m args meth c cJ31_pollLast 4 RJ31 "pollLast" (some (.object "java/lang/Object")) 0 0 9 141) (ho : (T0 o).1 = 17) (hoc : (T0 o).2.2 = co) {T : z_T} {I : z_I} {Q : z_Q} {H : Heap} {locs : List Loc} {ls : Array Slot} (hB : z_HB G (z_co co) A s.heap T0 I0 Q0 T I Q H locs) (hl : lv_has ls 4 [(0, .ref o)]) (h : wb_J31_pollLast_0 co o Qk T I Q) : W p l e R s m args below meth c H locs 0 0 (z_MQ below G (z_co co) A T0 I0 Q0 (z_qr Qk) z_no args s 0 0) (F0 m 0 ls []) := by
  obtain ⟨hx, hb, -⟩ := id X
  unfold wb_J31_pollLast_0 at h
  refine lv_aload_n (x := o) hx hb dJ31_pollLast_0 rfl (lv_at hl 0 rfl) ?_
  refine z_getq X hB.1 kc_J31 in_J31 (j := 0) (Nat.le_of_ble_eq_true rfl) q1126 (fun _ h => h) rfl (by decide) (z_fo hB ho (by decide)) dJ31_pollLast_1 ?_
  refine lv_dup hx hb dJ31_pollLast_4 z_cat ?_
  obtain ⟨y1, ey1⟩ : ∃ z : Option Nat, z = (Q o 0) := ⟨_, rfl⟩
  replace h := h y1 ey1
  refine z_stk (st' := [va_rf y1, va_rf y1]) (by rw [ey1]) ?_
  refine z_astore_n (x := y1) (lv' := [(1, va_rf y1), (0, .ref o)]) hx hb dJ31_pollLast_5 rfl hl (by decide) rfl (fun ls hl9 => ?_)
  replace hl := hl9
  clear hl9
  refine lv_aload_n (x := o) hx hb dJ31_pollLast_6 rfl (lv_at hl 1 rfl) ?_
  refine z_geti X hB.1 kc_J31 in_J31 (j := 2) (Nat.le_of_ble_eq_true rfl) q1130 (fun _ h => h) rfl (by decide) (z_fo hB ho (by decide)) dJ31_pollLast_7 ?_
  refine z_aload_n (x := y1) hx hb dJ31_pollLast_10 rfl (lv_at hl 0 rfl) ?_
  obtain ⟨a2, rfl, h⟩ := h
  obtain ⟨hk_a2, h⟩ := h
  refine z_alen (k := 2) X hB.1 (by decide) hk_a2 dJ31_pollLast_11 ?_
  refine z_callip (z_runS (rest := [.ref a2]) [.int (I o 2), .int (nI (T a2).2.1)] pk_J31_dec (met_J31_dec (I o 2) (nI (T a2).2.1) _ h) X hB (fun h => h) q2730 rfl hl.1 (Nat.le_of_ble_eq_true rfl) dJ31_pollLast_12 (Nat.le_refl 0) (Nat.le_refl 0) (by decide) (by decide)) hB (fun r3 H locs h9 hB => ?_)
  replace h := h9
  clear h9
  refine lv_dup hx hb dJ31_pollLast_15 rfl ?_
  refine lv_istore_n (lv' := [(2, .int r3), (1, .ref a2), (0, .ref o)]) hx hb dJ31_pollLast_16 rfl hl (by decide) rfl (fun ls hl9 => ?_)
  replace hl := hl9
  clear hl9
  refine z_callrp (z_runS (rest := []) [.ref a2, .int r3] pk_J31_elementAt (met_J31_elementAt (some a2) r3 _ h) X hB (fun h => h) q2508 rfl hl.1 (Nat.le_of_ble_eq_true rfl) dJ31_pollLast_17 (Nat.le_refl 0) (Nat.le_refl 0) (by decide) (by decide)) hB (fun r4 H locs h9 hB => ?_)
  replace h := h9
  clear h9
  refine z_astore_n (x := r4) (lv' := [(3, va_rf r4), (2, .int r3), (1, .ref a2), (0, .ref o)]) hx hb dJ31_pollLast_20 rfl hl (by decide) rfl (fun ls hl9 => ?_)
  replace hl := hl9
  clear hl9
  refine z_aload_n (x := r4) hx hb dJ31_pollLast_21 rfl (lv_at hl 0 rfl) ?_
  refine z_ifnull (tgt := 34) hx hb dJ31_pollLast_22 (by decide) (fun c5 => ?_) (fun a6 c5 => ?_)
  · replace h := h.1 c5
    subst c5
    exact ww_J31_pollLast_34 X ho hoc  hB (lv_sub hl [0] rfl) h
  · replace h := h.2 a6 c5
    subst c5
    refine lv_aload_n (x := a2) hx hb dJ31_pollLast_25 rfl (lv_at hl 2 rfl) ?_
    refine lv_aload_n (x := o) hx hb dJ31_pollLast_26 rfl (lv_at hl 3 rfl) ?_
    refine lv_iload_n hx hb dJ31_pollLast_27 rfl (lv_at hl 1 rfl) ?_
    refine lv_dup_x1 hx hb dJ31_pollLast_28 rfl rfl ?_
    obtain ⟨I7, eI7⟩ : ∃ z, z = z_up I o 2 r3 := ⟨_, rfl⟩
    replace h := h I7 eI7
    refine z_puti (x := r3) eI7 tyJ31 X hB kc_J31 in_J31 tyJ31_ok nmJ31 (j := 2) (Nat.le_of_ble_eq_true rfl) q1130 (fun _ h => h) rfl rfl (by decide) (z_fo hB ho (by decide)) (z_foc hB ho (by decide) hoc) rfl (Or.inl rfl) dJ31_pollLast_29 (fun H locs hB => ?_)
    refine lv_null hx hb dJ31_pollLast_32 ?_
    refine z_stk (st' := [va_rf none, .int r3, .ref a2]) rfl ?_
    obtain ⟨hc_a2, h⟩ := h
    obtain ⟨h1, h⟩ := h
    obtain ⟨Q8, eQ8⟩ : ∃ z, z = z_up Q a2 r3.toNatClampNeg none := ⟨_, rfl⟩
    replace h := h Q8 eQ8
    refine z_aastX (k := 2) (x := none) X hB (by decide) hk_a2 hc_a2 h1 (fun _ h => by cases h) dJ31_pollLast_33 (fun H locs hB => ?_)
    rw [← eQ8] at hB
    exact ww_J31_pollLast_34 X ho hoc  hB (lv_sub hl [0] rfl) h
theorem pk_J31_pollLast : z_PV RJ31 yJ31_pollLast cJ31_pollLast 4 (some (.object "java/lang/Object")) 0 := ⟨q2727, q2728, q128, q2729, by decide +kernel⟩
theorem met_J31_pollLast {l : Launch} {G : z_E} {T : z_T} {I : z_I} {Q : z_Q} (co : Nat) (o : Nat) (Qk : Option Nat → z_T → z_I → z_Q → Prop) (h : wp_J31_pollLast co T I Q o Qk) : z_GM l G yJ31_pollLast (ws_ yJ31_pollLast cJ31_pollLast 4 (some (.object "java/lang/Object"))) 9 141 0 0 [.ref o] (z_co co) T I Q (z_qr Qk) z_no := by
  obtain ⟨ho, hoc, h⟩ := h
  refine z_body (own := RJ31) (nm := "pollLast") (by decide +kernel) rfl rfl (Nat.le_of_ble_eq_true rfl) (fun p e R s m below meth c A ls X hB hl => ?_)
  exact ww_J31_pollLast_0 X ho hoc hB hl h
/-! J31_removeLast -/
theorem ww_J31_removeLast_0 {co : Nat} {o : Nat} {Qk : Option Nat → z_T → z_I → z_Q → Prop} (X : z_X l G A p R s m args meth c cJ31_removeLast 2 RJ31 "removeLast" (some (.object "java/lang/Object")) 0 0 10 164) (ho : (T0 o).1 = 17) {T : z_T} {I : z_I} {Q : z_Q} {H : Heap} {locs : List Loc} {ls : Array Slot} (hB : z_HB G (z_co co) A s.heap T0 I0 Q0 T I Q H locs) (hl : lv_has ls 2 [(0, .ref o)]) (h : wb_J31_removeLast_0 co o Qk T I Q) : W p l e R s m args below meth c H locs 0 0 (z_MQ below G (z_co co) A T0 I0 Q0 (z_qr Qk) z_no args s 0 0) (F0 m 0 ls []) := by
  obtain ⟨hx, hb, -⟩ := id X
  unfold wb_J31_removeLast_0 at h
  refine lv_aload_n (x := o) hx hb dJ31_removeLast_0 rfl (lv_at hl 0 rfl) ?_
  refine z_callr (z_runV (rest := []) [] pk_J31_pollLast (met_J31_pollLast co o _ h) X hB hB.2.2.2.2.2.2 q2726 kc_J31 (by decide) (z_fo hB ho (by decide)) rfl hl.1 (Nat.le_of_ble_eq_true rfl) dJ31_removeLast_1 (Nat.le_refl 0) (Nat.le_refl 0) (by decide) (by decide)) hB (fun _ h => h) (fun r1 T2 I3 Q4 H locs h9 hF hB => ?_)
  replace h := h9
  clear h9
  replace h := h hF
  refine z_astore_n (x := r1) (lv' := [(1, va_rf r1), (0, .ref o)]) hx hb dJ31_removeLast_4 rfl hl (by decide) rfl (fun ls hl9 => ?_)
  replace hl := hl9
  clear hl9
  refine z_aload_n (x := r1) hx hb dJ31_removeLast_5 rfl (lv_at hl 0 rfl) ?_
  refine z_ifnonnull (tgt := 17) hx hb dJ31_removeLast_6 (by decide) (fun a6 c5 => ?_) (fun c5 => ?_)
  · replace h := h.2 a6 c5
    subst c5
    refine lv_aload_n (x := a6) hx hb dJ31_removeLast_17 rfl (lv_at hl 0 rfl) ?_
    exact z_aret (v := (some a6)) X (by first | exact Or.inl ⟨_, rfl⟩ | exact Or.inr ⟨_, rfl⟩) hB ⟨_, rfl, h⟩ (Nat.le_refl 0) (Nat.le_refl 0) dJ31_removeLast_18
  · replace h := h.1 c5
    subst c5
    exact h.elim
theorem pk_J31_removeLast : z_PV RJ31 yJ31_removeLast cJ31_removeLast 2 (some (.object "java/lang/Object")) 0 := ⟨q2723, q2724, q128, q2725, by decide +kernel⟩
theorem met_J31_removeLast {l : Launch} {G : z_E} {T : z_T} {I : z_I} {Q : z_Q} (co : Nat) (o : Nat) (Qk : Option Nat → z_T → z_I → z_Q → Prop) (h : wp_J31_removeLast co T I Q o Qk) : z_GM l G yJ31_removeLast (ws_ yJ31_removeLast cJ31_removeLast 2 (some (.object "java/lang/Object"))) 10 164 0 0 [.ref o] (z_co co) T I Q (z_qr Qk) z_no := by
  obtain ⟨ho, h⟩ := h
  refine z_body (own := RJ31) (nm := "removeLast") (by decide +kernel) rfl rfl (Nat.le_of_ble_eq_true rfl) (fun p e R s m below meth c A ls X hB hl => ?_)
  exact ww_J31_removeLast_0 X ho hB hl h
/-! X1_undo -/
theorem ww_X1_undo_15 {o : Nat} {Qk : Int32 → z_T → z_I → z_Q → Prop} {Xk : String → Nat → z_T → z_I → z_Q → Prop} (X : z_X l G A p R s m args meth c cX1_undo 1 RX1 "undo" (some .int) mc ms 11 185) (ho : (T0 o).1 = 1) (hoc : 3 ≤ (T0 o).2.2) {cells slots : Nat} {T : z_T} {I : z_I} {Q : z_Q} {kc : Nat} {ks : Nat} {s0 : Int32} {H : Heap} {locs : List Loc} {ls : Array Slot} (hB : z_HB G z_PR A s.heap T0 I0 Q0 T I Q H locs) (hK1 : cells + kc ≤ mc) (hK2 : slots + ks ≤ ms) (hl : lv_has ls 1 [(0, .ref o)]) (h : wb_X1_undo_15 o Qk Xk T I Q kc ks s0) : W p l e R s m args below meth c H locs cells slots (z_MQ below G z_PR A T0 I0 Q0 (z_qi Qk) Xk args s mc ms) (F0 m 15 ls [.int s0]) := by
  obtain ⟨hx, hb, -⟩ := id X
  unfold wb_X1_undo_15 at h
  obtain ⟨kc5, ks6, g1, g2, h⟩ := h
  refine z_callXv (z_runS (rest := []) [.int s0] pk_X1_checkState (met_X1_checkState s0 kc5 ks6 _ _ h) X hB hB.2.2.2.2.2.2 q2456 rfl hl.1 (Nat.le_of_ble_eq_true rfl) dX1_undo_15 (z_k1 hK1 g1) (z_k1 hK2 g2) (by decide) (by decide)) hB (fun _ h => h) (z_on (by decide +kernel) X (z_k1 hK1 g1) (z_k1 hK2 g2)) (fun T7 I8 Q9 H locs h9 hF hB => ?_)
  replace h := h9
  clear h9
  replace h := h hF
  replace hK1 := z_k2 hK1 g1
  replace hK2 := z_k2 hK2 g2
  refine lv_aload_n (x := o) hx hb dX1_undo_18 rfl (lv_at hl 0 rfl) ?_
  refine lv_aload_n (x := o) hx hb dX1_undo_19 rfl (lv_at hl 0 rfl) ?_
  refine z_getq X hB.1 kc_X1 in_X1 (j := 2) (Nat.le_of_ble_eq_true rfl) q1298 (fun _ h => h) rfl (by decide) (z_fo hB ho (by decide)) dX1_undo_20 ?_
  obtain ⟨a10, ea10, h⟩ := h
  refine z_stk (st' := [.ref a10, .ref o]) (by rw [ea10] <;> rfl) ?_
  obtain ⟨hk_a10, h⟩ := h
  obtain ⟨co12, hco12, h⟩ := h
  refine z_callr (z_runV (rest := [.ref o]) [] pk_J31_removeLast (met_J31_removeLast co12 a10 _ h) X hB (z_coR0 hco12) q2722 kc_J31 (by decide) hk_a10 rfl hl.1 (Nat.le_of_ble_eq_true rfl) dX1_undo_23 (z_k4 hK1) (z_k4 hK2) (by decide) (by decide)) hB (z_coR hco12) (fun r11 T13 I14 Q15 H locs h9 hF hB => ?_)
  replace h := h9
  clear h9
  replace h := h hF
  obtain ⟨h2, h⟩ := h
  refine z_castR X hB.1 kc_X2 (by decide) h2 q172 (Or.inl rfl) dX1_undo_26 ?_
  obtain ⟨Q16, eQ16⟩ : ∃ z, z = z_up Q15 o 0 r11 := ⟨_, rfl⟩
  replace h := h Q16 eQ16
  refine z_putq (x := r11) eQ16 tyX1 X hB kc_X1 in_X1 tyX1_ok nmX1 (j := 0) (Nat.le_of_ble_eq_true rfl) q1296 (fun _ h => h) rfl rfl (by decide) (z_fo hB ho (by decide)) (z_foc hB ho (by decide) hoc) rfl (Or.inl ⟨_, rfl⟩) dX1_undo_29 (fun H locs hB => ?_)
  refine lv_aload_n (x := o) hx hb dX1_undo_32 rfl (lv_at hl 0 rfl) ?_
  refine z_getq X hB.1 kc_X1 in_X1 (j := 2) (Nat.le_of_ble_eq_true rfl) q1298 (fun _ h => h) rfl (by decide) (z_fo hB ho (by decide)) dX1_undo_33 ?_
  obtain ⟨a17, ea17, h⟩ := h
  refine z_stk (st' := [.ref a17]) (by rw [ea17] <;> rfl) ?_
  obtain ⟨hk_a17, h⟩ := h
  refine z_callip (z_runV (rest := []) [] pk_J31_size (met_J31_size a17 _ h) X hB (fun h => h) q2499 kc_J31 (by decide) hk_a17 rfl hl.1 (Nat.le_of_ble_eq_true rfl) dX1_undo_36 (z_k4 hK1) (z_k4 hK2) (by decide) (by decide)) hB (fun r18 H locs h9 hB => ?_)
  replace h := h9
  clear h9
  exact z_iret X hB ⟨_, rfl, h⟩ (z_k3 hK1) (z_k3 hK2) dX1_undo_39
theorem ww_X1_undo_0 {o : Nat} {Qk : Int32 → z_T → z_I → z_Q → Prop} {Xk : String → Nat → z_T → z_I → z_Q → Prop} (X : z_X l G A p R s m args meth c cX1_undo 1 RX1 "undo" (some .int) mc ms 11 185) (ho : (T0 o).1 = 1) (hoc : 3 ≤ (T0 o).2.2) {cells slots : Nat} {T : z_T} {I : z_I} {Q : z_Q} {kc : Nat} {ks : Nat} {H : Heap} {locs : List Loc} {ls : Array Slot} (hB : z_HB G z_PR A s.heap T0 I0 Q0 T I Q H locs) (hK1 : cells + kc ≤ mc) (hK2 : slots + ks ≤ ms) (hl : lv_has ls 1 [(0, .ref o)]) (h : wb_X1_undo_0 o Qk Xk T I Q kc ks) : W p l e R s m args below meth c H locs cells slots (z_MQ below G z_PR A T0 I0 Q0 (z_qi Qk) Xk args s mc ms) (F0 m 0 ls []) := by
  obtain ⟨hx, hb, -⟩ := id X
  unfold wb_X1_undo_0 at h
  refine lv_aload_n (x := o) hx hb dX1_undo_0 rfl (lv_at hl 0 rfl) ?_
  refine z_getq X hB.1 kc_X1 in_X1 (j := 2) (Nat.le_of_ble_eq_true rfl) q1298 (fun _ h => h) rfl (by decide) (z_fo hB ho (by decide)) dX1_undo_1 ?_
  obtain ⟨a1, ea1, h⟩ := h
  refine z_stk (st' := [.ref a1]) (by rw [ea1] <;> rfl) ?_
  obtain ⟨hk_a1, h⟩ := h
  refine z_callzp (z_runV (rest := []) [] pk_J31_isEmpty (met_J31_isEmpty a1 _ h) X hB (fun h => h) q2718 kc_J31 (by decide) hk_a1 rfl hl.1 (Nat.le_of_ble_eq_true rfl) dX1_undo_4 (z_k4 hK1) (z_k4 hK2) (by decide) (by decide)) hB (fun r2 H locs hz h9 hB => ?_)
  replace h := h9
  clear h9
  replace h := h hz
  refine lv_if_ne (tgt := 14) hx hb dX1_undo_7 (by decide) (fun c3 => ?_) (fun c3 => ?_)
  · replace h := h.1 c3
    refine lv_iconst (v := 0) hx hb dX1_undo_14 (by decide) ?_
    exact ww_X1_undo_15 X ho hoc  hB hK1 hK2 (lv_sub hl [0] rfl) h
  · replace h := h.2 c3
    refine lv_iconst (v := 1) hx hb dX1_undo_10 (by decide) ?_
    refine lv_goto (tgt := 15) hx hb dX1_undo_11 (by decide) ?_
    exact ww_X1_undo_15 X ho hoc  hB hK1 hK2 (lv_sub hl [0] rfl) h
theorem pk_X1_undo : z_PV RX1 yX1_undo cX1_undo 1 (some .int) 0 := ⟨q3187, q3188, q94, q3189, by decide +kernel⟩
theorem met_X1_undo {l : Launch} {G : z_E} {T : z_T} {I : z_I} {Q : z_Q} (o : Nat) (kc : Nat) (ks : Nat) (Qk : Int32 → z_T → z_I → z_Q → Prop) (Xk : String → Nat → z_T → z_I → z_Q → Prop) (h : wp_X1_undo T I Q o kc ks Qk Xk) : z_GM l G yX1_undo (ws_ yX1_undo cX1_undo 1 (some .int)) 11 185 kc ks [.ref o] z_PR T I Q (z_qi Qk) Xk := by
  obtain ⟨ho, hoc, h⟩ := h
  refine z_body (own := RX1) (nm := "undo") (by decide +kernel) rfl rfl (Nat.le_of_ble_eq_true rfl) (fun p e R s m below meth c A ls X hB hl => ?_)
  exact ww_X1_undo_0 X ho hoc hB z_k0 z_k0 hl h
/-! X1_feed -/
theorem ww_X1_feed_14 {o : Nat} {Qk : Int32 → z_T → z_I → z_Q → Prop} {Xk : String → Nat → z_T → z_I → z_Q → Prop} (X : z_X l G A p R s m args meth c cX1_feed 2 RX1 "feed" (some .int) mc ms 9 140) (ho : (T0 o).1 = 1) (hoc : 3 ≤ (T0 o).2.2) {cells slots : Nat} {T : z_T} {I : z_I} {Q : z_Q} {kc : Nat} {ks : Nat} {x1 : Int32} {s0 : Int32} {H : Heap} {locs : List Loc} {ls : Array Slot} (hB : z_HB G z_PR A s.heap T0 I0 Q0 T I Q H locs) (hK1 : cells + kc ≤ mc) (hK2 : slots + ks ≤ ms) (hl : lv_has ls 2 [(0, .ref o), (1, .int x1)]) (h : wb_X1_feed_14 o Qk Xk T I Q kc ks x1 s0) : W p l e R s m args below meth c H locs cells slots (z_MQ below G z_PR A T0 I0 Q0 (z_qi Qk) Xk args s mc ms) (F0 m 14 ls [.int s0]) := by
  obtain ⟨hx, hb, -⟩ := id X
  unfold wb_X1_feed_14 at h
  obtain ⟨kc3, ks4, g1, g2, h⟩ := h
  refine z_callXv (z_runS (rest := []) [.int s0] pk_X1_checkState (met_X1_checkState s0 kc3 ks4 _ _ h) X hB hB.2.2.2.2.2.2 q2456 rfl hl.1 (Nat.le_of_ble_eq_true rfl) dX1_feed_14 (z_k1 hK1 g1) (z_k1 hK2 g2) (by decide) (by decide)) hB (fun _ h => h) (z_on (by decide +kernel) X (z_k1 hK1 g1) (z_k1 hK2 g2)) (fun T5 I6 Q7 H locs h9 hF hB => ?_)
  replace h := h9
  clear h9
  replace h := h hF
  replace hK1 := z_k2 hK1 g1
  replace hK2 := z_k2 hK2 g2
  refine lv_aload_n (x := o) hx hb dX1_feed_17 rfl (lv_at hl 0 rfl) ?_
  refine z_getq X hB.1 kc_X1 in_X1 (j := 3) (Nat.le_of_ble_eq_true rfl) q1300 (fun _ h => h) rfl (by decide) (z_fo hB ho (by decide)) dX1_feed_18 ?_
  refine lv_aload_n (x := o) hx hb dX1_feed_21 rfl (lv_at hl 0 rfl) ?_
  refine z_geti X hB.1 kc_X1 in_X1 (j := 4) (Nat.le_of_ble_eq_true rfl) q1302 (fun _ h => h) rfl (by decide) (z_fo hB ho (by decide)) dX1_feed_22 ?_
  refine lv_iload_n hx hb dX1_feed_25 rfl (lv_at hl 1 rfl) ?_
  obtain ⟨a8, ea8, h⟩ := h
  refine z_stk (st' := [.int x1, .int (I6 o 4), .ref a8]) (by rw [ea8] <;> rfl) ?_
  obtain ⟨hk_a8, h⟩ := h
  obtain ⟨hc_a8, h⟩ := h
  obtain ⟨h1, h⟩ := h
  obtain ⟨I9, eI9⟩ : ∃ z, z = z_up I6 a8 (I6 o 4).toNatClampNeg (vp_nar .char x1) := ⟨_, rfl⟩
  replace h := h I9 eI9
  refine z_cast (x := x1) X hB hk_a8 hc_a8 h1 dX1_feed_26 (fun H locs hB => ?_)
  rw [← eI9] at hB
  refine lv_aload_n (x := o) hx hb dX1_feed_27 rfl (lv_at hl 0 rfl) ?_
  refine lv_dup hx hb dX1_feed_28 rfl ?_
  refine z_geti X hB.1 kc_X1 in_X1 (j := 4) (Nat.le_of_ble_eq_true rfl) q1302 (fun _ h => h) rfl (by decide) (z_fo hB ho (by decide)) dX1_feed_29 ?_
  refine lv_iconst (v := 1) hx hb dX1_feed_32 (by decide) ?_
  refine lv_iadd hx hb dX1_feed_33 ?_
  obtain ⟨I10, eI10⟩ : ∃ z, z = z_up I9 o 4 ((I9 o 4) + 1) := ⟨_, rfl⟩
  replace h := h I10 eI10
  refine z_puti (x := ((I9 o 4) + 1)) eI10 tyX1 X hB kc_X1 in_X1 tyX1_ok nmX1 (j := 4) (Nat.le_of_ble_eq_true rfl) q1302 (fun _ h => h) rfl rfl (by decide) (z_fo hB ho (by decide)) (z_foc hB ho (by decide) hoc) rfl (Or.inl rfl) dX1_feed_34 (fun H locs hB => ?_)
  refine lv_aload_n (x := o) hx hb dX1_feed_37 rfl (lv_at hl 0 rfl) ?_
  refine z_geti X hB.1 kc_X1 in_X1 (j := 4) (Nat.le_of_ble_eq_true rfl) q1302 (fun _ h => h) rfl (by decide) (z_fo hB ho (by decide)) dX1_feed_38 ?_
  exact z_iret X hB ⟨_, rfl, h⟩ (z_k3 hK1) (z_k3 hK2) dX1_feed_41
theorem ww_X1_feed_0 {o : Nat} {Qk : Int32 → z_T → z_I → z_Q → Prop} {Xk : String → Nat → z_T → z_I → z_Q → Prop} (X : z_X l G A p R s m args meth c cX1_feed 2 RX1 "feed" (some .int) mc ms 9 140) (ho : (T0 o).1 = 1) (hoc : 3 ≤ (T0 o).2.2) {cells slots : Nat} {T : z_T} {I : z_I} {Q : z_Q} {kc : Nat} {ks : Nat} {x1 : Int32} {H : Heap} {locs : List Loc} {ls : Array Slot} (hB : z_HB G z_PR A s.heap T0 I0 Q0 T I Q H locs) (hK1 : cells + kc ≤ mc) (hK2 : slots + ks ≤ ms) (hl : lv_has ls 2 [(0, .ref o), (1, .int x1)]) (h : wb_X1_feed_0 o Qk Xk T I Q kc ks x1) : W p l e R s m args below meth c H locs cells slots (z_MQ below G z_PR A T0 I0 Q0 (z_qi Qk) Xk args s mc ms) (F0 m 0 ls []) := by
  obtain ⟨hx, hb, -⟩ := id X
  unfold wb_X1_feed_0 at h
  refine lv_aload_n (x := o) hx hb dX1_feed_0 rfl (lv_at hl 0 rfl) ?_
  refine z_geti X hB.1 kc_X1 in_X1 (j := 4) (Nat.le_of_ble_eq_true rfl) q1302 (fun _ h => h) rfl (by decide) (z_fo hB ho (by decide)) dX1_feed_1 ?_
  refine lv_bipush (v := 80) hx hb dX1_feed_4 (by decide) ?_
  refine lv_icmp_ge (tgt := 13) hx hb dX1_feed_6 (by decide) (fun c1 => ?_) (fun c1 => ?_)
  · replace h := h.1 c1
    refine lv_iconst (v := 0) hx hb dX1_feed_13 (by decide) ?_
    exact ww_X1_feed_14 X ho hoc  hB hK1 hK2 (lv_sub hl [0, 1] rfl) h
  · replace h := h.2 c1
    refine lv_iconst (v := 1) hx hb dX1_feed_9 (by decide) ?_
    refine lv_goto (tgt := 14) hx hb dX1_feed_10 (by decide) ?_
    exact ww_X1_feed_14 X ho hoc  hB hK1 hK2 (lv_sub hl [0, 1] rfl) h
theorem pk_X1_feed : z_PV RX1 yX1_feed cX1_feed 2 (some .int) 1 := ⟨q3015, q3016, q94, q3017, by decide +kernel⟩
theorem met_X1_feed {l : Launch} {G : z_E} {T : z_T} {I : z_I} {Q : z_Q} (o : Nat) (x1 : Int32) (kc : Nat) (ks : Nat) (Qk : Int32 → z_T → z_I → z_Q → Prop) (Xk : String → Nat → z_T → z_I → z_Q → Prop) (h : wp_X1_feed T I Q o x1 kc ks Qk Xk) : z_GM l G yX1_feed (ws_ yX1_feed cX1_feed 2 (some .int)) 9 140 kc ks [.ref o, .int x1] z_PR T I Q (z_qi Qk) Xk := by
  obtain ⟨ho, hoc, h⟩ := h
  refine z_body (own := RX1) (nm := "feed") (by decide +kernel) rfl rfl (Nat.le_of_ble_eq_true rfl) (fun p e R s m below meth c A ls X hB hl => ?_)
  exact ww_X1_feed_0 X ho hoc hB z_k0 z_k0 hl h
/-! X1_meanDuration -/
theorem ww_X1_meanDuration_0 {o : Nat} {Qk : UInt64 → z_T → z_I → z_Q → Prop} {Xk : String → Nat → z_T → z_I → z_Q → Prop} (X : z_X l G A p R s m args meth c cX1_meanDuration 1 RX1 "meanDuration" (some .double) mc ms 8 120) (ho : (T0 o).1 = 1) {cells slots : Nat} {T : z_T} {I : z_I} {Q : z_Q} {kc : Nat} {ks : Nat} {H : Heap} {locs : List Loc} {ls : Array Slot} (hB : z_HB G z_PR A s.heap T0 I0 Q0 T I Q H locs) (hK1 : cells + kc ≤ mc) (hK2 : slots + ks ≤ ms) (hl : lv_has ls 1 [(0, .ref o)]) (h : wb_X1_meanDuration_0 o Qk Xk T I Q kc ks) : W p l e R s m args below meth c H locs cells slots (z_MQ below G z_PR A T0 I0 Q0 (z_qd Qk) Xk args s mc ms) (F0 m 0 ls []) := by
  obtain ⟨hx, hb, -⟩ := id X
  unfold wb_X1_meanDuration_0 at h
  refine lv_aload_n (x := o) hx hb dX1_meanDuration_0 rfl (lv_at hl 0 rfl) ?_
  refine z_getq X hB.1 kc_X1 in_X1 (j := 0) (Nat.le_of_ble_eq_true rfl) q1296 (fun _ h => h) rfl (by decide) (z_fo hB ho (by decide)) dX1_meanDuration_1 ?_
  obtain ⟨a1, ea1, h⟩ := h
  refine z_stk (st' := [.ref a1]) (by rw [ea1] <;> rfl) ?_
  obtain ⟨hk_a1, h⟩ := h
  refine z_getiN X hB.1 kc_X2 in_X2 (j := 9) (Nat.le_of_ble_eq_true rfl) q1262 (fun _ h => h) rfl (by decide) hk_a1 dX1_meanDuration_4 ?_
  refine lv_if_ne (tgt := 18) hx hb dX1_meanDuration_7 (by decide) (fun c2 => ?_) (fun c2 => ?_)
  · replace h := h.1 c2
    refine lv_aload_n (x := o) hx hb dX1_meanDuration_18 rfl (lv_at hl 0 rfl) ?_
    refine z_getq X hB.1 kc_X1 in_X1 (j := 0) (Nat.le_of_ble_eq_true rfl) q1296 (fun _ h => h) rfl (by decide) (z_fo hB ho (by decide)) dX1_meanDuration_19 ?_
    refine z_stk (st' := [.ref a1]) (by rw [ea1] <;> rfl) ?_
    refine z_getiN X hB.1 kc_X2 in_X2 (j := 11) (Nat.le_of_ble_eq_true rfl) q1268 (fun _ h => h) rfl (by decide) hk_a1 dX1_meanDuration_22 ?_
    refine lv_i2d hx hb dX1_meanDuration_25 ?_
    refine lv_aload_n (x := o) hx hb dX1_meanDuration_26 rfl (lv_at hl 0 rfl) ?_
    refine z_getq X hB.1 kc_X1 in_X1 (j := 0) (Nat.le_of_ble_eq_true rfl) q1296 (fun _ h => h) rfl (by decide) (z_fo hB ho (by decide)) dX1_meanDuration_27 ?_
    refine z_stk (st' := [.ref a1, .double (FP.i2d (I a1 11))]) (by rw [ea1] <;> rfl) ?_
    refine z_getiN X hB.1 kc_X2 in_X2 (j := 9) (Nat.le_of_ble_eq_true rfl) q1262 (fun _ h => h) rfl (by decide) hk_a1 dX1_meanDuration_30 ?_
    refine lv_i2d hx hb dX1_meanDuration_33 ?_
    obtain ⟨hn, h⟩ := h
    refine lv_ddiv hx hb dX1_meanDuration_34 hn ?_
    exact z_dret X hB ⟨_, rfl, h⟩ (z_k3 hK1) (z_k3 hK2) dX1_meanDuration_35
  · replace h := h.2 c2
    obtain ⟨g1, g2, h⟩ := h
    exact z_thr (cls := "java/lang/ArithmeticException") (names := ["java/lang/RuntimeException", "java/lang/Exception"]) (by decide +kernel) X hB (by decide +kernel) (by decide +kernel) q2999 q157 thr_RobotCell_307 hl.1 dX1_meanDuration_10 dX1_meanDuration_13 dX1_meanDuration_14 dX1_meanDuration_17 (by decide) (by simp [Value.category]) (z_k1 hK1 g1) (z_k1 hK2 g2) h
theorem pk_X1_meanDuration : z_PV RX1 yX1_meanDuration cX1_meanDuration 1 (some .double) 0 := ⟨q3008, q3009, q94, q3010, by decide +kernel⟩
theorem met_X1_meanDuration {l : Launch} {G : z_E} {T : z_T} {I : z_I} {Q : z_Q} (o : Nat) (kc : Nat) (ks : Nat) (Qk : UInt64 → z_T → z_I → z_Q → Prop) (Xk : String → Nat → z_T → z_I → z_Q → Prop) (h : wp_X1_meanDuration T I Q o kc ks Qk Xk) : z_GM l G yX1_meanDuration (ws_ yX1_meanDuration cX1_meanDuration 1 (some .double)) 8 120 kc ks [.ref o] z_PR T I Q (z_qd Qk) Xk := by
  obtain ⟨ho, h⟩ := h
  refine z_body (own := RX1) (nm := "meanDuration") (by decide +kernel) rfl rfl (Nat.le_of_ble_eq_true rfl) (fun p e R s m below meth c A ls X hB hl => ?_)
  exact ww_X1_meanDuration_0 X ho hB z_k0 z_k0 hl h
/-! X1_use -/
theorem ww_X1_use_0 {o : Nat} {Qk : UInt32 → z_T → z_I → z_Q → Prop} {Xk : String → Nat → z_T → z_I → z_Q → Prop} (X : z_X l G A p R s m args meth c cX1_use 2 RX1 "use" (some .float) mc ms 10 163) (ho : (T0 o).1 = 1) {cells slots : Nat} {T : z_T} {I : z_I} {Q : z_Q} {kc : Nat} {ks : Nat} {x1 : Int32} {H : Heap} {locs : List Loc} {ls : Array Slot} (hB : z_HB G z_PR A s.heap T0 I0 Q0 T I Q H locs) (hK1 : cells + kc ≤ mc) (hK2 : slots + ks ≤ ms) (hl : lv_has ls 2 [(0, .ref o), (1, .int x1)]) (h : wb_X1_use_0 o Qk Xk T I Q kc ks x1) : W p l e R s m args below meth c H locs cells slots (z_MQ below G z_PR A T0 I0 Q0 (z_qf Qk) Xk args s mc ms) (F0 m 0 ls []) := by
  obtain ⟨hx, hb, -⟩ := id X
  unfold wb_X1_use_0 at h
  refine lv_iload_n hx hb dX1_use_0 rfl (lv_at hl 1 rfl) ?_
  refine lv_iconst (v := 3) hx hb dX1_use_1 (by decide) ?_
  obtain ⟨kc2, ks3, g1, g2, h⟩ := h
  refine z_callXv (z_runS (rest := []) [.int x1, .int 3] pk_X1_checkIndex (met_X1_checkIndex x1 3 kc2 ks3 _ _ h) X hB hB.2.2.2.2.2.2 q2387 rfl hl.1 (Nat.le_of_ble_eq_true rfl) dX1_use_2 (z_k1 hK1 g1) (z_k1 hK2 g2) (by decide) (by decide)) hB (fun _ h => h) (z_on (by decide +kernel) X (z_k1 hK1 g1) (z_k1 hK2 g2)) (fun T4 I5 Q6 H locs h9 hF hB => ?_)
  replace h := h9
  clear h9
  replace h := h hF
  replace hK1 := z_k2 hK1 g1
  replace hK2 := z_k2 hK2 g2
  refine lv_aload_n (x := o) hx hb dX1_use_5 rfl (lv_at hl 0 rfl) ?_
  refine z_getq X hB.1 kc_X1 in_X1 (j := 0) (Nat.le_of_ble_eq_true rfl) q1296 (fun _ h => h) rfl (by decide) (z_fo hB ho (by decide)) dX1_use_6 ?_
  obtain ⟨a7, ea7, h⟩ := h
  refine z_stk (st' := [.ref a7]) (by rw [ea7] <;> rfl) ?_
  obtain ⟨hk_a7, h⟩ := h
  refine z_getiN X hB.1 kc_X2 in_X2 (j := 6) (Nat.le_of_ble_eq_true rfl) q1255 (fun _ h => h) rfl (by decide) hk_a7 dX1_use_9 ?_
  refine lv_if_ne (tgt := 23) hx hb dX1_use_12 (by decide) (fun c8 => ?_) (fun c8 => ?_)
  · replace h := h.1 c8
    refine lv_aload_n (x := o) hx hb dX1_use_23 rfl (lv_at hl 0 rfl) ?_
    refine z_getq X hB.1 kc_X1 in_X1 (j := 0) (Nat.le_of_ble_eq_true rfl) q1296 (fun _ h => h) rfl (by decide) (z_fo hB ho (by decide)) dX1_use_24 ?_
    refine z_stk (st' := [.ref a7]) (by rw [ea7] <;> rfl) ?_
    refine z_getqN X hB.1 kc_X2 in_X2 (j := 2) (Nat.le_of_ble_eq_true rfl) q1243 (fun _ h => h) rfl (by decide) hk_a7 dX1_use_27 ?_
    refine lv_iload_n hx hb dX1_use_30 rfl (lv_at hl 1 rfl) ?_
    obtain ⟨a9, ea9, h⟩ := h
    refine z_stk (st' := [.int x1, .ref a9]) (by rw [ea9] <;> rfl) ?_
    obtain ⟨hk_a9, h⟩ := h
    obtain ⟨h1, h⟩ := h
    refine z_aald (k := 4) X hB.1 (by decide) hk_a9 h1 dX1_use_31 ?_
    obtain ⟨a10, ea10, h⟩ := h
    refine z_stk (st' := [.ref a10]) (by rw [ea10] <;> rfl) ?_
    obtain ⟨hk_a10, h⟩ := h
    refine z_getiN X hB.1 kc_X4 in_X4 (j := 11) (Nat.le_of_ble_eq_true rfl) q1202 (fun _ h => h) rfl (by decide) hk_a10 dX1_use_32 ?_
    refine lv_i2f hx hb dX1_use_35 ?_
    refine lv_aload_n (x := o) hx hb dX1_use_36 rfl (lv_at hl 0 rfl) ?_
    refine z_getq X hB.1 kc_X1 in_X1 (j := 0) (Nat.le_of_ble_eq_true rfl) q1296 (fun _ h => h) rfl (by decide) (z_fo hB ho (by decide)) dX1_use_37 ?_
    refine z_stk (st' := [.ref a7, .float (FP.i2f (I5 a10 11))]) (by rw [ea7] <;> rfl) ?_
    refine z_getiN X hB.1 kc_X2 in_X2 (j := 6) (Nat.le_of_ble_eq_true rfl) q1255 (fun _ h => h) rfl (by decide) hk_a7 dX1_use_40 ?_
    refine lv_i2f hx hb dX1_use_43 ?_
    obtain ⟨hn, h⟩ := h
    refine lv_fdiv hx hb dX1_use_44 hn ?_
    exact z_fret X hB ⟨_, rfl, h⟩ (z_k3 hK1) (z_k3 hK2) dX1_use_45
  · replace h := h.2 c8
    obtain ⟨g1, g2, h⟩ := h
    exact z_thr (cls := "java/lang/ArithmeticException") (names := ["java/lang/RuntimeException", "java/lang/Exception"]) (by decide +kernel) X hB (by decide +kernel) (by decide +kernel) q2999 q157 thr_RobotCell_307 hl.1 dX1_use_15 dX1_use_18 dX1_use_19 dX1_use_22 (by decide) (by simp [Value.category]) (z_k1 hK1 g1) (z_k1 hK2 g2) h
theorem pk_X1_use : z_PV RX1 yX1_use cX1_use 2 (some .float) 1 := ⟨q2996, q2997, q94, q2998, by decide +kernel⟩
theorem met_X1_use {l : Launch} {G : z_E} {T : z_T} {I : z_I} {Q : z_Q} (o : Nat) (x1 : Int32) (kc : Nat) (ks : Nat) (Qk : UInt32 → z_T → z_I → z_Q → Prop) (Xk : String → Nat → z_T → z_I → z_Q → Prop) (h : wp_X1_use T I Q o x1 kc ks Qk Xk) : z_GM l G yX1_use (ws_ yX1_use cX1_use 2 (some .float)) 10 163 kc ks [.ref o, .int x1] z_PR T I Q (z_qf Qk) Xk := by
  obtain ⟨ho, h⟩ := h
  refine z_body (own := RX1) (nm := "use") (by decide +kernel) rfl rfl (Nat.le_of_ble_eq_true rfl) (fun p e R s m below meth c A ls X hB hl => ?_)
  exact ww_X1_use_0 X ho hB z_k0 z_k0 hl h
/-! J5_size -/
theorem ww_J5_size_0 {T : z_T} {I : z_I} {Q : z_Q} {o : Nat} {Qk : Int32 → Prop} (X : z_X l G A p R s m args meth c cJ5_size 1 RJ5 "size" (some .int) 0 0 8 120) (ho : (T o).1 = 22) {H : Heap} {locs : List Loc} {ls : Array Slot} (hB : z_HB G z_none A s.heap T I Q T I Q H locs) (hl : lv_has ls 1 [(0, .ref o)]) (h : wb_J5_size_0 T I Q o Qk ) : W p l e R s m args below meth c H locs 0 0 (z_MQ below G z_none A T I Q (z_pi Qk T I Q) z_no args s 0 0) (F0 m 0 ls []) := by
  obtain ⟨hx, hb, -⟩ := id X
  unfold wb_J5_size_0 at h
  refine lv_aload_n (x := o) hx hb dJ5_size_0 rfl (lv_at hl 0 rfl) ?_
  refine z_geti X hB.1 kc_J6 in_J6 (j := 2) (Nat.le_of_ble_eq_true rfl) q1047 (fun _ h => h) rfl (by decide) ho dJ5_size_1 ?_
  exact z_iret X hB ⟨_, rfl, h, rfl, rfl, rfl⟩ (Nat.le_refl 0) (Nat.le_refl 0) dJ5_size_4
theorem met_J5_size {l : Launch} {G : z_E} {T : z_T} {I : z_I} {Q : z_Q} (o : Nat) (Qk : Int32 → Prop) (h : wp_J5_size T I Q o Qk) : z_GM l G yJ5_size (ws_ yJ5_size cJ5_size 1 (some .int)) 8 120 0 0 [.ref o] z_none T I Q (z_pi Qk T I Q) z_no := by
  obtain ⟨ho, h⟩ := h
  refine z_body (own := RJ5) (nm := "size") (by decide +kernel) rfl rfl (Nat.le_of_ble_eq_true rfl) (fun p e R s m below meth c A ls X hB hl => ?_)
  exact ww_J5_size_0 X ho hB hl h
/-! J2_size -/
theorem pu_J6_J5_size : z_PU "java/util/LinkedHashMap" "java/util/HashMap" ⟨"java/util/HashMap", "size", "()I"⟩ yJ5_size cJ5_size 1 (some .int) 0 := ⟨q2975, q2976, q2974, q101, q2977, by decide +kernel⟩
theorem ww_J2_size_0 {T : z_T} {I : z_I} {Q : z_Q} {o : Nat} {Qk : Int32 → Prop} (X : z_X l G A p R s m args meth c cJ2_size 1 RJ2 "size" (some .int) 0 0 9 140) (ho : (T o).1 = 21) {H : Heap} {locs : List Loc} {ls : Array Slot} (hB : z_HB G z_none A s.heap T I Q T I Q H locs) (hl : lv_has ls 1 [(0, .ref o)]) (h : wb_J2_size_0 T I Q o Qk ) : W p l e R s m args below meth c H locs 0 0 (z_MQ below G z_none A T I Q (z_pi Qk T I Q) z_no args s 0 0) (F0 m 0 ls []) := by
  obtain ⟨hx, hb, -⟩ := id X
  unfold wb_J2_size_0 at h
  refine lv_aload_n (x := o) hx hb dJ2_size_0 rfl (lv_at hl 0 rfl) ?_
  refine z_getq X hB.1 kc_J3 in_J3 (j := 0) (Nat.le_of_ble_eq_true rfl) q1084 (fun _ h => h) rfl (by decide) ho dJ2_size_1 ?_
  obtain ⟨a1, ea1, h⟩ := h
  refine z_stk (st' := [.ref a1]) (by rw [ea1] <;> rfl) ?_
  obtain ⟨hk_a1, h⟩ := h
  refine z_callip (z_runU (rest := []) [] pu_J6_J5_size rfl (met_J5_size a1 _ h) X hB (fun h => h) q2973 kc_J6 (by decide) hk_a1 rfl hl.1 (Nat.le_of_ble_eq_true rfl) dJ2_size_4 (Nat.le_refl 0) (Nat.le_refl 0) (by decide) (by decide)) hB (fun r2 H locs h9 hB => ?_)
  replace h := h9
  clear h9
  exact z_iret X hB ⟨_, rfl, h, rfl, rfl, rfl⟩ (Nat.le_refl 0) (Nat.le_refl 0) dJ2_size_7
theorem met_J2_size {l : Launch} {G : z_E} {T : z_T} {I : z_I} {Q : z_Q} (o : Nat) (Qk : Int32 → Prop) (h : wp_J2_size T I Q o Qk) : z_GM l G yJ2_size (ws_ yJ2_size cJ2_size 1 (some .int)) 9 140 0 0 [.ref o] z_none T I Q (z_pi Qk T I Q) z_no := by
  obtain ⟨ho, h⟩ := h
  refine z_body (own := RJ2) (nm := "size") (by decide +kernel) rfl rfl (Nat.le_of_ble_eq_true rfl) (fun p e R s m below meth c A ls X hB hl => ?_)
  exact ww_J2_size_0 X ho hB hl h
/-! X1_account -/
theorem pu_J3_J2_size_LinkedHashSet : z_PU "java/util/LinkedHashSet" "java/util/HashSet" ⟨"java/util/LinkedHashSet", "size", "()I"⟩ yJ2_size cJ2_size 1 (some .int) 0 := ⟨q2968, q2970, q2971, q98, q2972, by decide +kernel⟩
theorem ww_X1_account_0 {o : Nat} {Qk : Int32 → z_T → z_I → z_Q → Prop} {Xk : String → Nat → z_T → z_I → z_Q → Prop} (X : z_X l G A p R s m args meth c cX1_account 2 RX1 "account" (some .int) mc ms 11 187) (ho : (T0 o).1 = 1) {cells slots : Nat} {T : z_T} {I : z_I} {Q : z_Q} {kc : Nat} {ks : Nat} {x1 : Int32} {H : Heap} {locs : List Loc} {ls : Array Slot} (hB : z_HB G z_PR A s.heap T0 I0 Q0 T I Q H locs) (hK1 : cells + kc ≤ mc) (hK2 : slots + ks ≤ ms) (hl : lv_has ls 2 [(0, .ref o), (1, .int x1)]) (h : wb_X1_account_0 o Qk Xk T I Q kc ks x1) : W p l e R s m args below meth c H locs cells slots (z_MQ below G z_PR A T0 I0 Q0 (z_qi Qk) Xk args s mc ms) (F0 m 0 ls []) := by
  obtain ⟨hx, hb, -⟩ := id X
  unfold wb_X1_account_0 at h
  refine lv_iload_n hx hb dX1_account_0 rfl (lv_at hl 1 rfl) ?_
  refine lv_iconst (v := 0) hx hb dX1_account_1 (by decide) ?_
  refine lv_bipush (v := 9) hx hb dX1_account_2 (by decide) ?_
  refine z_callzp (z_runS (rest := []) [.int x1, .int 0, .int 9] pk_X1_inRange (met_X1_inRange x1 0 9 _ h) X hB (fun h => h) q2390 rfl hl.1 (Nat.le_of_ble_eq_true rfl) dX1_account_4 (z_k4 hK1) (z_k4 hK2) (by decide) (by decide)) hB (fun r1 H locs hz h9 hB => ?_)
  replace h := h9
  clear h9
  replace h := h hz
  obtain ⟨kc3, ks4, g1, g2, h⟩ := h
  refine z_callXv (z_runS (rest := []) [.int r1] pk_X1_checkArgument (met_X1_checkArgument r1 kc3 ks4 _ _ h) X hB hB.2.2.2.2.2.2 q2408 rfl hl.1 (Nat.le_of_ble_eq_true rfl) dX1_account_7 (z_k1 hK1 g1) (z_k1 hK2 g2) (by decide) (by decide)) hB (fun _ h => h) (z_on (by decide +kernel) X (z_k1 hK1 g1) (z_k1 hK2 g2)) (fun T5 I6 Q7 H locs h9 hF hB => ?_)
  replace h := h9
  clear h9
  replace h := h hF
  replace hK1 := z_k2 hK1 g1
  replace hK2 := z_k2 hK2 g2
  refine lv_iload_n hx hb dX1_account_10 rfl (lv_at hl 1 rfl) ?_
  by_cases c8_0 : x1 = 0
  · replace h := h.1 c8_0
    refine lv_tableIn (off := 49) (tgt := 60) hx hb dX1_account_11 (by rw [c8_0]; decide) (by rw [c8_0]; decide) (by rw [c8_0]; rfl) (by decide) ?_
    refine lv_aload_n (x := o) hx hb dX1_account_60 rfl (lv_at hl 0 rfl) ?_
    refine z_getq X hB.1 kc_X1 in_X1 (j := 0) (Nat.le_of_ble_eq_true rfl) q1296 (fun _ h => h) rfl (by decide) (z_fo hB ho (by decide)) dX1_account_61 ?_
    obtain ⟨a9, ea9, h⟩ := h
    refine z_stk (st' := [.ref a9]) (by rw [ea9] <;> rfl) ?_
    obtain ⟨hk_a9, h⟩ := h
    refine z_getiN X hB.1 kc_X2 in_X2 (j := 6) (Nat.le_of_ble_eq_true rfl) q1255 (fun _ h => h) rfl (by decide) hk_a9 dX1_account_64 ?_
    exact z_iret X hB ⟨_, rfl, h⟩ (z_k3 hK1) (z_k3 hK2) dX1_account_67
  · by_cases c8_1 : x1 = 1
    · replace h := h.2.1 c8_1
      refine lv_tableIn (off := 57) (tgt := 68) hx hb dX1_account_11 (by rw [c8_1]; decide) (by rw [c8_1]; decide) (by rw [c8_1]; rfl) (by decide) ?_
      refine lv_aload_n (x := o) hx hb dX1_account_68 rfl (lv_at hl 0 rfl) ?_
      refine z_getq X hB.1 kc_X1 in_X1 (j := 0) (Nat.le_of_ble_eq_true rfl) q1296 (fun _ h => h) rfl (by decide) (z_fo hB ho (by decide)) dX1_account_69 ?_
      obtain ⟨a10, ea10, h⟩ := h
      refine z_stk (st' := [.ref a10]) (by rw [ea10] <;> rfl) ?_
      obtain ⟨hk_a10, h⟩ := h
      refine z_getqN X hB.1 kc_X2 in_X2 (j := 3) (Nat.le_of_ble_eq_true rfl) q1247 (fun _ h => h) rfl (by decide) hk_a10 dX1_account_72 ?_
      obtain ⟨a11, ea11, h⟩ := h
      refine z_stk (st' := [.ref a11]) (by rw [ea11] <;> rfl) ?_
      obtain ⟨hk_a11, h⟩ := h
      refine z_callip (z_runV (rest := []) [] pk_J30_size (met_J30_size a11 _ h) X hB (fun h => h) q2704 kc_J30 (by decide) hk_a11 rfl hl.1 (Nat.le_of_ble_eq_true rfl) dX1_account_75 (z_k4 hK1) (z_k4 hK2) (by decide) (by decide)) hB (fun r12 H locs h9 hB => ?_)
      replace h := h9
      clear h9
      exact z_iret X hB ⟨_, rfl, h⟩ (z_k3 hK1) (z_k3 hK2) dX1_account_78
    · by_cases c8_2 : x1 = 2
      · replace h := h.2.2.1 c8_2
        refine lv_tableIn (off := 68) (tgt := 79) hx hb dX1_account_11 (by rw [c8_2]; decide) (by rw [c8_2]; decide) (by rw [c8_2]; rfl) (by decide) ?_
        refine lv_aload_n (x := o) hx hb dX1_account_79 rfl (lv_at hl 0 rfl) ?_
        refine z_getq X hB.1 kc_X1 in_X1 (j := 0) (Nat.le_of_ble_eq_true rfl) q1296 (fun _ h => h) rfl (by decide) (z_fo hB ho (by decide)) dX1_account_80 ?_
        obtain ⟨a13, ea13, h⟩ := h
        refine z_stk (st' := [.ref a13]) (by rw [ea13] <;> rfl) ?_
        obtain ⟨hk_a13, h⟩ := h
        refine z_getiN X hB.1 kc_X2 in_X2 (j := 9) (Nat.le_of_ble_eq_true rfl) q1262 (fun _ h => h) rfl (by decide) hk_a13 dX1_account_83 ?_
        exact z_iret X hB ⟨_, rfl, h⟩ (z_k3 hK1) (z_k3 hK2) dX1_account_86
      · by_cases c8_3 : x1 = 3
        · replace h := h.2.2.2.1 c8_3
          refine lv_tableIn (off := 76) (tgt := 87) hx hb dX1_account_11 (by rw [c8_3]; decide) (by rw [c8_3]; decide) (by rw [c8_3]; rfl) (by decide) ?_
          refine lv_aload_n (x := o) hx hb dX1_account_87 rfl (lv_at hl 0 rfl) ?_
          refine z_getq X hB.1 kc_X1 in_X1 (j := 0) (Nat.le_of_ble_eq_true rfl) q1296 (fun _ h => h) rfl (by decide) (z_fo hB ho (by decide)) dX1_account_88 ?_
          obtain ⟨a14, ea14, h⟩ := h
          refine z_stk (st' := [.ref a14]) (by rw [ea14] <;> rfl) ?_
          obtain ⟨hk_a14, h⟩ := h
          refine z_getiN X hB.1 kc_X2 in_X2 (j := 10) (Nat.le_of_ble_eq_true rfl) q1265 (fun _ h => h) rfl (by decide) hk_a14 dX1_account_91 ?_
          exact z_iret X hB ⟨_, rfl, h⟩ (z_k3 hK1) (z_k3 hK2) dX1_account_94
        · by_cases c8_4 : x1 = 4
          · replace h := h.2.2.2.2.1 c8_4
            refine lv_tableIn (off := 84) (tgt := 95) hx hb dX1_account_11 (by rw [c8_4]; decide) (by rw [c8_4]; decide) (by rw [c8_4]; rfl) (by decide) ?_
            refine lv_aload_n (x := o) hx hb dX1_account_95 rfl (lv_at hl 0 rfl) ?_
            refine z_getq X hB.1 kc_X1 in_X1 (j := 0) (Nat.le_of_ble_eq_true rfl) q1296 (fun _ h => h) rfl (by decide) (z_fo hB ho (by decide)) dX1_account_96 ?_
            obtain ⟨a15, ea15, h⟩ := h
            refine z_stk (st' := [.ref a15]) (by rw [ea15] <;> rfl) ?_
            obtain ⟨hk_a15, h⟩ := h
            refine z_getiN X hB.1 kc_X2 in_X2 (j := 7) (Nat.le_of_ble_eq_true rfl) q1257 (fun _ h => h) rfl (by decide) hk_a15 dX1_account_99 ?_
            exact z_iret X hB ⟨_, rfl, h⟩ (z_k3 hK1) (z_k3 hK2) dX1_account_102
          · by_cases c8_5 : x1 = 5
            · replace h := h.2.2.2.2.2.1 c8_5
              refine lv_tableIn (off := 92) (tgt := 103) hx hb dX1_account_11 (by rw [c8_5]; decide) (by rw [c8_5]; decide) (by rw [c8_5]; rfl) (by decide) ?_
              refine lv_aload_n (x := o) hx hb dX1_account_103 rfl (lv_at hl 0 rfl) ?_
              refine z_getq X hB.1 kc_X1 in_X1 (j := 0) (Nat.le_of_ble_eq_true rfl) q1296 (fun _ h => h) rfl (by decide) (z_fo hB ho (by decide)) dX1_account_104 ?_
              obtain ⟨a16, ea16, h⟩ := h
              refine z_stk (st' := [.ref a16]) (by rw [ea16] <;> rfl) ?_
              obtain ⟨hk_a16, h⟩ := h
              refine z_callip (z_runV (rest := []) [] pk_X2_parts (met_X2_parts a16 _ h) X hB (fun h => h) q2959 kc_X2 (by decide) hk_a16 rfl hl.1 (Nat.le_of_ble_eq_true rfl) dX1_account_107 (z_k4 hK1) (z_k4 hK2) (by decide) (by decide)) hB (fun r17 H locs h9 hB => ?_)
              replace h := h9
              clear h9
              exact z_iret X hB ⟨_, rfl, h⟩ (z_k3 hK1) (z_k3 hK2) dX1_account_110
            · by_cases c8_6 : x1 = 6
              · replace h := h.2.2.2.2.2.2.1 c8_6
                refine lv_tableIn (off := 100) (tgt := 111) hx hb dX1_account_11 (by rw [c8_6]; decide) (by rw [c8_6]; decide) (by rw [c8_6]; rfl) (by decide) ?_
                refine lv_aload_n (x := o) hx hb dX1_account_111 rfl (lv_at hl 0 rfl) ?_
                refine z_getq X hB.1 kc_X1 in_X1 (j := 0) (Nat.le_of_ble_eq_true rfl) q1296 (fun _ h => h) rfl (by decide) (z_fo hB ho (by decide)) dX1_account_112 ?_
                obtain ⟨a18, ea18, h⟩ := h
                refine z_stk (st' := [.ref a18]) (by rw [ea18] <;> rfl) ?_
                obtain ⟨hk_a18, h⟩ := h
                refine z_getiN X hB.1 kc_X2 in_X2 (j := 8) (Nat.le_of_ble_eq_true rfl) q1260 (fun _ h => h) rfl (by decide) hk_a18 dX1_account_115 ?_
                exact z_iret X hB ⟨_, rfl, h⟩ (z_k3 hK1) (z_k3 hK2) dX1_account_118
              · by_cases c8_7 : x1 = 7
                · replace h := h.2.2.2.2.2.2.2.1 c8_7
                  refine lv_tableIn (off := 108) (tgt := 119) hx hb dX1_account_11 (by rw [c8_7]; decide) (by rw [c8_7]; decide) (by rw [c8_7]; rfl) (by decide) ?_
                  refine lv_aload_n (x := o) hx hb dX1_account_119 rfl (lv_at hl 0 rfl) ?_
                  refine z_getq X hB.1 kc_X1 in_X1 (j := 0) (Nat.le_of_ble_eq_true rfl) q1296 (fun _ h => h) rfl (by decide) (z_fo hB ho (by decide)) dX1_account_120 ?_
                  obtain ⟨a19, ea19, h⟩ := h
                  refine z_stk (st' := [.ref a19]) (by rw [ea19] <;> rfl) ?_
                  obtain ⟨hk_a19, h⟩ := h
                  refine z_getqN X hB.1 kc_X2 in_X2 (j := 4) (Nat.le_of_ble_eq_true rfl) q1249 (fun _ h => h) rfl (by decide) hk_a19 dX1_account_123 ?_
                  obtain ⟨a20, ea20, h⟩ := h
                  refine z_stk (st' := [.ref a20]) (by rw [ea20] <;> rfl) ?_
                  obtain ⟨hk_a20, h⟩ := h
                  refine z_callip (z_runV (rest := []) [] pk_J31_size (met_J31_size a20 _ h) X hB (fun h => h) q2499 kc_J31 (by decide) hk_a20 rfl hl.1 (Nat.le_of_ble_eq_true rfl) dX1_account_126 (z_k4 hK1) (z_k4 hK2) (by decide) (by decide)) hB (fun r21 H locs h9 hB => ?_)
                  replace h := h9
                  clear h9
                  exact z_iret X hB ⟨_, rfl, h⟩ (z_k3 hK1) (z_k3 hK2) dX1_account_129
                · by_cases c8_8 : x1 = 8
                  · replace h := h.2.2.2.2.2.2.2.2.1 c8_8
                    refine lv_tableIn (off := 119) (tgt := 130) hx hb dX1_account_11 (by rw [c8_8]; decide) (by rw [c8_8]; decide) (by rw [c8_8]; rfl) (by decide) ?_
                    refine lv_aload_n (x := o) hx hb dX1_account_130 rfl (lv_at hl 0 rfl) ?_
                    refine z_getq X hB.1 kc_X1 in_X1 (j := 0) (Nat.le_of_ble_eq_true rfl) q1296 (fun _ h => h) rfl (by decide) (z_fo hB ho (by decide)) dX1_account_131 ?_
                    obtain ⟨a22, ea22, h⟩ := h
                    refine z_stk (st' := [.ref a22]) (by rw [ea22] <;> rfl) ?_
                    obtain ⟨hk_a22, h⟩ := h
                    refine z_callip (z_runV (rest := []) [] pk_X2_refusals (met_X2_refusals a22 _ h) X hB (fun h => h) q2963 kc_X2 (by decide) hk_a22 rfl hl.1 (Nat.le_of_ble_eq_true rfl) dX1_account_134 (z_k4 hK1) (z_k4 hK2) (by decide) (by decide)) hB (fun r23 H locs h9 hB => ?_)
                    replace h := h9
                    clear h9
                    exact z_iret X hB ⟨_, rfl, h⟩ (z_k3 hK1) (z_k3 hK2) dX1_account_137
                  · replace h := h.2.2.2.2.2.2.2.2.2 c8_0 c8_1 c8_2 c8_3 c8_4 c8_5 c8_6 c8_7 c8_8
                    refine lv_tableOut (tgt := 138) hx hb dX1_account_11 ?_ (by decide) ?_
                    · have q0 := lv_neT c8_0 (a := 0) (by decide)
                      have q1 := lv_neT c8_1 (a := 1) (by decide)
                      have q2 := lv_neT c8_2 (a := 2) (by decide)
                      have q3 := lv_neT c8_3 (a := 3) (by decide)
                      have q4 := lv_neT c8_4 (a := 4) (by decide)
                      have q5 := lv_neT c8_5 (a := 5) (by decide)
                      have q6 := lv_neT c8_6 (a := 6) (by decide)
                      have q7 := lv_neT c8_7 (a := 7) (by decide)
                      have q8 := lv_neT c8_8 (a := 8) (by decide)
                      omega
                    · refine lv_aload_n (x := o) hx hb dX1_account_138 rfl (lv_at hl 0 rfl) ?_
                      refine z_getq X hB.1 kc_X1 in_X1 (j := 0) (Nat.le_of_ble_eq_true rfl) q1296 (fun _ h => h) rfl (by decide) (z_fo hB ho (by decide)) dX1_account_139 ?_
                      obtain ⟨a24, ea24, h⟩ := h
                      refine z_stk (st' := [.ref a24]) (by rw [ea24] <;> rfl) ?_
                      obtain ⟨hk_a24, h⟩ := h
                      refine z_getqN X hB.1 kc_X2 in_X2 (j := 0) (Nat.le_of_ble_eq_true rfl) q1236 (fun _ h => h) rfl (by decide) hk_a24 dX1_account_142 ?_
                      obtain ⟨a25, ea25, h⟩ := h
                      refine z_stk (st' := [.ref a25]) (by rw [ea25] <;> rfl) ?_
                      obtain ⟨hk_a25, h⟩ := h
                      refine z_callip (z_runU (rest := []) [] pu_J3_J2_size_LinkedHashSet rfl (met_J2_size a25 _ h) X hB (fun h => h) q2967 kc_J3 (by decide) hk_a25 rfl hl.1 (Nat.le_of_ble_eq_true rfl) dX1_account_145 (z_k4 hK1) (z_k4 hK2) (by decide) (by decide)) hB (fun r26 H locs h9 hB => ?_)
                      replace h := h9
                      clear h9
                      exact z_iret X hB ⟨_, rfl, h⟩ (z_k3 hK1) (z_k3 hK2) dX1_account_148
theorem pk_X1_account : z_PV RX1 yX1_account cX1_account 2 (some .int) 1 := ⟨q2956, q2957, q94, q2958, by decide +kernel⟩
theorem met_X1_account {l : Launch} {G : z_E} {T : z_T} {I : z_I} {Q : z_Q} (o : Nat) (x1 : Int32) (kc : Nat) (ks : Nat) (Qk : Int32 → z_T → z_I → z_Q → Prop) (Xk : String → Nat → z_T → z_I → z_Q → Prop) (h : wp_X1_account T I Q o x1 kc ks Qk Xk) : z_GM l G yX1_account (ws_ yX1_account cX1_account 2 (some .int)) 11 187 kc ks [.ref o, .int x1] z_PR T I Q (z_qi Qk) Xk := by
  obtain ⟨ho, h⟩ := h
  refine z_body (own := RX1) (nm := "account") (by decide +kernel) rfl rfl (Nat.le_of_ble_eq_true rfl) (fun p e R s m below meth c A ls X hB hl => ?_)
  exact ww_X1_account_0 X ho hB z_k0 z_k0 hl h
end
