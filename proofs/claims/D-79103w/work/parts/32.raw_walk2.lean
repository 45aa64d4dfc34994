/-! THE CODE: walks 2 -/
set_option maxRecDepth 100000
section
variable {p : Program} {l : Launch} {e : Env} {R : Room} {s : State} {m : MethodId} {args : Array Value} {below : List Frame} {meth : Method} {c : Code}
variable {G : z_E} {A : Nat → Prop} {T T0 : z_T} {I I0 : z_I} {Q Q0 : z_Q} {mc ms : Nat}
/-! J6_removeEldestEntry -/
theorem ww_J6_removeEldestEntry_0 {T : z_T} {I : z_I} {Q : z_Q} {o : Nat} {Qk : Int32 → Prop} (X : z_X l G A p R s m args meth c cJ6_removeEldestEntry 2 RJ6 "removeEldestEntry" (some .boolean) 0 0 8 120) (ho : (T o).1 = 22) {x1 : Option Nat} {H : Heap} {locs : List Loc} {ls : Array Slot} (hB : z_HB G z_none A s.heap T I Q T I Q H locs) (hl : lv_has ls 2 [(0, .ref o), (1, va_rf x1)]) (h : wb_J6_removeEldestEntry_0 T I Q o Qk x1) : W p l e R s m args below meth c H locs 0 0 (z_MQ below G z_none A T I Q (z_pz Qk T I Q) z_no args s 0 0) (F0 m 0 ls []) := by
  obtain ⟨hx, hb, -⟩ := id X
  unfold wb_J6_removeEldestEntry_0 at h
  refine lv_iconst (v := 0) hx hb dJ6_removeEldestEntry_0 (by decide) ?_
  exact z_zret X hB (Or.inl rfl) ⟨_, rfl, (Or.inl rfl), h, rfl, rfl, rfl⟩ (Nat.le_refl 0) (Nat.le_refl 0) dJ6_removeEldestEntry_1
theorem pk_J6_removeEldestEntry : z_PV RJ6 yJ6_removeEldestEntry cJ6_removeEldestEntry 2 (some .boolean) 1 := ⟨q2181, q2182, q102, q2183, by decide +kernel⟩
theorem met_J6_removeEldestEntry {l : Launch} {G : z_E} {T : z_T} {I : z_I} {Q : z_Q} (o : Nat) (x1 : Option Nat) (Qk : Int32 → Prop) (h : wp_J6_removeEldestEntry T I Q o x1 Qk) : z_GM l G yJ6_removeEldestEntry (ws_ yJ6_removeEldestEntry cJ6_removeEldestEntry 2 (some .boolean)) 8 120 0 0 [.ref o, va_rf x1] z_none T I Q (z_pz Qk T I Q) z_no := by
  obtain ⟨ho, h⟩ := h
  refine z_body (own := RJ6) (nm := "removeEldestEntry") (by decide +kernel) rfl rfl (by cases x1 <;> exact Nat.le_of_ble_eq_true rfl) (fun p e R s m below meth c A ls X hB hl => ?_)
  replace hl : lv_has ls 2 [(0, .ref o), (1, va_rf x1)] := by cases x1 <;> exact hl
  exact ww_J6_removeEldestEntry_0 X ho hB hl h
/-! J6_afterNodeInsertion -/
theorem ww_J6_afterNodeInsertion_39 {T : z_T} {I : z_I} {Q : z_Q} {o : Nat} {Qk : Prop} (X : z_X l G A p R s m args meth c cJ6_afterNodeInsertion 4 RJ6 "afterNodeInsertion" none 0 0 9 141) (ho : (T o).1 = 22) {H : Heap} {locs : List Loc} {ls : Array Slot} (hB : z_HB G z_none A s.heap T I Q T I Q H locs) (hl : lv_has ls 4 []) (h : wb_J6_afterNodeInsertion_39 T I Q o Qk ) : W p l e R s m args below meth c H locs 0 0 (z_MQ below G z_none A T I Q (z_pv Qk T I Q) z_no args s 0 0) (F0 m 39 ls []) := by
  obtain ⟨hx, hb, -⟩ := id X
  unfold wb_J6_afterNodeInsertion_39 at h
  exact z_vret X hB ⟨rfl, h, rfl, rfl, rfl⟩ (Nat.le_refl 0) (Nat.le_refl 0) dJ6_afterNodeInsertion_39
theorem ww_J6_afterNodeInsertion_0 {T : z_T} {I : z_I} {Q : z_Q} {o : Nat} {Qk : Prop} (X : z_X l G A p R s m args meth c cJ6_afterNodeInsertion 4 RJ6 "afterNodeInsertion" none 0 0 9 141) (ho : (T o).1 = 22) {x1 : Int32} {H : Heap} {locs : List Loc} {ls : Array Slot} (hB : z_HB G z_none A s.heap T I Q T I Q H locs) (hl : lv_has ls 4 [(0, .ref o), (1, .int x1)]) (h : wb_J6_afterNodeInsertion_0 T I Q o Qk x1) : W p l e R s m args below meth c H locs 0 0 (z_MQ below G z_none A T I Q (z_pv Qk T I Q) z_no args s 0 0) (F0 m 0 ls []) := by
  obtain ⟨hx, hb, -⟩ := id X
  unfold wb_J6_afterNodeInsertion_0 at h
  refine lv_iload_n hx hb dJ6_afterNodeInsertion_0 rfl (lv_at hl 1 rfl) ?_
  refine lv_if_eq (tgt := 39) hx hb dJ6_afterNodeInsertion_1 (by decide) (fun c1 => ?_) (fun c1 => ?_)
  · replace h := h.1 c1
    exact ww_J6_afterNodeInsertion_39 X ho  hB (lv_sub hl [] rfl) h
  · replace h := h.2 c1
    refine lv_aload_n (x := o) hx hb dJ6_afterNodeInsertion_4 rfl (lv_at hl 0 rfl) ?_
    refine z_getq X hB.1 kc_J6 in_J6 (j := 8) (Nat.le_of_ble_eq_true rfl) q1038 (fun _ h => h) rfl (by decide) ho dJ6_afterNodeInsertion_5 ?_
    refine lv_dup hx hb dJ6_afterNodeInsertion_8 z_cat ?_
    obtain ⟨y2, ey2⟩ : ∃ z : Option Nat, z = (Q o 8) := ⟨_, rfl⟩
    replace h := h y2 ey2
    refine z_stk (st' := [va_rf y2, va_rf y2]) (by rw [ey2]) ?_
    refine z_astore_n (x := y2) (lv' := [(2, va_rf y2), (0, .ref o), (1, .int x1)]) hx hb dJ6_afterNodeInsertion_9 rfl hl (by decide) rfl (fun ls hl9 => ?_)
    replace hl := hl9
    clear hl9
    refine z_ifnull (tgt := 39) hx hb dJ6_afterNodeInsertion_10 (by decide) (fun c3 => ?_) (fun a4 c3 => ?_)
    · replace h := h.1 c3
      subst c3
      exact ww_J6_afterNodeInsertion_39 X ho  hB (lv_sub hl [] rfl) h
    · replace h := h.2 a4 c3
      subst c3
      refine lv_aload_n (x := o) hx hb dJ6_afterNodeInsertion_13 rfl (lv_at hl 1 rfl) ?_
      refine lv_aload_n (x := a4) hx hb dJ6_afterNodeInsertion_14 rfl (lv_at hl 0 rfl) ?_
      refine z_callzp (z_runV (rest := []) [.ref a4] pk_J6_removeEldestEntry (met_J6_removeEldestEntry o (some a4) _ h) X hB (fun h => h) q2180 kc_J6 (by decide) ho rfl hl.1 (Nat.le_of_ble_eq_true rfl) dJ6_afterNodeInsertion_15 (Nat.le_refl 0) (Nat.le_refl 0) (by decide) (by decide)) hB (fun r5 H locs hz h9 hB => ?_)
      replace h := h9
      clear h9
      replace h := h hz
      refine lv_if_eq (tgt := 39) hx hb dJ6_afterNodeInsertion_18 (by decide) (fun c6 => ?_) (fun c6 => ?_)
      · replace h := h.1 c6
        exact ww_J6_afterNodeInsertion_39 X ho  hB (lv_sub hl [] rfl) h
      · replace h := h.2 c6
        refine lv_aload_n (x := a4) hx hb dJ6_afterNodeInsertion_21 rfl (lv_at hl 0 rfl) ?_
        obtain ⟨hk_a4, h⟩ := h
        refine z_getq X hB.1 kc_J42 in_J42 (j := 1) (Nat.le_of_ble_eq_true rfl) q1795 (z_same X q1796) rfl (by decide) hk_a4 dJ6_afterNodeInsertion_22 ?_
        obtain ⟨y7, ey7⟩ : ∃ z : Option Nat, z = (Q a4 1) := ⟨_, rfl⟩
        replace h := h y7 ey7
        refine z_stk (st' := [va_rf y7]) (by rw [ey7]) ?_
        refine z_astore_n (x := y7) (lv' := [(3, va_rf y7), (2, .ref a4), (0, .ref o), (1, .int x1)]) hx hb dJ6_afterNodeInsertion_25 rfl hl (by decide) rfl (fun ls hl9 => ?_)
        replace hl := hl9
        clear hl9
        refine lv_aload_n (x := o) hx hb dJ6_afterNodeInsertion_26 rfl (lv_at hl 2 rfl) ?_
        refine z_aload_n (x := y7) hx hb dJ6_afterNodeInsertion_27 rfl (lv_at hl 0 rfl) ?_
        exact h.elim
theorem met_J6_afterNodeInsertion {l : Launch} {G : z_E} {T : z_T} {I : z_I} {Q : z_Q} (o : Nat) (x1 : Int32) (Qk : Prop) (h : wp_J6_afterNodeInsertion T I Q o x1 Qk) : z_GM l G yJ6_afterNodeInsertion (ws_ yJ6_afterNodeInsertion cJ6_afterNodeInsertion 4 none) 9 141 0 0 [.ref o, .int x1] z_none T I Q (z_pv Qk T I Q) z_no := by
  obtain ⟨ho, h⟩ := h
  refine z_body (own := RJ6) (nm := "afterNodeInsertion") (by decide +kernel) rfl rfl (Nat.le_of_ble_eq_true rfl) (fun p e R s m below meth c A ls X hB hl => ?_)
  exact ww_J6_afterNodeInsertion_0 X ho hB hl h
/-! J41_init -/
theorem ww_J41_init_0 {co : Nat} {o : Nat} {Qk : z_T → z_I → z_Q → Prop} (X : z_X l G A p R s m args meth c cJ41_init 5 RJ41 "<init>" none 0 0 8 120) (ho : (T0 o).1 = 23) (hoc : (T0 o).2.2 = co) {T : z_T} {I : z_I} {Q : z_Q} {x1 : Int32} {x2 : Option Nat} {x3 : Option Nat} {x4 : Option Nat} {H : Heap} {locs : List Loc} {ls : Array Slot} (hB : z_HB G (z_co co) A s.heap T0 I0 Q0 T I Q H locs) (hl : lv_has ls 5 [(0, .ref o), (1, .int x1), (2, va_rf x2), (3, va_rf x3), (4, va_rf x4)]) (h : wb_J41_init_0 co o Qk T I Q x1 x2 x3 x4) : W p l e R s m args below meth c H locs 0 0 (z_MQ below G (z_co co) A T0 I0 Q0 (z_qv Qk) z_no args s 0 0) (F0 m 0 ls []) := by
  obtain ⟨hx, hb, -⟩ := id X
  unfold wb_J41_init_0 at h
  refine lv_aload_n (x := o) hx hb dJ41_init_0 rfl (lv_at hl 0 rfl) ?_
  refine z_objInit (rest := []) X q1780 hl.1 dJ41_init_1 (by decide) (Nat.le_of_ble_eq_true rfl) ?_
  refine lv_aload_n (x := o) hx hb dJ41_init_4 rfl (lv_at hl 0 rfl) ?_
  refine lv_iload_n hx hb dJ41_init_5 rfl (lv_at hl 1 rfl) ?_
  obtain ⟨I1, eI1⟩ : ∃ z, z = z_up I o 0 x1 := ⟨_, rfl⟩
  replace h := h I1 eI1
  refine z_putiF (x := x1) eI1 tyJ42 X hB kc_J42 in_J42 tyJ42_ok nmJ42 (j := 0) (Nat.le_of_ble_eq_true rfl) q1785 (fun _ h => h) rfl rfl rfl (by decide) (z_fo hB ho (by decide)) (z_foc hB ho (by decide) hoc) rfl (Or.inl rfl) dJ41_init_6 (fun H locs hB => ?_)
  refine lv_aload_n (x := o) hx hb dJ41_init_9 rfl (lv_at hl 0 rfl) ?_
  refine z_aload_n (x := x2) hx hb dJ41_init_10 rfl (lv_at hl 2 rfl) ?_
  obtain ⟨Q2, eQ2⟩ : ∃ z, z = z_up Q o 1 x2 := ⟨_, rfl⟩
  replace h := h Q2 eQ2
  refine z_putqF (x := x2) eQ2 tyJ42 X hB kc_J42 in_J42 tyJ42_ok nmJ42 (j := 1) (Nat.le_of_ble_eq_true rfl) q1791 (fun _ h => h) rfl rfl rfl (by decide) (z_fo hB ho (by decide)) (z_foc hB ho (by decide) hoc) rfl (Or.inl ⟨_, rfl⟩) dJ41_init_11 (fun H locs hB => ?_)
  refine lv_aload_n (x := o) hx hb dJ41_init_14 rfl (lv_at hl 0 rfl) ?_
  refine z_aload_n (x := x3) hx hb dJ41_init_15 rfl (lv_at hl 3 rfl) ?_
  obtain ⟨Q3, eQ3⟩ : ∃ z, z = z_up Q2 o 2 x3 := ⟨_, rfl⟩
  replace h := h Q3 eQ3
  refine z_putq (x := x3) eQ3 tyJ42 X hB kc_J42 in_J42 tyJ42_ok nmJ42 (j := 2) (Nat.le_of_ble_eq_true rfl) q1798 (fun _ h => h) rfl rfl (by decide) (z_fo hB ho (by decide)) (z_foc hB ho (by decide) hoc) rfl (Or.inl ⟨_, rfl⟩) dJ41_init_16 (fun H locs hB => ?_)
  refine lv_aload_n (x := o) hx hb dJ41_init_19 rfl (lv_at hl 0 rfl) ?_
  refine z_aload (x := x4) hx hb dJ41_init_20 (lv_at hl 4 rfl) ?_
  obtain ⟨Q4, eQ4⟩ : ∃ z, z = z_up Q3 o 3 x4 := ⟨_, rfl⟩
  replace h := h Q4 eQ4
  refine z_putq (x := x4) eQ4 tyJ42 X hB kc_J42 in_J42 tyJ42_ok nmJ42 (j := 3) (Nat.le_of_ble_eq_true rfl) q1802 (fun _ h => h) rfl rfl (by decide) (z_fo hB ho (by decide)) (z_foc hB ho (by decide) hoc) rfl (Or.inl ⟨_, rfl⟩) dJ41_init_22 (fun H locs hB => ?_)
  exact z_vret X hB ⟨rfl, h⟩ (Nat.le_refl 0) (Nat.le_refl 0) dJ41_init_25
theorem pk_J41_init : z_PI yJ41_init cJ41_init 5 4 := ⟨q1778, q141, q1779, rfl, by decide +kernel⟩
theorem met_J41_init {l : Launch} {G : z_E} {T : z_T} {I : z_I} {Q : z_Q} (co : Nat) (o : Nat) (x1 : Int32) (x2 : Option Nat) (x3 : Option Nat) (x4 : Option Nat) (Qk : z_T → z_I → z_Q → Prop) (h : wp_J41_init co T I Q o x1 x2 x3 x4 Qk) : z_GM l G yJ41_init (ws_ yJ41_init cJ41_init 5 none) 8 120 0 0 [.ref o, .int x1, va_rf x2, va_rf x3, va_rf x4] (z_co co) T I Q (z_qv Qk) z_no := by
  obtain ⟨ho, hoc, h⟩ := h
  refine z_body (own := RJ41) (nm := "<init>") (by decide +kernel) rfl rfl (by cases x2 <;> cases x3 <;> cases x4 <;> exact Nat.le_of_ble_eq_true rfl) (fun p e R s m below meth c A ls X hB hl => ?_)
  replace hl : lv_has ls 5 [(0, .ref o), (1, .int x1), (2, va_rf x2), (3, va_rf x3), (4, va_rf x4)] := by cases x2 <;> cases x3 <;> cases x4 <;> exact hl
  exact ww_J41_init_0 X ho hoc hB hl h
/-! J42_init -/
theorem ww_J42_init_0 {co : Nat} {o : Nat} {Qk : z_T → z_I → z_Q → Prop} (X : z_X l G A p R s m args meth c cJ42_init 5 RJ42 "<init>" none 0 0 9 144) (ho : (T0 o).1 = 23) {T : z_T} {I : z_I} {Q : z_Q} {x1 : Int32} {x2 : Option Nat} {x3 : Option Nat} {x4 : Option Nat} {H : Heap} {locs : List Loc} {ls : Array Slot} (hB : z_HB G (z_co co) A s.heap T0 I0 Q0 T I Q H locs) (hl : lv_has ls 5 [(0, .ref o), (1, .int x1), (2, va_rf x2), (3, va_rf x3), (4, va_rf x4)]) (h : wb_J42_init_0 co o Qk T I Q x1 x2 x3 x4) : W p l e R s m args below meth c H locs 0 0 (z_MQ below G (z_co co) A T0 I0 Q0 (z_qv Qk) z_no args s 0 0) (F0 m 0 ls []) := by
  obtain ⟨hx, hb, -⟩ := id X
  unfold wb_J42_init_0 at h
  refine lv_aload_n (x := o) hx hb dJ42_init_0 rfl (lv_at hl 0 rfl) ?_
  refine lv_iload_n hx hb dJ42_init_1 rfl (lv_at hl 1 rfl) ?_
  refine z_aload_n (x := x2) hx hb dJ42_init_2 rfl (lv_at hl 2 rfl) ?_
  refine z_aload_n (x := x3) hx hb dJ42_init_3 rfl (lv_at hl 3 rfl) ?_
  refine z_aload (x := x4) hx hb dJ42_init_4 (lv_at hl 4 rfl) ?_
  refine z_callv (z_runI (rest := []) [.int x1, va_rf x2, va_rf x3, va_rf x4] pk_J41_init (met_J41_init co o x1 x2 x3 x4 _ h) X hB hB.2.2.2.2.2.2 q1777 rfl hl.1 (Nat.le_of_ble_eq_true rfl) dJ42_init_6 (Nat.le_refl 0) (Nat.le_refl 0) (by decide) (by decide)) hB (fun _ h => h) (fun T2 I3 Q4 H locs h9 hF hB => ?_)
  replace h := h9
  clear h9
  replace h := h hF
  exact z_vret X hB ⟨rfl, h⟩ (Nat.le_refl 0) (Nat.le_refl 0) dJ42_init_9
theorem pk_J42_init : z_PI yJ42_init cJ42_init 5 4 := ⟨q1775, q142, q1776, rfl, by decide +kernel⟩
theorem met_J42_init {l : Launch} {G : z_E} {T : z_T} {I : z_I} {Q : z_Q} (co : Nat) (o : Nat) (x1 : Int32) (x2 : Option Nat) (x3 : Option Nat) (x4 : Option Nat) (Qk : z_T → z_I → z_Q → Prop) (h : wp_J42_init co T I Q o x1 x2 x3 x4 Qk) : z_GM l G yJ42_init (ws_ yJ42_init cJ42_init 5 none) 9 144 0 0 [.ref o, .int x1, va_rf x2, va_rf x3, va_rf x4] (z_co co) T I Q (z_qv Qk) z_no := by
  obtain ⟨ho, h⟩ := h
  refine z_body (own := RJ42) (nm := "<init>") (by decide +kernel) rfl rfl (by cases x2 <;> cases x3 <;> cases x4 <;> exact Nat.le_of_ble_eq_true rfl) (fun p e R s m below meth c A ls X hB hl => ?_)
  replace hl : lv_has ls 5 [(0, .ref o), (1, .int x1), (2, va_rf x2), (3, va_rf x3), (4, va_rf x4)] := by cases x2 <;> cases x3 <;> cases x4 <;> exact hl
  exact ww_J42_init_0 X ho hB hl h
/-! J6_linkNodeAtEnd -/
theorem ww_J6_linkNodeAtEnd_75 {co : Nat} {o : Nat} {Qk : z_T → z_I → z_Q → Prop} (X : z_X l G A p R s m args meth c cJ6_linkNodeAtEnd 3 RJ6 "linkNodeAtEnd" none 0 0 8 120) (ho : (T0 o).1 = 22) (hoc : (T0 o).2.2 = co) {T : z_T} {I : z_I} {Q : z_Q} {H : Heap} {locs : List Loc} {ls : Array Slot} (hB : z_HB G (z_co co) A s.heap T0 I0 Q0 T I Q H locs) (hl : lv_has ls 3 []) (h : wb_J6_linkNodeAtEnd_75 co o Qk T I Q) : W p l e R s m args below meth c H locs 0 0 (z_MQ below G (z_co co) A T0 I0 Q0 (z_qv Qk) z_no args s 0 0) (F0 m 75 ls []) := by
  obtain ⟨hx, hb, -⟩ := id X
  unfold wb_J6_linkNodeAtEnd_75 at h
  exact z_vret X hB ⟨rfl, h⟩ (Nat.le_refl 0) (Nat.le_refl 0) dJ6_linkNodeAtEnd_75
theorem ww_J6_linkNodeAtEnd_40 {co : Nat} {o : Nat} {Qk : z_T → z_I → z_Q → Prop} (X : z_X l G A p R s m args meth c cJ6_linkNodeAtEnd 3 RJ6 "linkNodeAtEnd" none 0 0 8 120) (ho : (T0 o).1 = 22) (hoc : (T0 o).2.2 = co) {T : z_T} {I : z_I} {Q : z_Q} {H : Heap} {locs : List Loc} {ls : Array Slot} (hB : z_HB G (z_co co) A s.heap T0 I0 Q0 T I Q H locs) (hl : lv_has ls 3 []) (h : wb_J6_linkNodeAtEnd_40 co o Qk T I Q) : W p l e R s m args below meth c H locs 0 0 (z_MQ below G (z_co co) A T0 I0 Q0 (z_qv Qk) z_no args s 0 0) (F0 m 40 ls []) := by
  obtain ⟨hx, hb, -⟩ := id X
  unfold wb_J6_linkNodeAtEnd_40 at h
  refine lv_goto (tgt := 75) hx hb dJ6_linkNodeAtEnd_40 (by decide) ?_
  exact ww_J6_linkNodeAtEnd_75 X ho hoc  hB (lv_sub hl [] rfl) h
theorem ww_J6_linkNodeAtEnd_0 {co : Nat} {o : Nat} {Qk : z_T → z_I → z_Q → Prop} (X : z_X l G A p R s m args meth c cJ6_linkNodeAtEnd 3 RJ6 "linkNodeAtEnd" none 0 0 8 120) (ho : (T0 o).1 = 22) (hoc : (T0 o).2.2 = co) {T : z_T} {I : z_I} {Q : z_Q} {x1 : Option Nat} {H : Heap} {locs : List Loc} {ls : Array Slot} (hB : z_HB G (z_co co) A s.heap T0 I0 Q0 T I Q H locs) (hl : lv_has ls 3 [(0, .ref o), (1, va_rf x1)]) (h : wb_J6_linkNodeAtEnd_0 co o Qk T I Q x1) : W p l e R s m args below meth c H locs 0 0 (z_MQ below G (z_co co) A T0 I0 Q0 (z_qv Qk) z_no args s 0 0) (F0 m 0 ls []) := by
  obtain ⟨hx, hb, -⟩ := id X
  unfold wb_J6_linkNodeAtEnd_0 at h
  refine lv_aload_n (x := o) hx hb dJ6_linkNodeAtEnd_0 rfl (lv_at hl 0 rfl) ?_
  refine z_geti X hB.1 kc_J6 in_J6 (j := 11) (Nat.le_of_ble_eq_true rfl) q1043 (fun _ h => h) rfl (by decide) (z_fo hB ho (by decide)) dJ6_linkNodeAtEnd_1 ?_
  refine lv_iconst (v := 1) hx hb dJ6_linkNodeAtEnd_4 (by decide) ?_
  refine lv_icmp_ne (tgt := 43) hx hb dJ6_linkNodeAtEnd_5 (by decide) (fun c1 => ?_) (fun c1 => ?_)
  · replace h := h.1 c1
    refine lv_aload_n (x := o) hx hb dJ6_linkNodeAtEnd_43 rfl (lv_at hl 0 rfl) ?_
    refine z_getq X hB.1 kc_J6 in_J6 (j := 9) (Nat.le_of_ble_eq_true rfl) q1041 (fun _ h => h) rfl (by decide) (z_fo hB ho (by decide)) dJ6_linkNodeAtEnd_44 ?_
    obtain ⟨y2, ey2⟩ : ∃ z : Option Nat, z = (Q o 9) := ⟨_, rfl⟩
    replace h := h y2 ey2
    refine z_stk (st' := [va_rf y2]) (by rw [ey2]) ?_
    refine z_astore_n (i := 2) (x := y2) (lv' := [(2, va_rf y2), (0, .ref o), (1, va_rf x1)]) hx hb dJ6_linkNodeAtEnd_47 rfl hl (by decide) (by simp [z_cat, z_rfs, z_catq]) (fun ls hl9 => ?_)
    replace hl := hl9
    clear hl9
    refine lv_aload_n (x := o) hx hb dJ6_linkNodeAtEnd_48 rfl (lv_at hl 1 rfl) ?_
    refine z_aload_n (x := x1) hx hb dJ6_linkNodeAtEnd_49 rfl (lv_at hl 2 rfl) ?_
    obtain ⟨Q3, eQ3⟩ : ∃ z, z = z_up Q o 9 x1 := ⟨_, rfl⟩
    replace h := h Q3 eQ3
    refine z_putq (x := x1) eQ3 tyJ6 X hB kc_J6 in_J6 tyJ6_ok nmJ6 (j := 9) (Nat.le_of_ble_eq_true rfl) q1041 (fun _ h => h) rfl rfl (by decide) (z_fo hB ho (by decide)) (z_foc hB ho (by decide) hoc) rfl (Or.inl ⟨_, rfl⟩) dJ6_linkNodeAtEnd_50 (fun H locs hB => ?_)
    refine z_aload_n (x := y2) hx hb dJ6_linkNodeAtEnd_53 rfl (lv_at hl 0 rfl) ?_
    refine z_ifnonnull (tgt := 65) hx hb dJ6_linkNodeAtEnd_54 (by decide) (fun a5 c4 => ?_) (fun c4 => ?_)
    · replace h := h.2 a5 c4
      subst c4
      refine z_aload_n (x := x1) hx hb dJ6_linkNodeAtEnd_65 rfl (lv_at hl 2 rfl) ?_
      refine lv_aload_n (x := a5) hx hb dJ6_linkNodeAtEnd_66 rfl (lv_at hl 0 rfl) ?_
      obtain ⟨a7, rfl, h⟩ := h
      obtain ⟨hk_a7, h⟩ := h
      obtain ⟨hc_a7, h⟩ := h
      obtain ⟨Q8, eQ8⟩ : ∃ z, z = z_up Q3 a7 4 (some a5) := ⟨_, rfl⟩
      replace h := h Q8 eQ8
      refine z_putq (x := (some a5)) eQ8 tyJ42 X hB kc_J42 in_J42 tyJ42_ok nmJ42 (j := 4) (Nat.le_of_ble_eq_true rfl) q1781 (fun _ h => h) rfl rfl (by decide) hk_a7 hc_a7 rfl (Or.inl ⟨_, rfl⟩) dJ6_linkNodeAtEnd_67 (fun H locs hB => ?_)
      refine lv_aload_n (x := a5) hx hb dJ6_linkNodeAtEnd_70 rfl (lv_at hl 0 rfl) ?_
      refine lv_aload_n (x := a7) hx hb dJ6_linkNodeAtEnd_71 rfl (lv_at hl 2 rfl) ?_
      obtain ⟨hk_a5, h⟩ := h
      obtain ⟨hc_a5, h⟩ := h
      obtain ⟨Q9, eQ9⟩ : ∃ z, z = z_up Q8 a5 5 (some a7) := ⟨_, rfl⟩
      replace h := h Q9 eQ9
      refine z_putq (x := (some a7)) eQ9 tyJ42 X hB kc_J42 in_J42 tyJ42_ok nmJ42 (j := 5) (Nat.le_of_ble_eq_true rfl) q1783 (fun _ h => h) rfl rfl (by decide) hk_a5 hc_a5 rfl (Or.inl ⟨_, rfl⟩) dJ6_linkNodeAtEnd_72 (fun H locs hB => ?_)
      exact ww_J6_linkNodeAtEnd_75 X ho hoc  hB (lv_sub hl [] rfl) h
    · replace h := h.1 c4
      subst c4
      refine lv_aload_n (x := o) hx hb dJ6_linkNodeAtEnd_57 rfl (lv_at hl 1 rfl) ?_
      refine z_aload_n (x := x1) hx hb dJ6_linkNodeAtEnd_58 rfl (lv_at hl 2 rfl) ?_
      obtain ⟨Q6, eQ6⟩ : ∃ z, z = z_up Q3 o 8 x1 := ⟨_, rfl⟩
      replace h := h Q6 eQ6
      refine z_putq (x := x1) eQ6 tyJ6 X hB kc_J6 in_J6 tyJ6_ok nmJ6 (j := 8) (Nat.le_of_ble_eq_true rfl) q1038 (fun _ h => h) rfl rfl (by decide) (z_fo hB ho (by decide)) (z_foc hB ho (by decide) hoc) rfl (Or.inl ⟨_, rfl⟩) dJ6_linkNodeAtEnd_59 (fun H locs hB => ?_)
      refine lv_goto (tgt := 75) hx hb dJ6_linkNodeAtEnd_62 (by decide) ?_
      exact ww_J6_linkNodeAtEnd_75 X ho hoc  hB (lv_sub hl [] rfl) h
  · replace h := h.2 c1
    refine lv_aload_n (x := o) hx hb dJ6_linkNodeAtEnd_8 rfl (lv_at hl 0 rfl) ?_
    refine z_getq X hB.1 kc_J6 in_J6 (j := 8) (Nat.le_of_ble_eq_true rfl) q1038 (fun _ h => h) rfl (by decide) (z_fo hB ho (by decide)) dJ6_linkNodeAtEnd_9 ?_
    obtain ⟨y10, ey10⟩ : ∃ z : Option Nat, z = (Q o 8) := ⟨_, rfl⟩
    replace h := h y10 ey10
    refine z_stk (st' := [va_rf y10]) (by rw [ey10]) ?_
    refine z_astore_n (i := 2) (x := y10) (lv' := [(2, va_rf y10), (0, .ref o), (1, va_rf x1)]) hx hb dJ6_linkNodeAtEnd_12 rfl hl (by decide) (by simp [z_cat, z_rfs, z_catq]) (fun ls hl9 => ?_)
    replace hl := hl9
    clear hl9
    refine lv_aload_n (x := o) hx hb dJ6_linkNodeAtEnd_13 rfl (lv_at hl 1 rfl) ?_
    refine z_aload_n (x := x1) hx hb dJ6_linkNodeAtEnd_14 rfl (lv_at hl 2 rfl) ?_
    obtain ⟨Q11, eQ11⟩ : ∃ z, z = z_up Q o 8 x1 := ⟨_, rfl⟩
    replace h := h Q11 eQ11
    refine z_putq (x := x1) eQ11 tyJ6 X hB kc_J6 in_J6 tyJ6_ok nmJ6 (j := 8) (Nat.le_of_ble_eq_true rfl) q1038 (fun _ h => h) rfl rfl (by decide) (z_fo hB ho (by decide)) (z_foc hB ho (by decide) hoc) rfl (Or.inl ⟨_, rfl⟩) dJ6_linkNodeAtEnd_15 (fun H locs hB => ?_)
    refine z_aload_n (x := y10) hx hb dJ6_linkNodeAtEnd_18 rfl (lv_at hl 0 rfl) ?_
    refine z_ifnonnull (tgt := 30) hx hb dJ6_linkNodeAtEnd_19 (by decide) (fun a13 c12 => ?_) (fun c12 => ?_)
    · replace h := h.2 a13 c12
      subst c12
      refine z_aload_n (x := x1) hx hb dJ6_linkNodeAtEnd_30 rfl (lv_at hl 2 rfl) ?_
      refine lv_aload_n (x := a13) hx hb dJ6_linkNodeAtEnd_31 rfl (lv_at hl 0 rfl) ?_
      obtain ⟨a15, rfl, h⟩ := h
      obtain ⟨hk_a15, h⟩ := h
      obtain ⟨hc_a15, h⟩ := h
      obtain ⟨Q16, eQ16⟩ : ∃ z, z = z_up Q11 a15 5 (some a13) := ⟨_, rfl⟩
      replace h := h Q16 eQ16
      refine z_putq (x := (some a13)) eQ16 tyJ42 X hB kc_J42 in_J42 tyJ42_ok nmJ42 (j := 5) (Nat.le_of_ble_eq_true rfl) q1783 (fun _ h => h) rfl rfl (by decide) hk_a15 hc_a15 rfl (Or.inl ⟨_, rfl⟩) dJ6_linkNodeAtEnd_32 (fun H locs hB => ?_)
      refine lv_aload_n (x := a13) hx hb dJ6_linkNodeAtEnd_35 rfl (lv_at hl 0 rfl) ?_
      refine lv_aload_n (x := a15) hx hb dJ6_linkNodeAtEnd_36 rfl (lv_at hl 2 rfl) ?_
      obtain ⟨hk_a13, h⟩ := h
      obtain ⟨hc_a13, h⟩ := h
      obtain ⟨Q17, eQ17⟩ : ∃ z, z = z_up Q16 a13 4 (some a15) := ⟨_, rfl⟩
      replace h := h Q17 eQ17
      refine z_putq (x := (some a15)) eQ17 tyJ42 X hB kc_J42 in_J42 tyJ42_ok nmJ42 (j := 4) (Nat.le_of_ble_eq_true rfl) q1781 (fun _ h => h) rfl rfl (by decide) hk_a13 hc_a13 rfl (Or.inl ⟨_, rfl⟩) dJ6_linkNodeAtEnd_37 (fun H locs hB => ?_)
      exact ww_J6_linkNodeAtEnd_40 X ho hoc  hB (lv_sub hl [] rfl) h
    · replace h := h.1 c12
      subst c12
      refine lv_aload_n (x := o) hx hb dJ6_linkNodeAtEnd_22 rfl (lv_at hl 1 rfl) ?_
      refine z_aload_n (x := x1) hx hb dJ6_linkNodeAtEnd_23 rfl (lv_at hl 2 rfl) ?_
      obtain ⟨Q14, eQ14⟩ : ∃ z, z = z_up Q11 o 9 x1 := ⟨_, rfl⟩
      replace h := h Q14 eQ14
      refine z_putq (x := x1) eQ14 tyJ6 X hB kc_J6 in_J6 tyJ6_ok nmJ6 (j := 9) (Nat.le_of_ble_eq_true rfl) q1041 (fun _ h => h) rfl rfl (by decide) (z_fo hB ho (by decide)) (z_foc hB ho (by decide) hoc) rfl (Or.inl ⟨_, rfl⟩) dJ6_linkNodeAtEnd_24 (fun H locs hB => ?_)
      refine lv_goto (tgt := 40) hx hb dJ6_linkNodeAtEnd_27 (by decide) ?_
      exact ww_J6_linkNodeAtEnd_40 X ho hoc  hB (lv_sub hl [] rfl) h
theorem pk_J6_linkNodeAtEnd : z_PV RJ6 yJ6_linkNodeAtEnd cJ6_linkNodeAtEnd 3 none 1 := ⟨q2054, qs17, q102, q2055, by decide +kernel⟩
theorem met_J6_linkNodeAtEnd {l : Launch} {G : z_E} {T : z_T} {I : z_I} {Q : z_Q} (co : Nat) (o : Nat) (x1 : Option Nat) (Qk : z_T → z_I → z_Q → Prop) (h : wp_J6_linkNodeAtEnd co T I Q o x1 Qk) : z_GM l G yJ6_linkNodeAtEnd (ws_ yJ6_linkNodeAtEnd cJ6_linkNodeAtEnd 3 none) 8 120 0 0 [.ref o, va_rf x1] (z_co co) T I Q (z_qv Qk) z_no := by
  obtain ⟨ho, hoc, h⟩ := h
  refine z_body (own := RJ6) (nm := "linkNodeAtEnd") (by decide +kernel) rfl rfl (by cases x1 <;> exact Nat.le_of_ble_eq_true rfl) (fun p e R s m below meth c A ls X hB hl => ?_)
  replace hl : lv_has ls 3 [(0, .ref o), (1, va_rf x1)] := by cases x1 <;> exact hl
  exact ww_J6_linkNodeAtEnd_0 X ho hoc hB hl h
/-! J6_newNode -/
theorem ww_J6_newNode_0 {co : Nat} {o : Nat} {Qk : Option Nat → z_T → z_I → z_Q → Prop} (X : z_X l G A p R s m args meth c cJ6_newNode 6 RJ6 "newNode" (some (.object "java/util/HashMap$Node")) mc ms 10 168) (ho : (T0 o).1 = 22) {cells slots : Nat} {T : z_T} {I : z_I} {Q : z_Q} {kc : Nat} {ks : Nat} {x1 : Int32} {x2 : Option Nat} {x3 : Option Nat} {x4 : Option Nat} {H : Heap} {locs : List Loc} {ls : Array Slot} (hB : z_HB G (z_co co) A s.heap T0 I0 Q0 T I Q H locs) (hK1 : cells + kc ≤ mc) (hK2 : slots + ks ≤ ms) (hl : lv_has ls 6 [(0, .ref o), (1, .int x1), (2, va_rf x2), (3, va_rf x3), (4, va_rf x4)]) (h : wb_J6_newNode_0 co o Qk T I Q kc ks x1 x2 x3 x4) : W p l e R s m args below meth c H locs cells slots (z_MQ below G (z_co co) A T0 I0 Q0 (z_qr Qk) z_no args s mc ms) (F0 m 0 ls []) := by
  obtain ⟨hx, hb, -⟩ := id X
  unfold wb_J6_newNode_0 at h
  obtain ⟨g1, g2, h⟩ := h
  refine z_new (col := co) tyJ42 X hB kc_J42 in_J42 tyJ42_ok q1772 q1773 q142 (by decide) (z_dvJ42) rfl (z_k1 hK1 g1) (z_k1 hK2 g2) dJ6_newNode_0 (fun a1 H hq hB => ?_)
  obtain ⟨T2, eT2⟩ : ∃ z, z = z_t T a1 (23, 0, co) := ⟨_, rfl⟩
  obtain ⟨I3, eI3⟩ : ∃ z, z = z_row I a1 (fun _ => 0) := ⟨_, rfl⟩
  obtain ⟨Q4, eQ4⟩ : ∃ z, z = z_row Q a1 (fun _ => none) := ⟨_, rfl⟩
  rw [← eT2, ← eI3, ← eQ4] at hB
  replace h := h a1 T2 I3 Q4 hq eT2 eI3 eQ4
  have hk_a1 := z_tq eT2
  have hc_a1 : (T2 a1).2.2 = co := by rw [z_tqc eT2]
  replace hK1 := z_k2 hK1 g1
  replace hK2 := z_k2 hK2 g2
  refine lv_dup hx hb dJ6_newNode_3 rfl ?_
  refine lv_iload_n hx hb dJ6_newNode_4 rfl (lv_at hl 1 rfl) ?_
  refine z_aload_n (x := x2) hx hb dJ6_newNode_5 rfl (lv_at hl 2 rfl) ?_
  refine z_aload_n (x := x3) hx hb dJ6_newNode_6 rfl (lv_at hl 3 rfl) ?_
  refine z_aload (x := x4) hx hb dJ6_newNode_7 (lv_at hl 4 rfl) ?_
  refine z_callv (z_runI (rest := [.ref a1]) [.int x1, va_rf x2, va_rf x3, va_rf x4] pk_J42_init (met_J42_init co a1 x1 x2 x3 x4 _ h) X hB hB.2.2.2.2.2.2 q1774 rfl hl.1 (Nat.le_of_ble_eq_true rfl) dJ6_newNode_9 (z_k4 hK1) (z_k4 hK2) (by decide) (by decide)) hB (fun _ h => h) (fun T6 I7 Q8 H locs h9 hF hB => ?_)
  replace h := h9
  clear h9
  replace h := h hF
  have hc_a1 : (T6 a1).2.2 = co := by rw [z_te hF hk_a1 (by decide)]; exact hc_a1
  have hk_a1 := z_tk hF hk_a1 (by decide)
  refine lv_astore (x := a1) (lv' := [(5, .ref a1), (0, .ref o), (1, .int x1), (2, va_rf x2), (3, va_rf x3), (4, va_rf x4)]) hx hb dJ6_newNode_12 hl (by decide) (by simp [z_cat, z_rfs, z_catq]) (fun ls hl9 => ?_)
  replace hl := hl9
  clear hl9
  refine lv_aload_n (x := o) hx hb dJ6_newNode_14 rfl (lv_at hl 1 rfl) ?_
  refine lv_aload (x := a1) hx hb dJ6_newNode_15 (lv_at hl 0 rfl) ?_
  refine z_callv (z_runV (rest := []) [.ref a1] pk_J6_linkNodeAtEnd (met_J6_linkNodeAtEnd co o (some a1) _ h) X hB hB.2.2.2.2.2.2 q2052 kc_J6 (by decide) (z_fo hB ho (by decide)) rfl hl.1 (Nat.le_of_ble_eq_true rfl) dJ6_newNode_17 (z_k4 hK1) (z_k4 hK2) (by decide) (by decide)) hB (fun _ h => h) (fun T10 I11 Q12 H locs h9 hF hB => ?_)
  replace h := h9
  clear h9
  replace h := h hF
  have hc_a1 : (T10 a1).2.2 = co := by rw [z_te hF hk_a1 (by decide)]; exact hc_a1
  have hk_a1 := z_tk hF hk_a1 (by decide)
  refine lv_aload (x := a1) hx hb dJ6_newNode_20 (lv_at hl 0 rfl) ?_
  exact z_aret (v := (some a1)) X (by first | exact Or.inl ⟨_, rfl⟩ | exact Or.inr ⟨_, rfl⟩) hB ⟨_, rfl, h⟩ (z_k3 hK1) (z_k3 hK2) dJ6_newNode_22
theorem met_J6_newNode {l : Launch} {G : z_E} {T : z_T} {I : z_I} {Q : z_Q} (co : Nat) (o : Nat) (x1 : Int32) (x2 : Option Nat) (x3 : Option Nat) (x4 : Option Nat) (kc : Nat) (ks : Nat) (Qk : Option Nat → z_T → z_I → z_Q → Prop) (h : wp_J6_newNode co T I Q o x1 x2 x3 x4 kc ks Qk) : z_GM l G yJ6_newNode (ws_ yJ6_newNode cJ6_newNode 6 (some (.object "java/util/HashMap$Node"))) 10 168 kc ks [.ref o, .int x1, va_rf x2, va_rf x3, va_rf x4] (z_co co) T I Q (z_qr Qk) z_no := by
  obtain ⟨ho, h⟩ := h
  refine z_body (own := RJ6) (nm := "newNode") (by decide +kernel) rfl rfl (by cases x2 <;> cases x3 <;> cases x4 <;> exact Nat.le_of_ble_eq_true rfl) (fun p e R s m below meth c A ls X hB hl => ?_)
  replace hl : lv_has ls 6 [(0, .ref o), (1, .int x1), (2, va_rf x2), (3, va_rf x3), (4, va_rf x4)] := by cases x2 <;> cases x3 <;> cases x4 <;> exact hl
  exact ww_J6_newNode_0 X ho hB z_k0 z_k0 hl h
/-! J5_putVal -/
theorem pu_J6_J5_resize : z_PU "java/util/LinkedHashMap" "java/util/HashMap" ⟨"java/util/HashMap", "resize", "()[Ljava/util/HashMap$Node;"⟩ yJ5_resize cJ5_resize 14 (some (.array (.object "java/util/HashMap$Node"))) 0 := ⟨q1749, q1750, q1748, q101, q1751, by decide +kernel⟩
theorem pu_J6_J6_newNode_HashMap : z_PU "java/util/LinkedHashMap" "java/util/HashMap" ⟨"java/util/HashMap", "newNode", "(ILjava/lang/Object;Ljava/lang/Object;Ljava/util/HashMap$Node;)Ljava/util/HashMap$Node;"⟩ yJ6_newNode cJ6_newNode 6 (some (.object "java/util/HashMap$Node")) 4 := ⟨q2048, q2049, q2050, q102, q2051, by decide +kernel⟩
theorem pu_J6_J6_afterNodeAccess_HashMap : z_PU "java/util/LinkedHashMap" "java/util/HashMap" ⟨"java/util/HashMap", "afterNodeAccess", "(Ljava/util/HashMap$Node;)V"⟩ yJ6_afterNodeAccess cJ6_afterNodeAccess 7 none 1 := ⟨q2169, q2170, q2171, q102, q2172, by decide +kernel⟩
theorem pu_J6_J6_afterNodeInsertion_HashMap : z_PU "java/util/LinkedHashMap" "java/util/HashMap" ⟨"java/util/HashMap", "afterNodeInsertion", "(Z)V"⟩ yJ6_afterNodeInsertion cJ6_afterNodeInsertion 4 none 1 := ⟨q2176, q2177, q2178, q102, q2179, by decide +kernel⟩
theorem ww_J5_putVal_250 {co : Nat} {o : Nat} {Qk : Option Nat → z_T → z_I → z_Q → Prop} (X : z_X l G A p R s m args meth c cJ5_putVal 13 RJ5 "putVal" (some (.object "java/lang/Object")) mc ms 11 193) (ho : (T0 o).1 = 22) (hoc : (T0 o).2.2 = co) {cells slots : Nat} {T : z_T} {I : z_I} {Q : z_Q} {kc : Nat} {ks : Nat} {x10 : Option Nat} {x12 : Option Nat} {H : Heap} {locs : List Loc} {ls : Array Slot} (hB : z_HB G (z_co co) A s.heap T0 I0 Q0 T I Q H locs) (hK1 : cells + kc ≤ mc) (hK2 : slots + ks ≤ ms) (hl : lv_has ls 13 [(0, .ref o), (10, va_rf x10), (12, va_rf x12)]) (h : wb_J5_putVal_250 co o Qk T I Q kc ks x10 x12) : W p l e R s m args below meth c H locs cells slots (z_MQ below G (z_co co) A T0 I0 Q0 (z_qr Qk) z_no args s mc ms) (F0 m 250 ls []) := by
  obtain ⟨hx, hb, -⟩ := id X
  unfold wb_J5_putVal_250 at h
  refine lv_aload_n (x := o) hx hb dJ5_putVal_250 rfl (lv_at hl 0 rfl) ?_
  refine z_aload (x := x10) hx hb dJ5_putVal_251 (lv_at hl 1 rfl) ?_
  refine z_callv (z_runA (rest := []) [va_rf x10] pu_J6_J6_afterNodeAccess_HashMap q2173 (met_J6_afterNodeAccess co o x10 _ h) X hB hB.2.2.2.2.2.2 q2167 kc_J6 (by decide) (z_fo hB ho (by decide)) rfl hl.1 (Nat.le_of_ble_eq_true rfl) dJ5_putVal_253 (z_k4 hK1) (z_k4 hK2) (by decide) (by decide)) hB (fun _ h => h) (fun T63 I64 Q65 H locs h9 hF hB => ?_)
  replace h := h9
  clear h9
  replace h := h hF
  refine z_aload (x := x12) hx hb dJ5_putVal_256 (lv_at hl 2 rfl) ?_
  exact z_aret (v := x12) X (by first | exact Or.inl ⟨_, rfl⟩ | exact Or.inr ⟨_, rfl⟩) hB ⟨_, rfl, h⟩ (z_k3 hK1) (z_k3 hK2) dJ5_putVal_258
theorem ww_J5_putVal_244 {co : Nat} {o : Nat} {Qk : Option Nat → z_T → z_I → z_Q → Prop} (X : z_X l G A p R s m args meth c cJ5_putVal 13 RJ5 "putVal" (some (.object "java/lang/Object")) mc ms 11 193) (ho : (T0 o).1 = 22) (hoc : (T0 o).2.2 = co) {cells slots : Nat} {T : z_T} {I : z_I} {Q : z_Q} {kc : Nat} {ks : Nat} {x3 : Option Nat} {x10 : Option Nat} {x12 : Option Nat} {H : Heap} {locs : List Loc} {ls : Array Slot} (hB : z_HB G (z_co co) A s.heap T0 I0 Q0 T I Q H locs) (hK1 : cells + kc ≤ mc) (hK2 : slots + ks ≤ ms) (hl : lv_has ls 13 [(0, .ref o), (3, va_rf x3), (10, va_rf x10), (12, va_rf x12)]) (h : wb_J5_putVal_244 co o Qk T I Q kc ks x3 x10 x12) : W p l e R s m args below meth c H locs cells slots (z_MQ below G (z_co co) A T0 I0 Q0 (z_qr Qk) z_no args s mc ms) (F0 m 244 ls []) := by
  obtain ⟨hx, hb, -⟩ := id X
  unfold wb_J5_putVal_244 at h
  refine z_aload (x := x10) hx hb dJ5_putVal_244 (lv_at hl 2 rfl) ?_
  refine z_aload_n (x := x3) hx hb dJ5_putVal_246 rfl (lv_at hl 1 rfl) ?_
  obtain ⟨a60, rfl, h⟩ := h
  obtain ⟨hk_a60, h⟩ := h
  obtain ⟨hc_a60, h⟩ := h
  obtain ⟨Q61, eQ61⟩ : ∃ z, z = z_up Q a60 2 x3 := ⟨_, rfl⟩
  replace h := h Q61 eQ61
  refine z_putq (x := x3) eQ61 tyJ42 X hB kc_J42 in_J42 tyJ42_ok nmJ42 (j := 2) (Nat.le_of_ble_eq_true rfl) q1801 (fun _ h => h) rfl rfl (by decide) hk_a60 hc_a60 rfl (Or.inl ⟨_, rfl⟩) dJ5_putVal_247 (fun H locs hB => ?_)
  exact ww_J5_putVal_250 X ho hoc  hB hK1 hK2 (lv_sub hl [0, 2, 3] rfl) h
theorem ww_J5_putVal_292 {co : Nat} {o : Nat} {Qk : Option Nat → z_T → z_I → z_Q → Prop} (X : z_X l G A p R s m args meth c cJ5_putVal 13 RJ5 "putVal" (some (.object "java/lang/Object")) mc ms 11 193) (ho : (T0 o).1 = 22) (hoc : (T0 o).2.2 = co) {cells slots : Nat} {T : z_T} {I : z_I} {Q : z_Q} {kc : Nat} {ks : Nat} {x5 : Int32} {H : Heap} {locs : List Loc} {ls : Array Slot} (hB : z_HB G (z_co co) A s.heap T0 I0 Q0 T I Q H locs) (hK1 : cells + kc ≤ mc) (hK2 : slots + ks ≤ ms) (hl : lv_has ls 13 [(0, .ref o), (5, .int x5)]) (h : wb_J5_putVal_292 co o Qk T I Q kc ks x5) : W p l e R s m args below meth c H locs cells slots (z_MQ below G (z_co co) A T0 I0 Q0 (z_qr Qk) z_no args s mc ms) (F0 m 292 ls []) := by
  obtain ⟨hx, hb, -⟩ := id X
  unfold wb_J5_putVal_292 at h
  refine lv_aload_n (x := o) hx hb dJ5_putVal_292 rfl (lv_at hl 0 rfl) ?_
  refine lv_iload hx hb dJ5_putVal_293 (lv_at hl 1 rfl) ?_
  refine z_callvp (z_runA (rest := []) [.int x5] pu_J6_J6_afterNodeInsertion_HashMap q2184 (met_J6_afterNodeInsertion o x5 _ h) X hB (fun h => h) q2174 kc_J6 (by decide) (z_fo hB ho (by decide)) rfl hl.1 (Nat.le_of_ble_eq_true rfl) dJ5_putVal_295 (z_k4 hK1) (z_k4 hK2) (by decide) (by decide)) hB (fun H locs h9 hB => ?_)
  replace h := h9
  clear h9
  refine lv_null hx hb dJ5_putVal_298 ?_
  refine z_stk (st' := [va_rf none]) rfl ?_
  exact z_aret (v := none) X (by first | exact Or.inl ⟨_, rfl⟩ | exact Or.inr ⟨_, rfl⟩) hB ⟨_, rfl, h⟩ (z_k3 hK1) (z_k3 hK2) dJ5_putVal_299
theorem ww_J5_putVal_259 {co : Nat} {o : Nat} {Qk : Option Nat → z_T → z_I → z_Q → Prop} (X : z_X l G A p R s m args meth c cJ5_putVal 13 RJ5 "putVal" (some (.object "java/lang/Object")) mc ms 11 193) (ho : (T0 o).1 = 22) (hoc : (T0 o).2.2 = co) {cells slots : Nat} {T : z_T} {I : z_I} {Q : z_Q} {kc : Nat} {ks : Nat} {x5 : Int32} {H : Heap} {locs : List Loc} {ls : Array Slot} (hB : z_HB G (z_co co) A s.heap T0 I0 Q0 T I Q H locs) (hK1 : cells + kc ≤ mc) (hK2 : slots + ks ≤ ms) (hl : lv_has ls 13 [(0, .ref o), (5, .int x5)]) (h : wb_J5_putVal_259 co o Qk T I Q kc ks x5) : W p l e R s m args below meth c H locs cells slots (z_MQ below G (z_co co) A T0 I0 Q0 (z_qr Qk) z_no args s mc ms) (F0 m 259 ls []) := by
  obtain ⟨hx, hb, -⟩ := id X
  unfold wb_J5_putVal_259 at h
  refine lv_aload_n (x := o) hx hb dJ5_putVal_259 rfl (lv_at hl 0 rfl) ?_
  refine lv_dup hx hb dJ5_putVal_260 rfl ?_
  refine z_geti X hB.1 kc_J6 in_J6 (j := 3) (Nat.le_of_ble_eq_true rfl) q1052 (fun _ h => h) rfl (by decide) (z_fo hB ho (by decide)) dJ5_putVal_261 ?_
  refine lv_iconst (v := 1) hx hb dJ5_putVal_264 (by decide) ?_
  refine lv_iadd hx hb dJ5_putVal_265 ?_
  obtain ⟨I66, eI66⟩ : ∃ z, z = z_up I o 3 ((I o 3) + 1) := ⟨_, rfl⟩
  replace h := h I66 eI66
  refine z_puti (x := ((I o 3) + 1)) eI66 tyJ6 X hB kc_J6 in_J6 tyJ6_ok nmJ6 (j := 3) (Nat.le_of_ble_eq_true rfl) q1052 (fun _ h => h) rfl rfl (by decide) (z_fo hB ho (by decide)) (z_foc hB ho (by decide) hoc) rfl (Or.inl rfl) dJ5_putVal_266 (fun H locs hB => ?_)
  refine lv_aload_n (x := o) hx hb dJ5_putVal_269 rfl (lv_at hl 0 rfl) ?_
  refine lv_dup hx hb dJ5_putVal_270 rfl ?_
  refine z_geti X hB.1 kc_J6 in_J6 (j := 2) (Nat.le_of_ble_eq_true rfl) q1047 (fun _ h => h) rfl (by decide) (z_fo hB ho (by decide)) dJ5_putVal_271 ?_
  refine lv_iconst (v := 1) hx hb dJ5_putVal_274 (by decide) ?_
  refine lv_iadd hx hb dJ5_putVal_275 ?_
  refine lv_dup_x1 hx hb dJ5_putVal_276 rfl rfl ?_
  obtain ⟨I67, eI67⟩ : ∃ z, z = z_up I66 o 2 ((I66 o 2) + 1) := ⟨_, rfl⟩
  replace h := h I67 eI67
  refine z_puti (x := ((I66 o 2) + 1)) eI67 tyJ6 X hB kc_J6 in_J6 tyJ6_ok nmJ6 (j := 2) (Nat.le_of_ble_eq_true rfl) q1047 (fun _ h => h) rfl rfl (by decide) (z_fo hB ho (by decide)) (z_foc hB ho (by decide) hoc) rfl (Or.inl rfl) dJ5_putVal_277 (fun H locs hB => ?_)
  refine lv_aload_n (x := o) hx hb dJ5_putVal_280 rfl (lv_at hl 0 rfl) ?_
  refine z_geti X hB.1 kc_J6 in_J6 (j := 4) (Nat.le_of_ble_eq_true rfl) q1053 (fun _ h => h) rfl (by decide) (z_fo hB ho (by decide)) dJ5_putVal_281 ?_
  refine lv_icmp_le (tgt := 292) hx hb dJ5_putVal_284 (by decide) (fun c68 => ?_) (fun c68 => ?_)
  · replace h := h.1 c68
    exact ww_J5_putVal_292 X ho hoc  hB hK1 hK2 (lv_sub hl [0, 1] rfl) h
  · replace h := h.2 c68
    refine lv_aload_n (x := o) hx hb dJ5_putVal_287 rfl (lv_at hl 0 rfl) ?_
    obtain ⟨kc70, ks71, g1, g2, h⟩ := h
    refine z_callr (z_runU (rest := []) [] pu_J6_J5_resize rfl (met_J5_resize co o kc70 ks71 _ h) X hB hB.2.2.2.2.2.2 q1747 kc_J6 (by decide) (z_fo hB ho (by decide)) rfl hl.1 (Nat.le_of_ble_eq_true rfl) dJ5_putVal_288 (z_k1 hK1 g1) (z_k1 hK2 g2) (by decide) (by decide)) hB (fun _ h => h) (fun r69 T72 I73 Q74 H locs h9 hF hB => ?_)
    replace h := h9
    clear h9
    replace h := h hF
    replace hK1 := z_k2 hK1 g1
    replace hK2 := z_k2 hK2 g2
    refine lv_pop hx hb dJ5_putVal_291 z_cat ?_
    exact ww_J5_putVal_292 X ho hoc  hB hK1 hK2 (lv_sub hl [0, 1] rfl) h
theorem ww_J5_putVal_222 {co : Nat} {o : Nat} {Qk : Option Nat → z_T → z_I → z_Q → Prop} (X : z_X l G A p R s m args meth c cJ5_putVal 13 RJ5 "putVal" (some (.object "java/lang/Object")) mc ms 11 193) (ho : (T0 o).1 = 22) (hoc : (T0 o).2.2 = co) {cells slots : Nat} {T : z_T} {I : z_I} {Q : z_Q} {kc : Nat} {ks : Nat} {x3 : Option Nat} {x4 : Int32} {x5 : Int32} {x10 : Option Nat} {H : Heap} {locs : List Loc} {ls : Array Slot} (hB : z_HB G (z_co co) A s.heap T0 I0 Q0 T I Q H locs) (hK1 : cells + kc ≤ mc) (hK2 : slots + ks ≤ ms) (hl : lv_has ls 13 [(0, .ref o), (3, va_rf x3), (4, .int x4), (5, .int x5), (10, va_rf x10)]) (h : wb_J5_putVal_222 co o Qk T I Q kc ks x3 x4 x5 x10) : W p l e R s m args below meth c H locs cells slots (z_MQ below G (z_co co) A T0 I0 Q0 (z_qr Qk) z_no args s mc ms) (F0 m 222 ls []) := by
  obtain ⟨hx, hb, -⟩ := id X
  unfold wb_J5_putVal_222 at h
  refine z_aload (x := x10) hx hb dJ5_putVal_222 (lv_at hl 4 rfl) ?_
  refine z_ifnull (tgt := 259) hx hb dJ5_putVal_224 (by decide) (fun c54 => ?_) (fun a55 c54 => ?_)
  · replace h := h.1 c54
    subst c54
    exact ww_J5_putVal_259 X ho hoc  hB hK1 hK2 (lv_sub hl [0, 3] rfl) h
  · replace h := h.2 a55 c54
    subst c54
    refine lv_aload (x := a55) hx hb dJ5_putVal_227 (lv_at hl 4 rfl) ?_
    obtain ⟨hk_a55, h⟩ := h
    refine z_getq X hB.1 kc_J42 in_J42 (j := 2) (Nat.le_of_ble_eq_true rfl) q1801 (fun _ h => h) rfl (by decide) hk_a55 dJ5_putVal_229 ?_
    obtain ⟨y56, ey56⟩ : ∃ z : Option Nat, z = (Q a55 2) := ⟨_, rfl⟩
    replace h := h y56 ey56
    refine z_stk (st' := [va_rf y56]) (by rw [ey56]) ?_
    refine z_astore (x := y56) (lv' := [(12, va_rf y56), (0, .ref o), (3, va_rf x3), (4, .int x4), (5, .int x5), (10, .ref a55)]) hx hb dJ5_putVal_232 hl (by decide) rfl (fun ls hl9 => ?_)
    replace hl := hl9
    clear hl9
    refine lv_iload hx hb dJ5_putVal_234 (lv_at hl 3 rfl) ?_
    refine lv_if_eq (tgt := 244) hx hb dJ5_putVal_236 (by decide) (fun c57 => ?_) (fun c57 => ?_)
    · replace h := h.1 c57
      exact ww_J5_putVal_244 X ho hoc  hB hK1 hK2 (lv_sub hl [1, 2, 5, 0] rfl) h
    · replace h := h.2 c57
      refine z_aload (x := y56) hx hb dJ5_putVal_239 (lv_at hl 0 rfl) ?_
      refine z_ifnonnull (tgt := 250) hx hb dJ5_putVal_241 (by decide) (fun a59 c58 => ?_) (fun c58 => ?_)
      · replace h := h.2 a59 c58
        subst c58
        exact ww_J5_putVal_250 X ho hoc  hB hK1 hK2 (lv_sub hl [1, 5, 0] rfl) h
      · replace h := h.1 c58
        subst c58
        exact ww_J5_putVal_244 X ho hoc  hB hK1 hK2 (lv_sub hl [1, 2, 5, 0] rfl) h
theorem ww_J5_putVal_97 {co : Nat} {o : Nat} {Qk : Option Nat → z_T → z_I → z_Q → Prop} (X : z_X l G A p R s m args meth c cJ5_putVal 13 RJ5 "putVal" (some (.object "java/lang/Object")) mc ms 11 193) (ho : (T0 o).1 = 22) (hoc : (T0 o).2.2 = co) {cells slots : Nat} {T : z_T} {I : z_I} {Q : z_Q} {kc : Nat} {ks : Nat} {x3 : Option Nat} {x4 : Int32} {x5 : Int32} {x7 : Option Nat} {H : Heap} {locs : List Loc} {ls : Array Slot} (hB : z_HB G (z_co co) A s.heap T0 I0 Q0 T I Q H locs) (hK1 : cells + kc ≤ mc) (hK2 : slots + ks ≤ ms) (hl : lv_has ls 13 [(0, .ref o), (3, va_rf x3), (4, .int x4), (5, .int x5), (7, va_rf x7)]) (h : wb_J5_putVal_97 co o Qk T I Q kc ks x3 x4 x5 x7) : W p l e R s m args below meth c H locs cells slots (z_MQ below G (z_co co) A T0 I0 Q0 (z_qr Qk) z_no args s mc ms) (F0 m 97 ls []) := by
  obtain ⟨hx, hb, -⟩ := id X
  unfold wb_J5_putVal_97 at h
  refine z_aload (x := x7) hx hb dJ5_putVal_97 (lv_at hl 4 rfl) ?_
  refine z_astore (x := x7) (lv' := [(10, va_rf x7), (0, .ref o), (3, va_rf x3), (4, .int x4), (5, .int x5), (7, va_rf x7)]) hx hb dJ5_putVal_99 hl (by decide) rfl (fun ls hl9 => ?_)
  replace hl := hl9
  clear hl9
  refine lv_goto (tgt := 222) hx hb dJ5_putVal_101 (by decide) ?_
  exact ww_J5_putVal_222 X ho hoc  hB hK1 hK2 (lv_sub hl [1, 2, 3, 4, 0] rfl) h
theorem ww_J5_putVal_212 {co : Nat} {o : Nat} {k134 : z_T → z_I → z_Q → Nat → Nat → Int32 → Option Nat → Option Nat → Int32 → Int32 → Option Nat → Option Nat → Int32 → Prop} {Qk : Option Nat → z_T → z_I → z_Q → Prop} (X : z_X l G A p R s m args meth c cJ5_putVal 13 RJ5 "putVal" (some (.object "java/lang/Object")) mc ms 11 193) (ho : (T0 o).1 = 22) (hoc : (T0 o).2.2 = co) (hk134 : ∀ {cells slots : Nat} {T : z_T} {I : z_I} {Q : z_Q} {kc : Nat} {ks : Nat} {x1 : Int32} {x2 : Option Nat} {x3 : Option Nat} {x4 : Int32} {x5 : Int32} {x6 : Option Nat} {x7 : Option Nat} {x12 : Int32} {H : Heap} {locs : List Loc} {ls : Array Slot}, z_HB G (z_co co) A s.heap T0 I0 Q0 T I Q H locs → cells + kc ≤ mc → slots + ks ≤ ms → lv_has ls 13 [(0, .ref o), (1, .int x1), (2, va_rf x2), (3, va_rf x3), (4, .int x4), (5, .int x5), (6, va_rf x6), (7, va_rf x7), (12, .int x12)] → k134 T I Q kc ks x1 x2 x3 x4 x5 x6 x7 x12 → W p l e R s m args below meth c H locs cells slots (z_MQ below G (z_co co) A T0 I0 Q0 (z_qr Qk) z_no args s mc ms) (F0 m 134 ls [])) {cells slots : Nat} {T : z_T} {I : z_I} {Q : z_Q} {kc : Nat} {ks : Nat} {x1 : Int32} {x2 : Option Nat} {x3 : Option Nat} {x4 : Int32} {x5 : Int32} {x6 : Option Nat} {x10 : Option Nat} {x12 : Int32} {H : Heap} {locs : List Loc} {ls : Array Slot} (hB : z_HB G (z_co co) A s.heap T0 I0 Q0 T I Q H locs) (hK1 : cells + kc ≤ mc) (hK2 : slots + ks ≤ ms) (hl : lv_has ls 13 [(0, .ref o), (1, .int x1), (2, va_rf x2), (3, va_rf x3), (4, .int x4), (5, .int x5), (6, va_rf x6), (10, va_rf x10), (12, .int x12)]) (h : wb_J5_putVal_212 co o k134 Qk T I Q kc ks x1 x2 x3 x4 x5 x6 x10 x12) : W p l e R s m args below meth c H locs cells slots (z_MQ below G (z_co co) A T0 I0 Q0 (z_qr Qk) z_no args s mc ms) (F0 m 212 ls []) := by
  obtain ⟨hx, hb, -⟩ := id X
  unfold wb_J5_putVal_212 at h
  refine z_aload (x := x10) hx hb dJ5_putVal_212 (lv_at hl 7 rfl) ?_
  refine z_astore (x := x10) (lv' := [(7, va_rf x10), (0, .ref o), (1, .int x1), (2, va_rf x2), (3, va_rf x3), (4, .int x4), (5, .int x5), (6, va_rf x6), (10, va_rf x10), (12, .int x12)]) hx hb dJ5_putVal_214 hl (by decide) (by simp [z_cat, z_rfs, z_catq]) (fun ls hl9 => ?_)
  replace hl := hl9
  clear hl9
  obtain ⟨y53, ey53⟩ : ∃ z : Int32, z = x12 + 1 := ⟨_, rfl⟩
  replace h := h y53 ey53
  refine lv_iinc (v := y53) (lv' := [(12, .int y53), (7, va_rf x10), (0, .ref o), (1, .int x1), (2, va_rf x2), (3, va_rf x3), (4, .int x4), (5, .int x5), (6, va_rf x6), (10, va_rf x10)]) hx hb dJ5_putVal_216 hl (k := 9) rfl (by rw [ey53]; rfl) (by decide) rfl (fun ls hl9 => ?_)
  replace hl := hl9
  clear hl9
  refine lv_goto (tgt := 134) hx hb dJ5_putVal_219 (by decide) ?_
  exact hk134 hB hK1 hK2 (lv_sub hl [2, 3, 4, 5, 6, 7, 8, 1, 0] rfl) h
theorem wv_J5_putVal_134 {co : Nat} {o : Nat} {Qk : Option Nat → z_T → z_I → z_Q → Prop} (X : z_X l G A p R s m args meth c cJ5_putVal 13 RJ5 "putVal" (some (.object "java/lang/Object")) mc ms 11 193) (ho : (T0 o).1 = 22) (hoc : (T0 o).2.2 = co) : ∀ (n : Nat) {cells slots : Nat} {T : z_T} {I : z_I} {Q : z_Q} {kc : Nat} {ks : Nat} {x1 : Int32} {x2 : Option Nat} {x3 : Option Nat} {x4 : Int32} {x5 : Int32} {x6 : Option Nat} {x7 : Option Nat} {x12 : Int32} {H : Heap} {locs : List Loc} {ls : Array Slot}, z_HB G (z_co co) A s.heap T0 I0 Q0 T I Q H locs → cells + kc ≤ mc → slots + ks ≤ ms → lv_has ls 13 [(0, .ref o), (1, .int x1), (2, va_rf x2), (3, va_rf x3), (4, .int x4), (5, .int x5), (6, va_rf x6), (7, va_rf x7), (12, .int x12)] → wl_J5_putVal_134 co o Qk n T I Q kc ks x1 x2 x3 x4 x5 x6 x7 x12 → W p l e R s m args below meth c H locs cells slots (z_MQ below G (z_co co) A T0 I0 Q0 (z_qr Qk) z_no args s mc ms) (F0 m 134 ls []) := by
  intro n
  induction n with
  | zero =>
    intro cells slots T I Q kc ks x1 x2 x3 x4 x5 x6 x7 x12 H locs ls hB hK1 hK2 hl h
    exact h.elim
  | succ n ih =>
    intro cells slots T I Q kc ks x1 x2 x3 x4 x5 x6 x7 x12 H locs ls hB hK1 hK2 hl h
    obtain ⟨hx, hb, -⟩ := id X
    unfold wl_J5_putVal_134 at h
    refine z_aload (x := x7) hx hb dJ5_putVal_134 (lv_at hl 7 rfl) ?_
    obtain ⟨a34, rfl, h⟩ := h
    obtain ⟨hk_a34, h⟩ := h
    refine z_getq X hB.1 kc_J42 in_J42 (j := 3) (Nat.le_of_ble_eq_true rfl) q1807 (fun _ h => h) rfl (by decide) hk_a34 dJ5_putVal_136 ?_
    refine lv_dup hx hb dJ5_putVal_139 z_cat ?_
    obtain ⟨y35, ey35⟩ : ∃ z : Option Nat, z = (Q a34 3) := ⟨_, rfl⟩
    replace h := h y35 ey35
    refine z_stk (st' := [va_rf y35, va_rf y35]) (by rw [ey35]) ?_
    refine z_astore (x := y35) (lv' := [(10, va_rf y35), (0, .ref o), (1, .int x1), (2, va_rf x2), (3, va_rf x3), (4, .int x4), (5, .int x5), (6, va_rf x6), (7, .ref a34), (12, .int x12)]) hx hb dJ5_putVal_140 hl (by decide) rfl (fun ls hl9 => ?_)
    replace hl := hl9
    clear hl9
    refine z_ifnonnull (tgt := 175) hx hb dJ5_putVal_142 (by decide) (fun a37 c36 => ?_) (fun c36 => ?_)
    · replace h := h.2 a37 c36
      subst c36
      refine lv_aload (x := a37) hx hb dJ5_putVal_175 (lv_at hl 0 rfl) ?_
      obtain ⟨hk_a37, h⟩ := h
      refine z_geti X hB.1 kc_J42 in_J42 (j := 0) (Nat.le_of_ble_eq_true rfl) q1790 (fun _ h => h) rfl (by decide) hk_a37 dJ5_putVal_177 ?_
      refine lv_iload_n hx hb dJ5_putVal_180 rfl (lv_at hl 2 rfl) ?_
      refine lv_icmp_ne (tgt := 212) hx hb dJ5_putVal_181 (by decide) (fun c46 => ?_) (fun c46 => ?_)
      · replace h := h.1 c46
        exact ww_J5_putVal_212 X ho hoc (fun hB hK1 hK2 hl h => ih hB hK1 hK2 hl h) hB hK1 hK2 (lv_sub hl [1, 2, 3, 4, 5, 6, 7, 0, 9] rfl) h
      · replace h := h.2 c46
        refine lv_aload (x := a37) hx hb dJ5_putVal_184 (lv_at hl 0 rfl) ?_
        refine z_getq X hB.1 kc_J42 in_J42 (j := 1) (Nat.le_of_ble_eq_true rfl) q1797 (fun _ h => h) rfl (by decide) hk_a37 dJ5_putVal_186 ?_
        refine lv_dup hx hb dJ5_putVal_189 z_cat ?_
        obtain ⟨y47, ey47⟩ : ∃ z : Option Nat, z = (Q a37 1) := ⟨_, rfl⟩
        replace h := h y47 ey47
        refine z_stk (st' := [va_rf y47, va_rf y47]) (by rw [ey47]) ?_
        refine z_astore (x := y47) (lv' := [(11, va_rf y47), (10, .ref a37), (0, .ref o), (1, .int x1), (2, va_rf x2), (3, va_rf x3), (4, .int x4), (5, .int x5), (6, va_rf x6), (7, .ref a34), (12, .int x12)]) hx hb dJ5_putVal_190 hl (by decide) rfl (fun ls hl9 => ?_)
        replace hl := hl9
        clear hl9
        refine z_aload_n (x := x2) hx hb dJ5_putVal_192 rfl (lv_at hl 4 rfl) ?_
        refine lv_acmp_eq (rx := y47) (ry := x2) (tgt := 222) hx hb dJ5_putVal_193 (by decide) (fun c48 => ?_) (fun c48 => ?_)
        · replace h := h.1 c48
          exact ww_J5_putVal_222 X ho hoc  hB hK1 hK2 (lv_sub hl [2, 5, 6, 7, 1] rfl) h
        · replace h := h.2 c48
          refine z_aload_n (x := x2) hx hb dJ5_putVal_196 rfl (lv_at hl 4 rfl) ?_
          refine z_ifnull (tgt := 212) hx hb dJ5_putVal_197 (by decide) (fun c49 => ?_) (fun a50 c49 => ?_)
          · replace h := h.1 c49
            subst c49
            exact ww_J5_putVal_212 X ho hoc (fun hB hK1 hK2 hl h => ih hB hK1 hK2 hl h) hB hK1 hK2 (lv_sub hl [2, 3, 4, 5, 6, 7, 8, 1, 10] rfl) h
          · replace h := h.2 a50 c49
            subst c49
            refine lv_aload_n (x := a50) hx hb dJ5_putVal_200 rfl (lv_at hl 4 rfl) ?_
            refine z_aload (x := y47) hx hb dJ5_putVal_201 (lv_at hl 0 rfl) ?_
            obtain ⟨hk_a50, h⟩ := h
            refine z_callzp (z_runO (rest := []) [va_rf y47] pu_X7_X7_equals_Object q2059 q2104 (met_X7_equals a50 y47 _ h) X hB (fun h => h) q2058 kc_X7 (by decide) hk_a50 rfl hl.1 (Nat.le_of_ble_eq_true rfl) dJ5_putVal_203 (z_k4 hK1) (z_k4 hK2) (by decide) (by decide)) hB (fun r51 H locs hz h9 hB => ?_)
            replace h := h9
            clear h9
            replace h := h hz
            refine lv_if_eq (tgt := 212) hx hb dJ5_putVal_206 (by decide) (fun c52 => ?_) (fun c52 => ?_)
            · replace h := h.1 c52
              exact ww_J5_putVal_212 X ho hoc (fun hB hK1 hK2 hl h => ih hB hK1 hK2 hl h) hB hK1 hK2 (lv_sub hl [2, 3, 4, 5, 6, 7, 8, 1, 10] rfl) h
            · replace h := h.2 c52
              refine lv_goto (tgt := 222) hx hb dJ5_putVal_209 (by decide) ?_
              exact ww_J5_putVal_222 X ho hoc  hB hK1 hK2 (lv_sub hl [2, 5, 6, 7, 1] rfl) h
    · replace h := h.1 c36
      subst c36
      refine lv_aload (x := a34) hx hb dJ5_putVal_145 (lv_at hl 8 rfl) ?_
      refine lv_aload_n (x := o) hx hb dJ5_putVal_147 rfl (lv_at hl 1 rfl) ?_
      refine lv_iload_n hx hb dJ5_putVal_148 rfl (lv_at hl 2 rfl) ?_
      refine z_aload_n (x := x2) hx hb dJ5_putVal_149 rfl (lv_at hl 3 rfl) ?_
      refine z_aload_n (x := x3) hx hb dJ5_putVal_150 rfl (lv_at hl 4 rfl) ?_
      refine lv_null hx hb dJ5_putVal_151 ?_
      refine z_stk (st' := [va_rf none, va_rf x3, va_rf x2, .int x1, .ref o, .ref a34]) rfl ?_
      obtain ⟨kc39, ks40, g1, g2, h⟩ := h
      refine z_callr (z_runA (rest := [.ref a34]) [.int x1, va_rf x2, va_rf x3, va_rf none] pu_J6_J6_newNode_HashMap q2056 (met_J6_newNode co o x1 x2 x3 none kc39 ks40 _ h) X hB hB.2.2.2.2.2.2 q2046 kc_J6 (by decide) (z_fo hB ho (by decide)) rfl hl.1 (Nat.le_of_ble_eq_true rfl) dJ5_putVal_152 (z_k1 hK1 g1) (z_k1 hK2 g2) (by decide) (by decide)) hB (fun _ h => h) (fun r38 T41 I42 Q43 H locs h9 hF hB => ?_)
      replace h := h9
      clear h9
      replace h := h hF
      have hk_a34 := z_tk hF hk_a34 (by decide)
      replace hK1 := z_k2 hK1 g1
      replace hK2 := z_k2 hK2 g2
      obtain ⟨hc_a34, h⟩ := h
      obtain ⟨Q44, eQ44⟩ : ∃ z, z = z_up Q43 a34 3 r38 := ⟨_, rfl⟩
      replace h := h Q44 eQ44
      refine z_putq (x := r38) eQ44 tyJ42 X hB kc_J42 in_J42 tyJ42_ok nmJ42 (j := 3) (Nat.le_of_ble_eq_true rfl) q1807 (fun _ h => h) rfl rfl (by decide) hk_a34 hc_a34 rfl (Or.inl ⟨_, rfl⟩) dJ5_putVal_155 (fun H locs hB => ?_)
      refine lv_iload hx hb dJ5_putVal_158 (lv_at hl 9 rfl) ?_
      refine lv_bipush (v := 7) hx hb dJ5_putVal_160 (by decide) ?_
      refine lv_icmp_lt (tgt := 222) hx hb dJ5_putVal_162 (by decide) (fun c45 => ?_) (fun c45 => ?_)
      · replace h := h.1 c45
        exact ww_J5_putVal_222 X ho hoc  hB hK1 hK2 (lv_sub hl [1, 4, 5, 6, 0] rfl) h
      · replace h := h.2 c45
        refine lv_aload_n (x := o) hx hb dJ5_putVal_165 rfl (lv_at hl 1 rfl) ?_
        refine z_aload (x := x6) hx hb dJ5_putVal_166 (lv_at hl 7 rfl) ?_
        refine lv_iload_n hx hb dJ5_putVal_168 rfl (lv_at hl 2 rfl) ?_
        exact h.elim
theorem ww_J5_putVal_104 {co : Nat} {o : Nat} {Qk : Option Nat → z_T → z_I → z_Q → Prop} (X : z_X l G A p R s m args meth c cJ5_putVal 13 RJ5 "putVal" (some (.object "java/lang/Object")) mc ms 11 193) (ho : (T0 o).1 = 22) (hoc : (T0 o).2.2 = co) {cells slots : Nat} {T : z_T} {I : z_I} {Q : z_Q} {kc : Nat} {ks : Nat} {x1 : Int32} {x2 : Option Nat} {x3 : Option Nat} {x4 : Int32} {x5 : Int32} {x6 : Option Nat} {x7 : Option Nat} {H : Heap} {locs : List Loc} {ls : Array Slot} (hB : z_HB G (z_co co) A s.heap T0 I0 Q0 T I Q H locs) (hK1 : cells + kc ≤ mc) (hK2 : slots + ks ≤ ms) (hl : lv_has ls 13 [(0, .ref o), (1, .int x1), (2, va_rf x2), (3, va_rf x3), (4, .int x4), (5, .int x5), (6, va_rf x6), (7, va_rf x7)]) (h : wb_J5_putVal_104 co o Qk T I Q kc ks x1 x2 x3 x4 x5 x6 x7) : W p l e R s m args below meth c H locs cells slots (z_MQ below G (z_co co) A T0 I0 Q0 (z_qr Qk) z_no args s mc ms) (F0 m 104 ls []) := by
  obtain ⟨hx, hb, -⟩ := id X
  unfold wb_J5_putVal_104 at h
  refine z_aload (x := x7) hx hb dJ5_putVal_104 (lv_at hl 7 rfl) ?_
  obtain ⟨a33, rfl, h⟩ := h
  obtain ⟨hk_a33, h⟩ := h
  refine z_instT X hB.1 hk_a33 q1756 dJ5_putVal_106 ?_
  refine lv_if_eq (tgt := 131) hx hb dJ5_putVal_109 (by decide) (fun _ => ?_) (fun c => absurd c (by decide))
  refine lv_iconst (v := 0) hx hb dJ5_putVal_131 (by decide) ?_
  refine lv_istore (lv' := [(12, .int 0), (0, .ref o), (1, .int x1), (2, va_rf x2), (3, va_rf x3), (4, .int x4), (5, .int x5), (6, va_rf x6), (7, .ref a33)]) hx hb dJ5_putVal_132 hl (by decide) rfl (fun ls hl9 => ?_)
  replace hl := hl9
  clear hl9
  obtain ⟨w, h⟩ := h
  exact wv_J5_putVal_134 X ho hoc  w hB hK1 hK2 (lv_sub hl [1, 2, 3, 4, 5, 6, 7, 8, 0] rfl) h
theorem ww_J5_putVal_29 {co : Nat} {o : Nat} {Qk : Option Nat → z_T → z_I → z_Q → Prop} (X : z_X l G A p R s m args meth c cJ5_putVal 13 RJ5 "putVal" (some (.object "java/lang/Object")) mc ms 11 193) (ho : (T0 o).1 = 22) (hoc : (T0 o).2.2 = co) {cells slots : Nat} {T : z_T} {I : z_I} {Q : z_Q} {kc : Nat} {ks : Nat} {x1 : Int32} {x2 : Option Nat} {x3 : Option Nat} {x4 : Int32} {x5 : Int32} {x6 : Option Nat} {x8 : Int32} {H : Heap} {locs : List Loc} {ls : Array Slot} (hB : z_HB G (z_co co) A s.heap T0 I0 Q0 T I Q H locs) (hK1 : cells + kc ≤ mc) (hK2 : slots + ks ≤ ms) (hl : lv_has ls 13 [(0, .ref o), (1, .int x1), (2, va_rf x2), (3, va_rf x3), (4, .int x4), (5, .int x5), (6, va_rf x6), (8, .int x8)]) (h : wb_J5_putVal_29 co o Qk T I Q kc ks x1 x2 x3 x4 x5 x6 x8) : W p l e R s m args below meth c H locs cells slots (z_MQ below G (z_co co) A T0 I0 Q0 (z_qr Qk) z_no args s mc ms) (F0 m 29 ls []) := by
  obtain ⟨hx, hb, -⟩ := id X
  unfold wb_J5_putVal_29 at h
  refine z_aload (x := x6) hx hb dJ5_putVal_29 (lv_at hl 6 rfl) ?_
  refine lv_iload hx hb dJ5_putVal_31 (lv_at hl 7 rfl) ?_
  refine lv_iconst (v := 1) hx hb dJ5_putVal_33 (by decide) ?_
  refine lv_isub hx hb dJ5_putVal_34 ?_
  refine lv_iload_n hx hb dJ5_putVal_35 rfl (lv_at hl 1 rfl) ?_
  refine lv_iand hx hb dJ5_putVal_36 ?_
  refine lv_dup hx hb dJ5_putVal_37 rfl ?_
  refine lv_topi (fun y14 ey14 => ?_)
  replace h := h y14 ey14
  refine lv_istore (lv' := [(9, .int y14), (0, .ref o), (1, .int x1), (2, va_rf x2), (3, va_rf x3), (4, .int x4), (5, .int x5), (6, va_rf x6), (8, .int x8)]) hx hb dJ5_putVal_38 hl (by decide) rfl (fun ls hl9 => ?_)
  replace hl := hl9
  clear hl9
  obtain ⟨a15, rfl, h⟩ := h
  obtain ⟨hk_a15, h⟩ := h
  obtain ⟨h1, h⟩ := h
  refine z_aald (k := 5) X hB.1 (by decide) hk_a15 h1 dJ5_putVal_40 ?_
  refine lv_dup hx hb dJ5_putVal_41 z_cat ?_
  obtain ⟨y16, ey16⟩ : ∃ z : Option Nat, z = (Q a15 ((x8 - 1) &&& x1).toNatClampNeg) := ⟨_, rfl⟩
  replace h := h y16 ey16
  refine z_stk (st' := [va_rf y16, va_rf y16]) (by rw [ey16]) ?_
  refine z_astore (x := y16) (lv' := [(7, va_rf y16), (9, .int y14), (0, .ref o), (1, .int x1), (2, va_rf x2), (3, va_rf x3), (4, .int x4), (5, .int x5), (6, .ref a15), (8, .int x8)]) hx hb dJ5_putVal_42 hl (by decide) rfl (fun ls hl9 => ?_)
  replace hl := hl9
  clear hl9
  refine z_ifnonnull (tgt := 63) hx hb dJ5_putVal_44 (by decide) (fun a18 c17 => ?_) (fun c17 => ?_)
  · replace h := h.2 a18 c17
    subst c17
    refine lv_aload (x := a18) hx hb dJ5_putVal_63 (lv_at hl 0 rfl) ?_
    obtain ⟨hk_a18, h⟩ := h
    refine z_geti X hB.1 kc_J42 in_J42 (j := 0) (Nat.le_of_ble_eq_true rfl) q1790 (fun _ h => h) rfl (by decide) hk_a18 dJ5_putVal_65 ?_
    refine lv_iload_n hx hb dJ5_putVal_68 rfl (lv_at hl 3 rfl) ?_
    refine lv_icmp_ne (tgt := 104) hx hb dJ5_putVal_69 (by decide) (fun c26 => ?_) (fun c26 => ?_)
    · replace h := h.1 c26
      exact ww_J5_putVal_104 X ho hoc  hB hK1 hK2 (lv_sub hl [2, 3, 4, 5, 6, 7, 8, 0] rfl) h
    · replace h := h.2 c26
      refine lv_aload (x := a18) hx hb dJ5_putVal_72 (lv_at hl 0 rfl) ?_
      refine z_getq X hB.1 kc_J42 in_J42 (j := 1) (Nat.le_of_ble_eq_true rfl) q1797 (fun _ h => h) rfl (by decide) hk_a18 dJ5_putVal_74 ?_
      refine lv_dup hx hb dJ5_putVal_77 z_cat ?_
      obtain ⟨y27, ey27⟩ : ∃ z : Option Nat, z = (Q a18 1) := ⟨_, rfl⟩
      replace h := h y27 ey27
      refine z_stk (st' := [va_rf y27, va_rf y27]) (by rw [ey27]) ?_
      refine z_astore (x := y27) (lv' := [(11, va_rf y27), (7, .ref a18), (9, .int y14), (0, .ref o), (1, .int x1), (2, va_rf x2), (3, va_rf x3), (4, .int x4), (5, .int x5), (6, .ref a15), (8, .int x8)]) hx hb dJ5_putVal_78 hl (by decide) rfl (fun ls hl9 => ?_)
      replace hl := hl9
      clear hl9
      refine z_aload_n (x := x2) hx hb dJ5_putVal_80 rfl (lv_at hl 5 rfl) ?_
      refine lv_acmp_eq (rx := y27) (ry := x2) (tgt := 97) hx hb dJ5_putVal_81 (by decide) (fun c28 => ?_) (fun c28 => ?_)
      · replace h := h.1 c28
        exact ww_J5_putVal_97 X ho hoc  hB hK1 hK2 (lv_sub hl [3, 6, 7, 8, 1] rfl) h
      · replace h := h.2 c28
        refine z_aload_n (x := x2) hx hb dJ5_putVal_84 rfl (lv_at hl 5 rfl) ?_
        refine z_ifnull (tgt := 104) hx hb dJ5_putVal_85 (by decide) (fun c29 => ?_) (fun a30 c29 => ?_)
        · replace h := h.1 c29
          subst c29
          exact ww_J5_putVal_104 X ho hoc  hB hK1 hK2 (lv_sub hl [3, 4, 5, 6, 7, 8, 9, 1] rfl) h
        · replace h := h.2 a30 c29
          subst c29
          refine lv_aload_n (x := a30) hx hb dJ5_putVal_88 rfl (lv_at hl 5 rfl) ?_
          refine z_aload (x := y27) hx hb dJ5_putVal_89 (lv_at hl 0 rfl) ?_
          obtain ⟨hk_a30, h⟩ := h
          refine z_callzp (z_runO (rest := []) [va_rf y27] pu_X7_X7_equals_Object q2059 q2104 (met_X7_equals a30 y27 _ h) X hB (fun h => h) q2058 kc_X7 (by decide) hk_a30 rfl hl.1 (Nat.le_of_ble_eq_true rfl) dJ5_putVal_91 (z_k4 hK1) (z_k4 hK2) (by decide) (by decide)) hB (fun r31 H locs hz h9 hB => ?_)
          replace h := h9
          clear h9
          replace h := h hz
          refine lv_if_eq (tgt := 104) hx hb dJ5_putVal_94 (by decide) (fun c32 => ?_) (fun c32 => ?_)
          · replace h := h.1 c32
            exact ww_J5_putVal_104 X ho hoc  hB hK1 hK2 (lv_sub hl [3, 4, 5, 6, 7, 8, 9, 1] rfl) h
          · replace h := h.2 c32
            exact ww_J5_putVal_97 X ho hoc  hB hK1 hK2 (lv_sub hl [3, 6, 7, 8, 1] rfl) h
  · replace h := h.1 c17
    subst c17
    refine lv_aload (x := a15) hx hb dJ5_putVal_47 (lv_at hl 8 rfl) ?_
    refine lv_iload hx hb dJ5_putVal_49 (lv_at hl 1 rfl) ?_
    refine lv_aload_n (x := o) hx hb dJ5_putVal_51 rfl (lv_at hl 2 rfl) ?_
    refine lv_iload_n hx hb dJ5_putVal_52 rfl (lv_at hl 3 rfl) ?_
    refine z_aload_n (x := x2) hx hb dJ5_putVal_53 rfl (lv_at hl 4 rfl) ?_
    refine z_aload_n (x := x3) hx hb dJ5_putVal_54 rfl (lv_at hl 5 rfl) ?_
    refine lv_null hx hb dJ5_putVal_55 ?_
    refine z_stk (st' := [va_rf none, va_rf x3, va_rf x2, .int x1, .ref o, .int y14, .ref a15]) rfl ?_
    obtain ⟨kc20, ks21, g1, g2, h⟩ := h
    refine z_callr (z_runA (rest := [.int y14, .ref a15]) [.int x1, va_rf x2, va_rf x3, va_rf none] pu_J6_J6_newNode_HashMap q2056 (met_J6_newNode co o x1 x2 x3 none kc20 ks21 _ h) X hB hB.2.2.2.2.2.2 q2046 kc_J6 (by decide) (z_fo hB ho (by decide)) rfl hl.1 (Nat.le_of_ble_eq_true rfl) dJ5_putVal_56 (z_k1 hK1 g1) (z_k1 hK2 g2) (by decide) (by decide)) hB (fun _ h => h) (fun r19 T22 I23 Q24 H locs h9 hF hB => ?_)
    replace h := h9
    clear h9
    replace h := h hF
    have hk_a15 := z_tk hF hk_a15 (by decide)
    replace hK1 := z_k2 hK1 g1
    replace hK2 := z_k2 hK2 g2
    obtain ⟨hc_a15, h⟩ := h
    obtain ⟨h1, h⟩ := h
    obtain ⟨h2, h⟩ := h
    obtain ⟨Q25, eQ25⟩ : ∃ z, z = z_up Q24 a15 y14.toNatClampNeg r19 := ⟨_, rfl⟩
    replace h := h Q25 eQ25
    refine z_aastX (k := 5) (x := r19) X hB (by decide) hk_a15 hc_a15 h1 h2 dJ5_putVal_59 (fun H locs hB => ?_)
    rw [← eQ25] at hB
    refine lv_goto (tgt := 259) hx hb dJ5_putVal_60 (by decide) ?_
    exact ww_J5_putVal_259 X ho hoc  hB hK1 hK2 (lv_sub hl [2, 7] rfl) h
theorem ww_J5_putVal_19 {co : Nat} {o : Nat} {Qk : Option Nat → z_T → z_I → z_Q → Prop} (X : z_X l G A p R s m args meth c cJ5_putVal 13 RJ5 "putVal" (some (.object "java/lang/Object")) mc ms 11 193) (ho : (T0 o).1 = 22) (hoc : (T0 o).2.2 = co) {cells slots : Nat} {T : z_T} {I : z_I} {Q : z_Q} {kc : Nat} {ks : Nat} {x1 : Int32} {x2 : Option Nat} {x3 : Option Nat} {x4 : Int32} {x5 : Int32} {H : Heap} {locs : List Loc} {ls : Array Slot} (hB : z_HB G (z_co co) A s.heap T0 I0 Q0 T I Q H locs) (hK1 : cells + kc ≤ mc) (hK2 : slots + ks ≤ ms) (hl : lv_has ls 13 [(0, .ref o), (1, .int x1), (2, va_rf x2), (3, va_rf x3), (4, .int x4), (5, .int x5)]) (h : wb_J5_putVal_19 co o Qk T I Q kc ks x1 x2 x3 x4 x5) : W p l e R s m args below meth c H locs cells slots (z_MQ below G (z_co co) A T0 I0 Q0 (z_qr Qk) z_no args s mc ms) (F0 m 19 ls []) := by
  obtain ⟨hx, hb, -⟩ := id X
  unfold wb_J5_putVal_19 at h
  refine lv_aload_n (x := o) hx hb dJ5_putVal_19 rfl (lv_at hl 0 rfl) ?_
  obtain ⟨kc7, ks8, g1, g2, h⟩ := h
  refine z_callr (z_runU (rest := []) [] pu_J6_J5_resize rfl (met_J5_resize co o kc7 ks8 _ h) X hB hB.2.2.2.2.2.2 q1747 kc_J6 (by decide) (z_fo hB ho (by decide)) rfl hl.1 (Nat.le_of_ble_eq_true rfl) dJ5_putVal_20 (z_k1 hK1 g1) (z_k1 hK2 g2) (by decide) (by decide)) hB (fun _ h => h) (fun r6 T9 I10 Q11 H locs h9 hF hB => ?_)
  replace h := h9
  clear h9
  replace h := h hF
  replace hK1 := z_k2 hK1 g1
  replace hK2 := z_k2 hK2 g2
  refine lv_dup hx hb dJ5_putVal_23 z_cat ?_
  refine z_astore (x := r6) (lv' := [(6, va_rf r6), (0, .ref o), (1, .int x1), (2, va_rf x2), (3, va_rf x3), (4, .int x4), (5, .int x5)]) hx hb dJ5_putVal_24 hl (by decide) rfl (fun ls hl9 => ?_)
  replace hl := hl9
  clear hl9
  obtain ⟨a12, rfl, h⟩ := h
  obtain ⟨hk_a12, h⟩ := h
  refine z_alen (k := 5) X hB.1 (by decide) hk_a12 dJ5_putVal_26 ?_
  refine lv_topi (fun y13 ey13 => ?_)
  replace h := h y13 ey13
  refine lv_istore (lv' := [(8, .int y13), (6, .ref a12), (0, .ref o), (1, .int x1), (2, va_rf x2), (3, va_rf x3), (4, .int x4), (5, .int x5)]) hx hb dJ5_putVal_27 hl (by decide) rfl (fun ls hl9 => ?_)
  replace hl := hl9
  clear hl9
  exact ww_J5_putVal_29 X ho hoc  hB hK1 hK2 (lv_sub hl [2, 3, 4, 5, 6, 7, 1, 0] rfl) h
theorem ww_J5_putVal_0 {co : Nat} {o : Nat} {Qk : Option Nat → z_T → z_I → z_Q → Prop} (X : z_X l G A p R s m args meth c cJ5_putVal 13 RJ5 "putVal" (some (.object "java/lang/Object")) mc ms 11 193) (ho : (T0 o).1 = 22) (hoc : (T0 o).2.2 = co) {cells slots : Nat} {T : z_T} {I : z_I} {Q : z_Q} {kc : Nat} {ks : Nat} {x1 : Int32} {x2 : Option Nat} {x3 : Option Nat} {x4 : Int32} {x5 : Int32} {H : Heap} {locs : List Loc} {ls : Array Slot} (hB : z_HB G (z_co co) A s.heap T0 I0 Q0 T I Q H locs) (hK1 : cells + kc ≤ mc) (hK2 : slots + ks ≤ ms) (hl : lv_has ls 13 [(0, .ref o), (1, .int x1), (2, va_rf x2), (3, va_rf x3), (4, .int x4), (5, .int x5)]) (h : wb_J5_putVal_0 co o Qk T I Q kc ks x1 x2 x3 x4 x5) : W p l e R s m args below meth c H locs cells slots (z_MQ below G (z_co co) A T0 I0 Q0 (z_qr Qk) z_no args s mc ms) (F0 m 0 ls []) := by
  obtain ⟨hx, hb, -⟩ := id X
  unfold wb_J5_putVal_0 at h
  refine lv_aload_n (x := o) hx hb dJ5_putVal_0 rfl (lv_at hl 0 rfl) ?_
  refine z_getq X hB.1 kc_J6 in_J6 (j := 0) (Nat.le_of_ble_eq_true rfl) q1045 (fun _ h => h) rfl (by decide) (z_fo hB ho (by decide)) dJ5_putVal_1 ?_
  refine lv_dup hx hb dJ5_putVal_4 z_cat ?_
  obtain ⟨y1, ey1⟩ : ∃ z : Option Nat, z = (Q o 0) := ⟨_, rfl⟩
  replace h := h y1 ey1
  refine z_stk (st' := [va_rf y1, va_rf y1]) (by rw [ey1]) ?_
  refine z_astore (x := y1) (lv' := [(6, va_rf y1), (0, .ref o), (1, .int x1), (2, va_rf x2), (3, va_rf x3), (4, .int x4), (5, .int x5)]) hx hb dJ5_putVal_5 hl (by decide) rfl (fun ls hl9 => ?_)
  replace hl := hl9
  clear hl9
  refine z_ifnull (tgt := 19) hx hb dJ5_putVal_7 (by decide) (fun c2 => ?_) (fun a3 c2 => ?_)
  · replace h := h.1 c2
    subst c2
    exact ww_J5_putVal_19 X ho hoc  hB hK1 hK2 (lv_sub hl [1, 2, 3, 4, 5, 6] rfl) h
  · replace h := h.2 a3 c2
    subst c2
    refine lv_aload (x := a3) hx hb dJ5_putVal_10 (lv_at hl 0 rfl) ?_
    obtain ⟨hk_a3, h⟩ := h
    refine z_alen (k := 5) X hB.1 (by decide) hk_a3 dJ5_putVal_12 ?_
    refine lv_dup hx hb dJ5_putVal_13 rfl ?_
    refine lv_topi (fun y4 ey4 => ?_)
    replace h := h y4 ey4
    refine lv_istore (lv' := [(8, .int y4), (6, .ref a3), (0, .ref o), (1, .int x1), (2, va_rf x2), (3, va_rf x3), (4, .int x4), (5, .int x5)]) hx hb dJ5_putVal_14 hl (by decide) rfl (fun ls hl9 => ?_)
    replace hl := hl9
    clear hl9
    refine lv_if_ne (tgt := 29) hx hb dJ5_putVal_16 (by decide) (fun c5 => ?_) (fun c5 => ?_)
    · replace h := h.1 c5
      exact ww_J5_putVal_29 X ho hoc  hB hK1 hK2 (lv_sub hl [2, 3, 4, 5, 6, 7, 1, 0] rfl) h
    · replace h := h.2 c5
      exact ww_J5_putVal_19 X ho hoc  hB hK1 hK2 (lv_sub hl [2, 3, 4, 5, 6, 7] rfl) h
theorem met_J5_putVal {l : Launch} {G : z_E} {T : z_T} {I : z_I} {Q : z_Q} (co : Nat) (o : Nat) (x1 : Int32) (x2 : Option Nat) (x3 : Option Nat) (x4 : Int32) (x5 : Int32) (kc : Nat) (ks : Nat) (Qk : Option Nat → z_T → z_I → z_Q → Prop) (h : wp_J5_putVal co T I Q o x1 x2 x3 x4 x5 kc ks Qk) : z_GM l G yJ5_putVal (ws_ yJ5_putVal cJ5_putVal 13 (some (.object "java/lang/Object"))) 11 193 kc ks [.ref o, .int x1, va_rf x2, va_rf x3, .int x4, .int x5] (z_co co) T I Q (z_qr Qk) z_no := by
  obtain ⟨ho, hoc, h⟩ := h
  refine z_body (own := RJ5) (nm := "putVal") (by decide +kernel) rfl rfl (by cases x2 <;> cases x3 <;> exact Nat.le_of_ble_eq_true rfl) (fun p e R s m below meth c A ls X hB hl => ?_)
  replace hl : lv_has ls 13 [(0, .ref o), (1, .int x1), (2, va_rf x2), (3, va_rf x3), (4, .int x4), (5, .int x5)] := by cases x2 <;> cases x3 <;> exact hl
  exact ww_J5_putVal_0 X ho hoc hB z_k0 z_k0 hl h
/-! J5_put -/
theorem pu_J6_J5_putVal : z_PU "java/util/LinkedHashMap" "java/util/HashMap" ⟨"java/util/HashMap", "putVal", "(ILjava/lang/Object;Ljava/lang/Object;ZZ)Ljava/lang/Object;"⟩ yJ5_putVal cJ5_putVal 13 (some (.object "java/lang/Object")) 5 := ⟨q1744, q1745, q1743, q101, q1746, by decide +kernel⟩
theorem ww_J5_put_0 {co : Nat} {o : Nat} {Qk : Option Nat → z_T → z_I → z_Q → Prop} (X : z_X l G A p R s m args meth c cJ5_put 3 RJ5 "put" (some (.object "java/lang/Object")) mc ms 12 225) (ho : (T0 o).1 = 22) {cells slots : Nat} {T : z_T} {I : z_I} {Q : z_Q} {kc : Nat} {ks : Nat} {x1 : Option Nat} {x2 : Option Nat} {H : Heap} {locs : List Loc} {ls : Array Slot} (hB : z_HB G (z_co co) A s.heap T0 I0 Q0 T I Q H locs) (hK1 : cells + kc ≤ mc) (hK2 : slots + ks ≤ ms) (hl : lv_has ls 3 [(0, .ref o), (1, va_rf x1), (2, va_rf x2)]) (h : wb_J5_put_0 co o Qk T I Q kc ks x1 x2) : W p l e R s m args below meth c H locs cells slots (z_MQ below G (z_co co) A T0 I0 Q0 (z_qr Qk) z_no args s mc ms) (F0 m 0 ls []) := by
  obtain ⟨hx, hb, -⟩ := id X
  unfold wb_J5_put_0 at h
  refine lv_aload_n (x := o) hx hb dJ5_put_0 rfl (lv_at hl 0 rfl) ?_
  refine z_aload_n (x := x1) hx hb dJ5_put_1 rfl (lv_at hl 1 rfl) ?_
  refine z_callip (z_runS (rest := [.ref o]) [va_rf x1] pk_J5_hash (met_J5_hash x1 _ h) X hB (fun h => h) q1643 rfl hl.1 (Nat.le_of_ble_eq_true rfl) dJ5_put_2 (z_k4 hK1) (z_k4 hK2) (by decide) (by decide)) hB (fun r1 H locs h9 hB => ?_)
  replace h := h9
  clear h9
  refine z_aload_n (x := x1) hx hb dJ5_put_5 rfl (lv_at hl 1 rfl) ?_
  refine z_aload_n (x := x2) hx hb dJ5_put_6 rfl (lv_at hl 2 rfl) ?_
  refine lv_iconst (v := 0) hx hb dJ5_put_7 (by decide) ?_
  refine lv_iconst (v := 1) hx hb dJ5_put_8 (by decide) ?_
  obtain ⟨kc3, ks4, g1, g2, h⟩ := h
  refine z_callr (z_runU (rest := []) [.int r1, va_rf x1, va_rf x2, .int 0, .int 1] pu_J6_J5_putVal rfl (met_J5_putVal co o r1 x1 x2 0 1 kc3 ks4 _ h) X hB hB.2.2.2.2.2.2 q1742 kc_J6 (by decide) (z_fo hB ho (by decide)) rfl hl.1 (Nat.le_of_ble_eq_true rfl) dJ5_put_9 (z_k1 hK1 g1) (z_k1 hK2 g2) (by decide) (by decide)) hB (fun _ h => h) (fun r2 T5 I6 Q7 H locs h9 hF hB => ?_)
  replace h := h9
  clear h9
  replace h := h hF
  replace hK1 := z_k2 hK1 g1
  replace hK2 := z_k2 hK2 g2
  exact z_aret (v := r2) X (by first | exact Or.inl ⟨_, rfl⟩ | exact Or.inr ⟨_, rfl⟩) hB ⟨_, rfl, h⟩ (z_k3 hK1) (z_k3 hK2) dJ5_put_12
theorem met_J5_put {l : Launch} {G : z_E} {T : z_T} {I : z_I} {Q : z_Q} (co : Nat) (o : Nat) (x1 : Option Nat) (x2 : Option Nat) (kc : Nat) (ks : Nat) (Qk : Option Nat → z_T → z_I → z_Q → Prop) (h : wp_J5_put co T I Q o x1 x2 kc ks Qk) : z_GM l G yJ5_put (ws_ yJ5_put cJ5_put 3 (some (.object "java/lang/Object"))) 12 225 kc ks [.ref o, va_rf x1, va_rf x2] (z_co co) T I Q (z_qr Qk) z_no := by
  obtain ⟨ho, h⟩ := h
  refine z_body (own := RJ5) (nm := "put") (by decide +kernel) rfl rfl (by cases x1 <;> cases x2 <;> exact Nat.le_of_ble_eq_true rfl) (fun p e R s m below meth c A ls X hB hl => ?_)
  replace hl : lv_has ls 3 [(0, .ref o), (1, va_rf x1), (2, va_rf x2)] := by cases x1 <;> cases x2 <;> exact hl
  exact ww_J5_put_0 X ho hB z_k0 z_k0 hl h
/-! J2_add -/
theorem pu_J6_J5_put : z_PU "java/util/LinkedHashMap" "java/util/HashMap" ⟨"java/util/HashMap", "put", "(Ljava/lang/Object;Ljava/lang/Object;)Ljava/lang/Object;"⟩ yJ5_put cJ5_put 3 (some (.object "java/lang/Object")) 2 := ⟨q1640, q1641, q1639, q101, q1642, by decide +kernel⟩
theorem ww_J2_add_19 {co : Nat} {o : Nat} {Qk : Int32 → z_T → z_I → z_Q → Prop} (X : z_X l G A p R s m args meth c cJ2_add 2 RJ2 "add" (some .boolean) mc ms 13 247) (ho : (T0 o).1 = 21) {cells slots : Nat} {T : z_T} {I : z_I} {Q : z_Q} {kc : Nat} {ks : Nat} {s0 : Int32} {H : Heap} {locs : List Loc} {ls : Array Slot} (hB : z_HB G (z_co co) A s.heap T0 I0 Q0 T I Q H locs) (hK1 : cells + kc ≤ mc) (hK2 : slots + ks ≤ ms) (hl : lv_has ls 2 []) (h : wb_J2_add_19 G.2.2 co o Qk T I Q kc ks s0) : W p l e R s m args below meth c H locs cells slots (z_MQ below G (z_co co) A T0 I0 Q0 (z_qz Qk) z_no args s mc ms) (F0 m 19 ls [.int s0]) := by
  obtain ⟨hx, hb, -⟩ := id X
  unfold wb_J2_add_19 at h
  obtain ⟨hz, h⟩ := h
  exact z_zret X hB hz ⟨_, rfl, hz, h⟩ (z_k3 hK1) (z_k3 hK2) dJ2_add_19
theorem ww_J2_add_0 {co : Nat} {o : Nat} {Qk : Int32 → z_T → z_I → z_Q → Prop} (X : z_X l G A p R s m args meth c cJ2_add 2 RJ2 "add" (some .boolean) mc ms 13 247) (ho : (T0 o).1 = 21) {cells slots : Nat} {T : z_T} {I : z_I} {Q : z_Q} {kc : Nat} {ks : Nat} {x1 : Option Nat} {H : Heap} {locs : List Loc} {ls : Array Slot} (hB : z_HB G (z_co co) A s.heap T0 I0 Q0 T I Q H locs) (hK1 : cells + kc ≤ mc) (hK2 : slots + ks ≤ ms) (hl : lv_has ls 2 [(0, .ref o), (1, va_rf x1)]) (h : wb_J2_add_0 G.2.2 co o Qk T I Q kc ks x1) : W p l e R s m args below meth c H locs cells slots (z_MQ below G (z_co co) A T0 I0 Q0 (z_qz Qk) z_no args s mc ms) (F0 m 0 ls []) := by
  obtain ⟨hx, hb, -⟩ := id X
  unfold wb_J2_add_0 at h
  refine lv_aload_n (x := o) hx hb dJ2_add_0 rfl (lv_at hl 0 rfl) ?_
  refine z_getq X hB.1 kc_J3 in_J3 (j := 0) (Nat.le_of_ble_eq_true rfl) q1084 (fun _ h => h) rfl (by decide) (z_fo hB ho (by decide)) dJ2_add_1 ?_
  refine z_aload_n (x := x1) hx hb dJ2_add_4 rfl (lv_at hl 1 rfl) ?_
  refine z_getpr X hB q1636 dJ2_add_5 ?_
  obtain ⟨a1, ea1, h⟩ := h
  refine z_stk (st' := [.ref G.2.2.1.2.1, va_rf x1, .ref a1]) (by rw [ea1] <;> rfl) ?_
  obtain ⟨hk_a1, h⟩ := h
  obtain ⟨kc3, ks4, g1, g2, h⟩ := h
  refine z_callr (z_runU (rest := []) [va_rf x1, .ref G.2.2.1.2.1] pu_J6_J5_put rfl (met_J5_put co a1 x1 (some G.2.2.1.2.1) kc3 ks4 _ h) X hB hB.2.2.2.2.2.2 q1638 kc_J6 (by decide) hk_a1 rfl hl.1 (Nat.le_of_ble_eq_true rfl) dJ2_add_8 (z_k1 hK1 g1) (z_k1 hK2 g2) (by decide) (by decide)) hB (fun _ h => h) (fun r2 T5 I6 Q7 H locs h9 hF hB => ?_)
  replace h := h9
  clear h9
  replace h := h hF
  replace hK1 := z_k2 hK1 g1
  replace hK2 := z_k2 hK2 g2
  refine z_ifnonnull (tgt := 18) hx hb dJ2_add_11 (by decide) (fun a9 c8 => ?_) (fun c8 => ?_)
  · replace h := h.2 a9 c8
    subst c8
    refine lv_iconst (v := 0) hx hb dJ2_add_18 (by decide) ?_
    exact ww_J2_add_19 X ho  hB hK1 hK2 (lv_sub hl [] rfl) h
  · replace h := h.1 c8
    subst c8
    refine lv_iconst (v := 1) hx hb dJ2_add_14 (by decide) ?_
    refine lv_goto (tgt := 19) hx hb dJ2_add_15 (by decide) ?_
    exact ww_J2_add_19 X ho  hB hK1 hK2 (lv_sub hl [] rfl) h
theorem met_J2_add {l : Launch} {G : z_E} {T : z_T} {I : z_I} {Q : z_Q} (co : Nat) (o : Nat) (x1 : Option Nat) (kc : Nat) (ks : Nat) (Qk : Int32 → z_T → z_I → z_Q → Prop) (h : wp_J2_add G.2.2 co T I Q o x1 kc ks Qk) : z_GM l G yJ2_add (ws_ yJ2_add cJ2_add 2 (some .boolean)) 13 247 kc ks [.ref o, va_rf x1] (z_co co) T I Q (z_qz Qk) z_no := by
  obtain ⟨ho, h⟩ := h
  refine z_body (own := RJ2) (nm := "add") (by decide +kernel) rfl rfl (by cases x1 <;> exact Nat.le_of_ble_eq_true rfl) (fun p e R s m below meth c A ls X hB hl => ?_)
  replace hl : lv_has ls 2 [(0, .ref o), (1, va_rf x1)] := by cases x1 <;> exact hl
  exact ww_J2_add_0 X ho hB z_k0 z_k0 hl h
/-! J6_afterNodeRemoval -/
theorem ww_J6_afterNodeRemoval_64 {co : Nat} {o : Nat} {Qk : z_T → z_I → z_Q → Prop} (X : z_X l G A p R s m args meth c cJ6_afterNodeRemoval 5 RJ6 "afterNodeRemoval" none 0 0 8 120) (ho : (T0 o).1 = 22) (hoc : (T0 o).2.2 = co) {T : z_T} {I : z_I} {Q : z_Q} {H : Heap} {locs : List Loc} {ls : Array Slot} (hB : z_HB G (z_co co) A s.heap T0 I0 Q0 T I Q H locs) (hl : lv_has ls 5 []) (h : wb_J6_afterNodeRemoval_64 co o Qk T I Q) : W p l e R s m args below meth c H locs 0 0 (z_MQ below G (z_co co) A T0 I0 Q0 (z_qv Qk) z_no args s 0 0) (F0 m 64 ls []) := by
  obtain ⟨hx, hb, -⟩ := id X
  unfold wb_J6_afterNodeRemoval_64 at h
  exact z_vret X hB ⟨rfl, h⟩ (Nat.le_refl 0) (Nat.le_refl 0) dJ6_afterNodeRemoval_64
theorem ww_J6_afterNodeRemoval_45 {co : Nat} {o : Nat} {Qk : z_T → z_I → z_Q → Prop} (X : z_X l G A p R s m args meth c cJ6_afterNodeRemoval 5 RJ6 "afterNodeRemoval" none 0 0 8 120) (ho : (T0 o).1 = 22) (hoc : (T0 o).2.2 = co) {T : z_T} {I : z_I} {Q : z_Q} {x3 : Option Nat} {x4 : Option Nat} {H : Heap} {locs : List Loc} {ls : Array Slot} (hB : z_HB G (z_co co) A s.heap T0 I0 Q0 T I Q H locs) (hl : lv_has ls 5 [(0, .ref o), (3, va_rf x3), (4, va_rf x4)]) (h : wb_J6_afterNodeRemoval_45 co o Qk T I Q x3 x4) : W p l e R s m args below meth c H locs 0 0 (z_MQ below G (z_co co) A T0 I0 Q0 (z_qv Qk) z_no args s 0 0) (F0 m 45 ls []) := by
  obtain ⟨hx, hb, -⟩ := id X
  unfold wb_J6_afterNodeRemoval_45 at h
  refine z_aload (x := x4) hx hb dJ6_afterNodeRemoval_45 (lv_at hl 2 rfl) ?_
  refine z_ifnonnull (tgt := 58) hx hb dJ6_afterNodeRemoval_47 (by decide) (fun a11 c10 => ?_) (fun c10 => ?_)
  · replace h := h.2 a11 c10
    subst c10
    refine lv_aload (x := a11) hx hb dJ6_afterNodeRemoval_58 (lv_at hl 2 rfl) ?_
    refine z_aload_n (x := x3) hx hb dJ6_afterNodeRemoval_60 rfl (lv_at hl 1 rfl) ?_
    obtain ⟨hk_a11, h⟩ := h
    obtain ⟨hc_a11, h⟩ := h
    obtain ⟨Q13, eQ13⟩ : ∃ z, z = z_up Q a11 4 x3 := ⟨_, rfl⟩
    replace h := h Q13 eQ13
    refine z_putq (x := x3) eQ13 tyJ42 X hB kc_J42 in_J42 tyJ42_ok nmJ42 (j := 4) (Nat.le_of_ble_eq_true rfl) q1781 (fun _ h => h) rfl rfl (by decide) hk_a11 hc_a11 rfl (Or.inl ⟨_, rfl⟩) dJ6_afterNodeRemoval_61 (fun H locs hB => ?_)
    exact ww_J6_afterNodeRemoval_64 X ho hoc  hB (lv_sub hl [] rfl) h
  · replace h := h.1 c10
    subst c10
    refine lv_aload_n (x := o) hx hb dJ6_afterNodeRemoval_50 rfl (lv_at hl 0 rfl) ?_
    refine z_aload_n (x := x3) hx hb dJ6_afterNodeRemoval_51 rfl (lv_at hl 1 rfl) ?_
    obtain ⟨Q12, eQ12⟩ : ∃ z, z = z_up Q o 9 x3 := ⟨_, rfl⟩
    replace h := h Q12 eQ12
    refine z_putq (x := x3) eQ12 tyJ6 X hB kc_J6 in_J6 tyJ6_ok nmJ6 (j := 9) (Nat.le_of_ble_eq_true rfl) q1041 (fun _ h => h) rfl rfl (by decide) (z_fo hB ho (by decide)) (z_foc hB ho (by decide) hoc) rfl (Or.inl ⟨_, rfl⟩) dJ6_afterNodeRemoval_52 (fun H locs hB => ?_)
    refine lv_goto (tgt := 64) hx hb dJ6_afterNodeRemoval_55 (by decide) ?_
    exact ww_J6_afterNodeRemoval_64 X ho hoc  hB (lv_sub hl [] rfl) h
theorem ww_J6_afterNodeRemoval_0 {co : Nat} {o : Nat} {Qk : z_T → z_I → z_Q → Prop} (X : z_X l G A p R s m args meth c cJ6_afterNodeRemoval 5 RJ6 "afterNodeRemoval" none 0 0 8 120) (ho : (T0 o).1 = 22) (hoc : (T0 o).2.2 = co) {T : z_T} {I : z_I} {Q : z_Q} {x1 : Option Nat} {H : Heap} {locs : List Loc} {ls : Array Slot} (hB : z_HB G (z_co co) A s.heap T0 I0 Q0 T I Q H locs) (hl : lv_has ls 5 [(0, .ref o), (1, va_rf x1)]) (h : wb_J6_afterNodeRemoval_0 co o Qk T I Q x1) : W p l e R s m args below meth c H locs 0 0 (z_MQ below G (z_co co) A T0 I0 Q0 (z_qv Qk) z_no args s 0 0) (F0 m 0 ls []) := by
  obtain ⟨hx, hb, -⟩ := id X
  unfold wb_J6_afterNodeRemoval_0 at h
  refine z_aload_n (x := x1) hx hb dJ6_afterNodeRemoval_0 rfl (lv_at hl 1 rfl) ?_
  obtain ⟨h2, h⟩ := h
  refine z_castR X hB.1 kc_J42 (by decide) h2 q1772 (Or.inl rfl) dJ6_afterNodeRemoval_1 ?_
  refine z_astore_n (i := 2) (x := x1) (lv' := [(2, va_rf x1), (0, .ref o), (1, va_rf x1)]) hx hb dJ6_afterNodeRemoval_4 rfl hl (by decide) (by simp [z_cat, z_rfs, z_catq]) (fun ls hl9 => ?_)
  replace hl := hl9
  clear hl9
  refine z_aload_n (x := x1) hx hb dJ6_afterNodeRemoval_5 rfl (lv_at hl 0 rfl) ?_
  obtain ⟨a1, rfl, h⟩ := h
  obtain ⟨hk_a1, h⟩ := h
  refine z_getq X hB.1 kc_J42 in_J42 (j := 4) (Nat.le_of_ble_eq_true rfl) q1781 (fun _ h => h) rfl (by decide) hk_a1 dJ6_afterNodeRemoval_6 ?_
  obtain ⟨y2, ey2⟩ : ∃ z : Option Nat, z = (Q a1 4) := ⟨_, rfl⟩
  replace h := h y2 ey2
  refine z_stk (st' := [va_rf y2]) (by rw [ey2]) ?_
  refine z_astore_n (x := y2) (lv' := [(3, va_rf y2), (2, .ref a1), (0, .ref o), (1, .ref a1)]) hx hb dJ6_afterNodeRemoval_9 rfl hl (by decide) rfl (fun ls hl9 => ?_)
  replace hl := hl9
  clear hl9
  refine lv_aload_n (x := a1) hx hb dJ6_afterNodeRemoval_10 rfl (lv_at hl 1 rfl) ?_
  refine z_getq X hB.1 kc_J42 in_J42 (j := 5) (Nat.le_of_ble_eq_true rfl) q1783 (fun _ h => h) rfl (by decide) hk_a1 dJ6_afterNodeRemoval_11 ?_
  obtain ⟨y3, ey3⟩ : ∃ z : Option Nat, z = (Q a1 5) := ⟨_, rfl⟩
  replace h := h y3 ey3
  refine z_stk (st' := [va_rf y3]) (by rw [ey3]) ?_
  refine z_astore (x := y3) (lv' := [(4, va_rf y3), (3, va_rf y2), (2, .ref a1), (0, .ref o), (1, .ref a1)]) hx hb dJ6_afterNodeRemoval_14 hl (by decide) (by simp [z_cat, z_rfs, z_catq]) (fun ls hl9 => ?_)
  replace hl := hl9
  clear hl9
  refine lv_aload_n (x := a1) hx hb dJ6_afterNodeRemoval_16 rfl (lv_at hl 2 rfl) ?_
  refine lv_aload_n (x := a1) hx hb dJ6_afterNodeRemoval_17 rfl (lv_at hl 2 rfl) ?_
  refine lv_null hx hb dJ6_afterNodeRemoval_18 ?_
  refine z_stk (st' := [va_rf none, .ref a1, .ref a1]) rfl ?_
  refine lv_dup_x1 hx hb dJ6_afterNodeRemoval_19 z_cat rfl ?_
  obtain ⟨hc_a1, h⟩ := h
  obtain ⟨Q4, eQ4⟩ : ∃ z, z = z_up Q a1 5 none := ⟨_, rfl⟩
  replace h := h Q4 eQ4
  refine z_putq (x := none) eQ4 tyJ42 X hB kc_J42 in_J42 tyJ42_ok nmJ42 (j := 5) (Nat.le_of_ble_eq_true rfl) q1783 (fun _ h => h) rfl rfl (by decide) hk_a1 hc_a1 rfl (Or.inl ⟨_, rfl⟩) dJ6_afterNodeRemoval_20 (fun H locs hB => ?_)
  obtain ⟨Q5, eQ5⟩ : ∃ z, z = z_up Q4 a1 4 none := ⟨_, rfl⟩
  replace h := h Q5 eQ5
  refine z_putq (x := none) eQ5 tyJ42 X hB kc_J42 in_J42 tyJ42_ok nmJ42 (j := 4) (Nat.le_of_ble_eq_true rfl) q1781 (fun _ h => h) rfl rfl (by decide) hk_a1 hc_a1 rfl (Or.inl ⟨_, rfl⟩) dJ6_afterNodeRemoval_23 (fun H locs hB => ?_)
  refine z_aload_n (x := y2) hx hb dJ6_afterNodeRemoval_26 rfl (lv_at hl 1 rfl) ?_
  refine z_ifnonnull (tgt := 39) hx hb dJ6_afterNodeRemoval_27 (by decide) (fun a7 c6 => ?_) (fun c6 => ?_)
  · replace h := h.2 a7 c6
    subst c6
    refine lv_aload_n (x := a7) hx hb dJ6_afterNodeRemoval_39 rfl (lv_at hl 1 rfl) ?_
    refine z_aload (x := y3) hx hb dJ6_afterNodeRemoval_40 (lv_at hl 0 rfl) ?_
    obtain ⟨hk_a7, h⟩ := h
    obtain ⟨hc_a7, h⟩ := h
    obtain ⟨Q9, eQ9⟩ : ∃ z, z = z_up Q5 a7 5 y3 := ⟨_, rfl⟩
    replace h := h Q9 eQ9
    refine z_putq (x := y3) eQ9 tyJ42 X hB kc_J42 in_J42 tyJ42_ok nmJ42 (j := 5) (Nat.le_of_ble_eq_true rfl) q1783 (fun _ h => h) rfl rfl (by decide) hk_a7 hc_a7 rfl (Or.inl ⟨_, rfl⟩) dJ6_afterNodeRemoval_42 (fun H locs hB => ?_)
    exact ww_J6_afterNodeRemoval_45 X ho hoc  hB (lv_sub hl [3, 1, 0] rfl) h
  · replace h := h.1 c6
    subst c6
    refine lv_aload_n (x := o) hx hb dJ6_afterNodeRemoval_30 rfl (lv_at hl 3 rfl) ?_
    refine z_aload (x := y3) hx hb dJ6_afterNodeRemoval_31 (lv_at hl 0 rfl) ?_
    obtain ⟨Q8, eQ8⟩ : ∃ z, z = z_up Q5 o 8 y3 := ⟨_, rfl⟩
    replace h := h Q8 eQ8
    refine z_putq (x := y3) eQ8 tyJ6 X hB kc_J6 in_J6 tyJ6_ok nmJ6 (j := 8) (Nat.le_of_ble_eq_true rfl) q1038 (fun _ h => h) rfl rfl (by decide) (z_fo hB ho (by decide)) (z_foc hB ho (by decide) hoc) rfl (Or.inl ⟨_, rfl⟩) dJ6_afterNodeRemoval_33 (fun H locs hB => ?_)
    refine lv_goto (tgt := 45) hx hb dJ6_afterNodeRemoval_36 (by decide) ?_
    exact ww_J6_afterNodeRemoval_45 X ho hoc  hB (lv_sub hl [3, 1, 0] rfl) h
theorem met_J6_afterNodeRemoval {l : Launch} {G : z_E} {T : z_T} {I : z_I} {Q : z_Q} (co : Nat) (o : Nat) (x1 : Option Nat) (Qk : z_T → z_I → z_Q → Prop) (h : wp_J6_afterNodeRemoval co T I Q o x1 Qk) : z_GM l G yJ6_afterNodeRemoval (ws_ yJ6_afterNodeRemoval cJ6_afterNodeRemoval 5 none) 8 120 0 0 [.ref o, va_rf x1] (z_co co) T I Q (z_qv Qk) z_no := by
  obtain ⟨ho, hoc, h⟩ := h
  refine z_body (own := RJ6) (nm := "afterNodeRemoval") (by decide +kernel) rfl rfl (by cases x1 <;> exact Nat.le_of_ble_eq_true rfl) (fun p e R s m below meth c A ls X hB hl => ?_)
  replace hl : lv_has ls 5 [(0, .ref o), (1, va_rf x1)] := by cases x1 <;> exact hl
  exact ww_J6_afterNodeRemoval_0 X ho hoc hB hl h
/-! J5_removeNode -/
theorem pu_J6_J6_afterNodeRemoval_HashMap : z_PU "java/util/LinkedHashMap" "java/util/HashMap" ⟨"java/util/HashMap", "afterNodeRemoval", "(Ljava/util/HashMap$Node;)V"⟩ yJ6_afterNodeRemoval cJ6_afterNodeRemoval 5 none 1 := ⟨q2490, q2491, q2492, q102, q2493, by decide +kernel⟩
theorem ww_J5_removeNode_260 {co : Nat} {o : Nat} {Qk : Option Nat → z_T → z_I → z_Q → Prop} (X : z_X l G A p R s m args meth c cJ5_removeNode 14 RJ5 "removeNode" (some (.object "java/util/HashMap$Node")) 0 0 9 144) (ho : (T0 o).1 = 22) (hoc : (T0 o).2.2 = co) {T : z_T} {I : z_I} {Q : z_Q} {x10 : Option Nat} {H : Heap} {locs : List Loc} {ls : Array Slot} (hB : z_HB G (z_co co) A s.heap T0 I0 Q0 T I Q H locs) (hl : lv_has ls 14 [(0, .ref o), (10, va_rf x10)]) (h : wb_J5_removeNode_260 co o Qk T I Q x10) : W p l e R s m args below meth c H locs 0 0 (z_MQ below G (z_co co) A T0 I0 Q0 (z_qr Qk) z_no args s 0 0) (F0 m 260 ls []) := by
  obtain ⟨hx, hb, -⟩ := id X
  unfold wb_J5_removeNode_260 at h
  refine lv_aload_n (x := o) hx hb dJ5_removeNode_260 rfl (lv_at hl 0 rfl) ?_
  refine lv_dup hx hb dJ5_removeNode_261 rfl ?_
  refine z_geti X hB.1 kc_J6 in_J6 (j := 3) (Nat.le_of_ble_eq_true rfl) q1052 (fun _ h => h) rfl (by decide) (z_fo hB ho (by decide)) dJ5_removeNode_262 ?_
  refine lv_iconst (v := 1) hx hb dJ5_removeNode_265 (by decide) ?_
  refine lv_iadd hx hb dJ5_removeNode_266 ?_
  obtain ⟨I48, eI48⟩ : ∃ z, z = z_up I o 3 ((I o 3) + 1) := ⟨_, rfl⟩
  replace h := h I48 eI48
  refine z_puti (x := ((I o 3) + 1)) eI48 tyJ6 X hB kc_J6 in_J6 tyJ6_ok nmJ6 (j := 3) (Nat.le_of_ble_eq_true rfl) q1052 (fun _ h => h) rfl rfl (by decide) (z_fo hB ho (by decide)) (z_foc hB ho (by decide) hoc) rfl (Or.inl rfl) dJ5_removeNode_267 (fun H locs hB => ?_)
  refine lv_aload_n (x := o) hx hb dJ5_removeNode_270 rfl (lv_at hl 0 rfl) ?_
  refine lv_dup hx hb dJ5_removeNode_271 rfl ?_
  refine z_geti X hB.1 kc_J6 in_J6 (j := 2) (Nat.le_of_ble_eq_true rfl) q1047 (fun _ h => h) rfl (by decide) (z_fo hB ho (by decide)) dJ5_removeNode_272 ?_
  refine lv_iconst (v := 1) hx hb dJ5_removeNode_275 (by decide) ?_
  refine lv_isub hx hb dJ5_removeNode_276 ?_
  obtain ⟨I49, eI49⟩ : ∃ z, z = z_up I48 o 2 ((I48 o 2) - 1) := ⟨_, rfl⟩
  replace h := h I49 eI49
  refine z_puti (x := ((I48 o 2) - 1)) eI49 tyJ6 X hB kc_J6 in_J6 tyJ6_ok nmJ6 (j := 2) (Nat.le_of_ble_eq_true rfl) q1047 (fun _ h => h) rfl rfl (by decide) (z_fo hB ho (by decide)) (z_foc hB ho (by decide) hoc) rfl (Or.inl rfl) dJ5_removeNode_277 (fun H locs hB => ?_)
  refine lv_aload_n (x := o) hx hb dJ5_removeNode_280 rfl (lv_at hl 0 rfl) ?_
  refine z_aload (x := x10) hx hb dJ5_removeNode_281 (lv_at hl 1 rfl) ?_
  refine z_callv (z_runA (rest := []) [va_rf x10] pu_J6_J6_afterNodeRemoval_HashMap q2494 (met_J6_afterNodeRemoval co o x10 _ h) X hB hB.2.2.2.2.2.2 q2488 kc_J6 (by decide) (z_fo hB ho (by decide)) rfl hl.1 (Nat.le_of_ble_eq_true rfl) dJ5_removeNode_283 (Nat.le_refl 0) (Nat.le_refl 0) (by decide) (by decide)) hB (fun _ h => h) (fun T51 I52 Q53 H locs h9 hF hB => ?_)
  replace h := h9
  clear h9
  replace h := h hF
  refine z_aload (x := x10) hx hb dJ5_removeNode_286 (lv_at hl 1 rfl) ?_
  exact z_aret (v := x10) X (by first | exact Or.inl ⟨_, rfl⟩ | exact Or.inr ⟨_, rfl⟩) hB ⟨_, rfl, h⟩ (Nat.le_refl 0) (Nat.le_refl 0) dJ5_removeNode_288
theorem ww_J5_removeNode_206 {co : Nat} {o : Nat} {Qk : Option Nat → z_T → z_I → z_Q → Prop} (X : z_X l G A p R s m args meth c cJ5_removeNode 14 RJ5 "removeNode" (some (.object "java/util/HashMap$Node")) 0 0 9 144) (ho : (T0 o).1 = 22) (hoc : (T0 o).2.2 = co) {T : z_T} {I : z_I} {Q : z_Q} {x5 : Int32} {x6 : Option Nat} {x7 : Option Nat} {x9 : Int32} {x10 : Option Nat} {H : Heap} {locs : List Loc} {ls : Array Slot} (hB : z_HB G (z_co co) A s.heap T0 I0 Q0 T I Q H locs) (hl : lv_has ls 14 [(0, .ref o), (5, .int x5), (6, va_rf x6), (7, va_rf x7), (9, .int x9), (10, va_rf x10)]) (h : wb_J5_removeNode_206 co o Qk T I Q x5 x6 x7 x9 x10) : W p l e R s m args below meth c H locs 0 0 (z_MQ below G (z_co co) A T0 I0 Q0 (z_qr Qk) z_no args s 0 0) (F0 m 206 ls []) := by
  obtain ⟨hx, hb, -⟩ := id X
  unfold wb_J5_removeNode_206 at h
  refine z_aload (x := x10) hx hb dJ5_removeNode_206 (lv_at hl 5 rfl) ?_
  obtain ⟨a42, rfl, h⟩ := h
  obtain ⟨hk_a42, h⟩ := h
  refine z_instT X hB.1 hk_a42 q1756 dJ5_removeNode_208 ?_
  refine lv_if_eq (tgt := 230) hx hb dJ5_removeNode_211 (by decide) (fun _ => ?_) (fun c => absurd c (by decide))
  refine lv_aload (x := a42) hx hb dJ5_removeNode_230 (lv_at hl 5 rfl) ?_
  refine z_aload (x := x7) hx hb dJ5_removeNode_232 (lv_at hl 3 rfl) ?_
  refine lv_acmp_ne (rx := (some a42)) (ry := x7) (tgt := 250) hx hb dJ5_removeNode_234 (by decide) (fun c43 => ?_) (fun c43 => ?_)
  · replace h := h.1 c43
    refine z_aload (x := x7) hx hb dJ5_removeNode_250 (lv_at hl 3 rfl) ?_
    refine lv_aload (x := a42) hx hb dJ5_removeNode_252 (lv_at hl 5 rfl) ?_
    refine z_getq X hB.1 kc_J42 in_J42 (j := 3) (Nat.le_of_ble_eq_true rfl) q1807 (fun _ h => h) rfl (by decide) hk_a42 dJ5_removeNode_254 ?_
    obtain ⟨a44, rfl, h⟩ := h
    obtain ⟨hk_a44, h⟩ := h
    obtain ⟨hc_a44, h⟩ := h
    obtain ⟨Q45, eQ45⟩ : ∃ z, z = z_up Q a44 3 (Q a42 3) := ⟨_, rfl⟩
    replace h := h Q45 eQ45
    refine z_putq (x := (Q a42 3)) eQ45 tyJ42 X hB kc_J42 in_J42 tyJ42_ok nmJ42 (j := 3) (Nat.le_of_ble_eq_true rfl) q1807 (fun _ h => h) rfl rfl (by decide) hk_a44 hc_a44 rfl (Or.inl ⟨_, rfl⟩) dJ5_removeNode_257 (fun H locs hB => ?_)
    exact ww_J5_removeNode_260 X ho hoc  hB (lv_sub hl [0, 5] rfl) h
  · replace h := h.2 c43
    refine z_aload (x := x6) hx hb dJ5_removeNode_237 (lv_at hl 2 rfl) ?_
    refine lv_iload hx hb dJ5_removeNode_239 (lv_at hl 4 rfl) ?_
    refine lv_aload (x := a42) hx hb dJ5_removeNode_241 (lv_at hl 5 rfl) ?_
    refine z_getq X hB.1 kc_J42 in_J42 (j := 3) (Nat.le_of_ble_eq_true rfl) q1807 (fun _ h => h) rfl (by decide) hk_a42 dJ5_removeNode_243 ?_
    obtain ⟨a46, rfl, h⟩ := h
    obtain ⟨hk_a46, h⟩ := h
    obtain ⟨hc_a46, h⟩ := h
    obtain ⟨h1, h⟩ := h
    obtain ⟨h2, h⟩ := h
    obtain ⟨Q47, eQ47⟩ : ∃ z, z = z_up Q a46 x9.toNatClampNeg (Q a42 3) := ⟨_, rfl⟩
    replace h := h Q47 eQ47
    refine z_aastX (k := 5) (x := (Q a42 3)) X hB (by decide) hk_a46 hc_a46 h1 h2 dJ5_removeNode_246 (fun H locs hB => ?_)
    rw [← eQ47] at hB
    refine lv_goto (tgt := 260) hx hb dJ5_removeNode_247 (by decide) ?_
    exact ww_J5_removeNode_260 X ho hoc  hB (lv_sub hl [0, 5] rfl) h
theorem ww_J5_removeNode_289 {co : Nat} {o : Nat} {Qk : Option Nat → z_T → z_I → z_Q → Prop} (X : z_X l G A p R s m args meth c cJ5_removeNode 14 RJ5 "removeNode" (some (.object "java/util/HashMap$Node")) 0 0 9 144) (ho : (T0 o).1 = 22) (hoc : (T0 o).2.2 = co) {T : z_T} {I : z_I} {Q : z_Q} {H : Heap} {locs : List Loc} {ls : Array Slot} (hB : z_HB G (z_co co) A s.heap T0 I0 Q0 T I Q H locs) (hl : lv_has ls 14 []) (h : wb_J5_removeNode_289 co o Qk T I Q) : W p l e R s m args below meth c H locs 0 0 (z_MQ below G (z_co co) A T0 I0 Q0 (z_qr Qk) z_no args s 0 0) (F0 m 289 ls []) := by
  obtain ⟨hx, hb, -⟩ := id X
  unfold wb_J5_removeNode_289 at h
  refine lv_null hx hb dJ5_removeNode_289 ?_
  refine z_stk (st' := [va_rf none]) rfl ?_
  exact z_aret (v := none) X (by first | exact Or.inl ⟨_, rfl⟩ | exact Or.inr ⟨_, rfl⟩) hB ⟨_, rfl, h⟩ (Nat.le_refl 0) (Nat.le_refl 0) dJ5_removeNode_290
theorem ww_J5_removeNode_171 {co : Nat} {o : Nat} {Qk : Option Nat → z_T → z_I → z_Q → Prop} (X : z_X l G A p R s m args meth c cJ5_removeNode 14 RJ5 "removeNode" (some (.object "java/util/HashMap$Node")) 0 0 9 144) (ho : (T0 o).1 = 22) (hoc : (T0 o).2.2 = co) {T : z_T} {I : z_I} {Q : z_Q} {x3 : Option Nat} {x4 : Int32} {x5 : Int32} {x6 : Option Nat} {x7 : Option Nat} {x9 : Int32} {x10 : Option Nat} {H : Heap} {locs : List Loc} {ls : Array Slot} (hB : z_HB G (z_co co) A s.heap T0 I0 Q0 T I Q H locs) (hl : lv_has ls 14 [(0, .ref o), (3, va_rf x3), (4, .int x4), (5, .int x5), (6, va_rf x6), (7, va_rf x7), (9, .int x9), (10, va_rf x10)]) (h : wb_J5_removeNode_171 co o Qk T I Q x3 x4 x5 x6 x7 x9 x10) : W p l e R s m args below meth c H locs 0 0 (z_MQ below G (z_co co) A T0 I0 Q0 (z_qr Qk) z_no args s 0 0) (F0 m 171 ls []) := by
  obtain ⟨hx, hb, -⟩ := id X
  unfold wb_J5_removeNode_171 at h
  refine z_aload (x := x10) hx hb dJ5_removeNode_171 (lv_at hl 7 rfl) ?_
  refine z_ifnull (tgt := 289) hx hb dJ5_removeNode_173 (by decide) (fun c33 => ?_) (fun a34 c33 => ?_)
  · replace h := h.1 c33
    subst c33
    exact ww_J5_removeNode_289 X ho hoc  hB (lv_sub hl [] rfl) h
  · replace h := h.2 a34 c33
    subst c33
    refine lv_iload hx hb dJ5_removeNode_176 (lv_at hl 2 rfl) ?_
    refine lv_if_eq (tgt := 206) hx hb dJ5_removeNode_178 (by decide) (fun c35 => ?_) (fun c35 => ?_)
    · replace h := h.1 c35
      exact ww_J5_removeNode_206 X ho hoc  hB (lv_sub hl [0, 3, 4, 5, 6, 7] rfl) h
    · replace h := h.2 c35
      refine lv_aload (x := a34) hx hb dJ5_removeNode_181 (lv_at hl 7 rfl) ?_
      obtain ⟨hk_a34, h⟩ := h
      refine z_getq X hB.1 kc_J42 in_J42 (j := 2) (Nat.le_of_ble_eq_true rfl) q1801 (fun _ h => h) rfl (by decide) hk_a34 dJ5_removeNode_183 ?_
      refine lv_dup hx hb dJ5_removeNode_186 z_cat ?_
      obtain ⟨y36, ey36⟩ : ∃ z : Option Nat, z = (Q a34 2) := ⟨_, rfl⟩
      replace h := h y36 ey36
      refine z_stk (st' := [va_rf y36, va_rf y36]) (by rw [ey36]) ?_
      refine z_astore (x := y36) (lv' := [(13, va_rf y36), (0, .ref o), (3, va_rf x3), (4, .int x4), (5, .int x5), (6, va_rf x6), (7, va_rf x7), (9, .int x9), (10, .ref a34)]) hx hb dJ5_removeNode_187 hl (by decide) rfl (fun ls hl9 => ?_)
      replace hl := hl9
      clear hl9
      refine z_aload_n (x := x3) hx hb dJ5_removeNode_189 rfl (lv_at hl 2 rfl) ?_
      refine lv_acmp_eq (rx := y36) (ry := x3) (tgt := 206) hx hb dJ5_removeNode_190 (by decide) (fun c37 => ?_) (fun c37 => ?_)
      · replace h := h.1 c37
        exact ww_J5_removeNode_206 X ho hoc  hB (lv_sub hl [1, 4, 5, 6, 7, 8] rfl) h
      · replace h := h.2 c37
        refine z_aload_n (x := x3) hx hb dJ5_removeNode_193 rfl (lv_at hl 2 rfl) ?_
        refine z_ifnull (tgt := 289) hx hb dJ5_removeNode_194 (by decide) (fun c38 => ?_) (fun a39 c38 => ?_)
        · replace h := h.1 c38
          subst c38
          exact ww_J5_removeNode_289 X ho hoc  hB (lv_sub hl [] rfl) h
        · replace h := h.2 a39 c38
          subst c38
          refine lv_aload_n (x := a39) hx hb dJ5_removeNode_197 rfl (lv_at hl 2 rfl) ?_
          refine z_aload (x := y36) hx hb dJ5_removeNode_198 (lv_at hl 0 rfl) ?_
          obtain ⟨hk_a39, h⟩ := h
          refine z_callzp (z_runO (rest := []) [va_rf y36] pu_X7_X7_equals_Object q2059 q2104 (met_X7_equals a39 y36 _ h) X hB (fun h => h) q2058 kc_X7 (by decide) hk_a39 rfl hl.1 (Nat.le_of_ble_eq_true rfl) dJ5_removeNode_200 (Nat.le_refl 0) (Nat.le_refl 0) (by decide) (by decide)) hB (fun r40 H locs hz h9 hB => ?_)
          replace h := h9
          clear h9
          replace h := h hz
          refine lv_if_eq (tgt := 289) hx hb dJ5_removeNode_203 (by decide) (fun c41 => ?_) (fun c41 => ?_)
          · replace h := h.1 c41
            exact ww_J5_removeNode_289 X ho hoc  hB (lv_sub hl [] rfl) h
          · replace h := h.2 c41
            exact ww_J5_removeNode_206 X ho hoc  hB (lv_sub hl [1, 4, 5, 6, 7, 8] rfl) h
theorem ww_J5_removeNode_74 {co : Nat} {o : Nat} {Qk : Option Nat → z_T → z_I → z_Q → Prop} (X : z_X l G A p R s m args meth c cJ5_removeNode 14 RJ5 "removeNode" (some (.object "java/util/HashMap$Node")) 0 0 9 144) (ho : (T0 o).1 = 22) (hoc : (T0 o).2.2 = co) {T : z_T} {I : z_I} {Q : z_Q} {x3 : Option Nat} {x4 : Int32} {x5 : Int32} {x6 : Option Nat} {x7 : Option Nat} {x9 : Int32} {H : Heap} {locs : List Loc} {ls : Array Slot} (hB : z_HB G (z_co co) A s.heap T0 I0 Q0 T I Q H locs) (hl : lv_has ls 14 [(0, .ref o), (3, va_rf x3), (4, .int x4), (5, .int x5), (6, va_rf x6), (7, va_rf x7), (9, .int x9)]) (h : wb_J5_removeNode_74 co o Qk T I Q x3 x4 x5 x6 x7 x9) : W p l e R s m args below meth c H locs 0 0 (z_MQ below G (z_co co) A T0 I0 Q0 (z_qr Qk) z_no args s 0 0) (F0 m 74 ls []) := by
  obtain ⟨hx, hb, -⟩ := id X
  unfold wb_J5_removeNode_74 at h
  refine z_aload (x := x7) hx hb dJ5_removeNode_74 (lv_at hl 5 rfl) ?_
  refine z_astore (x := x7) (lv' := [(10, va_rf x7), (0, .ref o), (3, va_rf x3), (4, .int x4), (5, .int x5), (6, va_rf x6), (7, va_rf x7), (9, .int x9)]) hx hb dJ5_removeNode_76 hl (by decide) rfl (fun ls hl9 => ?_)
  replace hl := hl9
  clear hl9
  refine lv_goto (tgt := 171) hx hb dJ5_removeNode_78 (by decide) ?_
  exact ww_J5_removeNode_171 X ho hoc  hB (lv_sub hl [1, 2, 3, 4, 5, 6, 7, 0] rfl) h
theorem ww_J5_removeNode_149 {co : Nat} {o : Nat} {Qk : Option Nat → z_T → z_I → z_Q → Prop} (X : z_X l G A p R s m args meth c cJ5_removeNode 14 RJ5 "removeNode" (some (.object "java/util/HashMap$Node")) 0 0 9 144) (ho : (T0 o).1 = 22) (hoc : (T0 o).2.2 = co) {T : z_T} {I : z_I} {Q : z_Q} {x3 : Option Nat} {x4 : Int32} {x5 : Int32} {x6 : Option Nat} {x7 : Option Nat} {x9 : Int32} {x11 : Option Nat} {H : Heap} {locs : List Loc} {ls : Array Slot} (hB : z_HB G (z_co co) A s.heap T0 I0 Q0 T I Q H locs) (hl : lv_has ls 14 [(0, .ref o), (3, va_rf x3), (4, .int x4), (5, .int x5), (6, va_rf x6), (7, va_rf x7), (9, .int x9), (11, va_rf x11)]) (h : wb_J5_removeNode_149 co o Qk T I Q x3 x4 x5 x6 x7 x9 x11) : W p l e R s m args below meth c H locs 0 0 (z_MQ below G (z_co co) A T0 I0 Q0 (z_qr Qk) z_no args s 0 0) (F0 m 149 ls []) := by
  obtain ⟨hx, hb, -⟩ := id X
  unfold wb_J5_removeNode_149 at h
  refine z_aload (x := x11) hx hb dJ5_removeNode_149 (lv_at hl 7 rfl) ?_
  refine z_astore (x := x11) (lv' := [(10, va_rf x11), (0, .ref o), (3, va_rf x3), (4, .int x4), (5, .int x5), (6, va_rf x6), (7, va_rf x7), (9, .int x9), (11, va_rf x11)]) hx hb dJ5_removeNode_151 hl (by decide) rfl (fun ls hl9 => ?_)
  replace hl := hl9
  clear hl9
  refine lv_goto (tgt := 171) hx hb dJ5_removeNode_153 (by decide) ?_
  exact ww_J5_removeNode_171 X ho hoc  hB (lv_sub hl [1, 2, 3, 4, 5, 6, 7, 0] rfl) h
theorem ww_J5_removeNode_156 {co : Nat} {o : Nat} {k115 : z_T → z_I → z_Q → Int32 → Option Nat → Option Nat → Int32 → Int32 → Option Nat → Option Nat → Int32 → Option Nat → Option Nat → Prop} {Qk : Option Nat → z_T → z_I → z_Q → Prop} (X : z_X l G A p R s m args meth c cJ5_removeNode 14 RJ5 "removeNode" (some (.object "java/util/HashMap$Node")) 0 0 9 144) (ho : (T0 o).1 = 22) (hoc : (T0 o).2.2 = co) (hk115 : ∀ {T : z_T} {I : z_I} {Q : z_Q} {x1 : Int32} {x2 : Option Nat} {x3 : Option Nat} {x4 : Int32} {x5 : Int32} {x6 : Option Nat} {x7 : Option Nat} {x9 : Int32} {x10 : Option Nat} {x11 : Option Nat} {H : Heap} {locs : List Loc} {ls : Array Slot}, z_HB G (z_co co) A s.heap T0 I0 Q0 T I Q H locs → lv_has ls 14 [(0, .ref o), (1, .int x1), (2, va_rf x2), (3, va_rf x3), (4, .int x4), (5, .int x5), (6, va_rf x6), (7, va_rf x7), (9, .int x9), (10, va_rf x10), (11, va_rf x11)] → k115 T I Q x1 x2 x3 x4 x5 x6 x7 x9 x10 x11 → W p l e R s m args below meth c H locs 0 0 (z_MQ below G (z_co co) A T0 I0 Q0 (z_qr Qk) z_no args s 0 0) (F0 m 115 ls [])) {T : z_T} {I : z_I} {Q : z_Q} {x1 : Int32} {x2 : Option Nat} {x3 : Option Nat} {x4 : Int32} {x5 : Int32} {x6 : Option Nat} {x9 : Int32} {x10 : Option Nat} {x11 : Option Nat} {H : Heap} {locs : List Loc} {ls : Array Slot} (hB : z_HB G (z_co co) A s.heap T0 I0 Q0 T I Q H locs) (hl : lv_has ls 14 [(0, .ref o), (1, .int x1), (2, va_rf x2), (3, va_rf x3), (4, .int x4), (5, .int x5), (6, va_rf x6), (9, .int x9), (10, va_rf x10), (11, va_rf x11)]) (h : wb_J5_removeNode_156 co o k115 Qk T I Q x1 x2 x3 x4 x5 x6 x9 x10 x11) : W p l e R s m args below meth c H locs 0 0 (z_MQ below G (z_co co) A T0 I0 Q0 (z_qr Qk) z_no args s 0 0) (F0 m 156 ls []) := by
  obtain ⟨hx, hb, -⟩ := id X
  unfold wb_J5_removeNode_156 at h
  refine z_aload (x := x11) hx hb dJ5_removeNode_156 (lv_at hl 9 rfl) ?_
  refine z_astore (x := x11) (lv' := [(7, va_rf x11), (0, .ref o), (1, .int x1), (2, va_rf x2), (3, va_rf x3), (4, .int x4), (5, .int x5), (6, va_rf x6), (9, .int x9), (10, va_rf x10), (11, va_rf x11)]) hx hb dJ5_removeNode_158 hl (by decide) (by simp [z_cat, z_rfs, z_catq]) (fun ls hl9 => ?_)
  replace hl := hl9
  clear hl9
  refine z_aload (x := x11) hx hb dJ5_removeNode_160 (lv_at hl 10 rfl) ?_
  obtain ⟨a29, rfl, h⟩ := h
  obtain ⟨hk_a29, h⟩ := h
  refine z_getq X hB.1 kc_J42 in_J42 (j := 3) (Nat.le_of_ble_eq_true rfl) q1807 (fun _ h => h) rfl (by decide) hk_a29 dJ5_removeNode_162 ?_
  refine lv_dup hx hb dJ5_removeNode_165 z_cat ?_
  obtain ⟨y30, ey30⟩ : ∃ z : Option Nat, z = (Q a29 3) := ⟨_, rfl⟩
  replace h := h y30 ey30
  refine z_stk (st' := [va_rf y30, va_rf y30]) (by rw [ey30]) ?_
  refine z_astore (x := y30) (lv' := [(11, va_rf y30), (7, .ref a29), (0, .ref o), (1, .int x1), (2, va_rf x2), (3, va_rf x3), (4, .int x4), (5, .int x5), (6, va_rf x6), (9, .int x9), (10, va_rf x10)]) hx hb dJ5_removeNode_166 hl (by decide) (by simp [z_cat, z_rfs, z_catq]) (fun ls hl9 => ?_)
  replace hl := hl9
  clear hl9
  refine z_ifnonnull (tgt := 115) hx hb dJ5_removeNode_168 (by decide) (fun a32 c31 => ?_) (fun c31 => ?_)
  · replace h := h.2 a32 c31
    subst c31
    exact hk115 hB (lv_sub hl [2, 3, 4, 5, 6, 7, 8, 1, 9, 10, 0] rfl) h
  · replace h := h.1 c31
    subst c31
    exact ww_J5_removeNode_171 X ho hoc  hB (lv_sub hl [2, 5, 6, 7, 8, 1, 9, 10] rfl) h
theorem wv_J5_removeNode_115 {co : Nat} {o : Nat} {Qk : Option Nat → z_T → z_I → z_Q → Prop} (X : z_X l G A p R s m args meth c cJ5_removeNode 14 RJ5 "removeNode" (some (.object "java/util/HashMap$Node")) 0 0 9 144) (ho : (T0 o).1 = 22) (hoc : (T0 o).2.2 = co) : ∀ (n : Nat) {T : z_T} {I : z_I} {Q : z_Q} {x1 : Int32} {x2 : Option Nat} {x3 : Option Nat} {x4 : Int32} {x5 : Int32} {x6 : Option Nat} {x7 : Option Nat} {x9 : Int32} {x10 : Option Nat} {x11 : Option Nat} {H : Heap} {locs : List Loc} {ls : Array Slot}, z_HB G (z_co co) A s.heap T0 I0 Q0 T I Q H locs → lv_has ls 14 [(0, .ref o), (1, .int x1), (2, va_rf x2), (3, va_rf x3), (4, .int x4), (5, .int x5), (6, va_rf x6), (7, va_rf x7), (9, .int x9), (10, va_rf x10), (11, va_rf x11)] → wl_J5_removeNode_115 co o Qk n T I Q x1 x2 x3 x4 x5 x6 x7 x9 x10 x11 → W p l e R s m args below meth c H locs 0 0 (z_MQ below G (z_co co) A T0 I0 Q0 (z_qr Qk) z_no args s 0 0) (F0 m 115 ls []) := by
  intro n
  induction n with
  | zero =>
    intro T I Q x1 x2 x3 x4 x5 x6 x7 x9 x10 x11 H locs ls hB hl h
    exact h.elim
  | succ n ih =>
    intro T I Q x1 x2 x3 x4 x5 x6 x7 x9 x10 x11 H locs ls hB hl h
    obtain ⟨hx, hb, -⟩ := id X
    unfold wl_J5_removeNode_115 at h
    refine z_aload (x := x11) hx hb dJ5_removeNode_115 (lv_at hl 10 rfl) ?_
    obtain ⟨a21, rfl, h⟩ := h
    obtain ⟨hk_a21, h⟩ := h
    refine z_geti X hB.1 kc_J42 in_J42 (j := 0) (Nat.le_of_ble_eq_true rfl) q1790 (fun _ h => h) rfl (by decide) hk_a21 dJ5_removeNode_117 ?_
    refine lv_iload_n hx hb dJ5_removeNode_120 rfl (lv_at hl 1 rfl) ?_
    refine lv_icmp_ne (tgt := 156) hx hb dJ5_removeNode_121 (by decide) (fun c22 => ?_) (fun c22 => ?_)
    · replace h := h.1 c22
      exact ww_J5_removeNode_156 X ho hoc (fun hB hl h => ih hB hl h) hB (lv_sub hl [0, 1, 2, 3, 4, 5, 6, 8, 9, 10] rfl) h
    · replace h := h.2 c22
      refine lv_aload (x := a21) hx hb dJ5_removeNode_124 (lv_at hl 10 rfl) ?_
      refine z_getq X hB.1 kc_J42 in_J42 (j := 1) (Nat.le_of_ble_eq_true rfl) q1797 (fun _ h => h) rfl (by decide) hk_a21 dJ5_removeNode_126 ?_
      refine lv_dup hx hb dJ5_removeNode_129 z_cat ?_
      obtain ⟨y23, ey23⟩ : ∃ z : Option Nat, z = (Q a21 1) := ⟨_, rfl⟩
      replace h := h y23 ey23
      refine z_stk (st' := [va_rf y23, va_rf y23]) (by rw [ey23]) ?_
      refine z_astore (x := y23) (lv' := [(12, va_rf y23), (0, .ref o), (1, .int x1), (2, va_rf x2), (3, va_rf x3), (4, .int x4), (5, .int x5), (6, va_rf x6), (7, va_rf x7), (9, .int x9), (10, va_rf x10), (11, .ref a21)]) hx hb dJ5_removeNode_130 hl (by decide) rfl (fun ls hl9 => ?_)
      replace hl := hl9
      clear hl9
      refine z_aload_n (x := x2) hx hb dJ5_removeNode_132 rfl (lv_at hl 3 rfl) ?_
      refine lv_acmp_eq (rx := y23) (ry := x2) (tgt := 149) hx hb dJ5_removeNode_133 (by decide) (fun c24 => ?_) (fun c24 => ?_)
      · replace h := h.1 c24
        exact ww_J5_removeNode_149 X ho hoc  hB (lv_sub hl [1, 4, 5, 6, 7, 8, 9, 11] rfl) h
      · replace h := h.2 c24
        refine z_aload_n (x := x2) hx hb dJ5_removeNode_136 rfl (lv_at hl 3 rfl) ?_
        refine z_ifnull (tgt := 156) hx hb dJ5_removeNode_137 (by decide) (fun c25 => ?_) (fun a26 c25 => ?_)
        · replace h := h.1 c25
          subst c25
          exact ww_J5_removeNode_156 X ho hoc (fun hB hl h => ih hB hl h) hB (lv_sub hl [1, 2, 3, 4, 5, 6, 7, 9, 10, 11] rfl) h
        · replace h := h.2 a26 c25
          subst c25
          refine lv_aload_n (x := a26) hx hb dJ5_removeNode_140 rfl (lv_at hl 3 rfl) ?_
          refine z_aload (x := y23) hx hb dJ5_removeNode_141 (lv_at hl 0 rfl) ?_
          obtain ⟨hk_a26, h⟩ := h
          refine z_callzp (z_runO (rest := []) [va_rf y23] pu_X7_X7_equals_Object q2059 q2104 (met_X7_equals a26 y23 _ h) X hB (fun h => h) q2058 kc_X7 (by decide) hk_a26 rfl hl.1 (Nat.le_of_ble_eq_true rfl) dJ5_removeNode_143 (Nat.le_refl 0) (Nat.le_refl 0) (by decide) (by decide)) hB (fun r27 H locs hz h9 hB => ?_)
          replace h := h9
          clear h9
          replace h := h hz
          refine lv_if_eq (tgt := 156) hx hb dJ5_removeNode_146 (by decide) (fun c28 => ?_) (fun c28 => ?_)
          · replace h := h.1 c28
            exact ww_J5_removeNode_156 X ho hoc (fun hB hl h => ih hB hl h) hB (lv_sub hl [1, 2, 3, 4, 5, 6, 7, 9, 10, 11] rfl) h
          · replace h := h.2 c28
            exact ww_J5_removeNode_149 X ho hoc  hB (lv_sub hl [1, 4, 5, 6, 7, 8, 9, 11] rfl) h
theorem ww_J5_removeNode_81 {co : Nat} {o : Nat} {Qk : Option Nat → z_T → z_I → z_Q → Prop} (X : z_X l G A p R s m args meth c cJ5_removeNode 14 RJ5 "removeNode" (some (.object "java/util/HashMap$Node")) 0 0 9 144) (ho : (T0 o).1 = 22) (hoc : (T0 o).2.2 = co) {T : z_T} {I : z_I} {Q : z_Q} {x1 : Int32} {x2 : Option Nat} {x3 : Option Nat} {x4 : Int32} {x5 : Int32} {x6 : Option Nat} {x7 : Option Nat} {x9 : Int32} {x10 : Option Nat} {H : Heap} {locs : List Loc} {ls : Array Slot} (hB : z_HB G (z_co co) A s.heap T0 I0 Q0 T I Q H locs) (hl : lv_has ls 14 [(0, .ref o), (1, .int x1), (2, va_rf x2), (3, va_rf x3), (4, .int x4), (5, .int x5), (6, va_rf x6), (7, va_rf x7), (9, .int x9), (10, va_rf x10)]) (h : wb_J5_removeNode_81 co o Qk T I Q x1 x2 x3 x4 x5 x6 x7 x9 x10) : W p l e R s m args below meth c H locs 0 0 (z_MQ below G (z_co co) A T0 I0 Q0 (z_qr Qk) z_no args s 0 0) (F0 m 81 ls []) := by
  obtain ⟨hx, hb, -⟩ := id X
  unfold wb_J5_removeNode_81 at h
  refine z_aload (x := x7) hx hb dJ5_removeNode_81 (lv_at hl 7 rfl) ?_
  obtain ⟨a17, rfl, h⟩ := h
  obtain ⟨hk_a17, h⟩ := h
  refine z_getq X hB.1 kc_J42 in_J42 (j := 3) (Nat.le_of_ble_eq_true rfl) q1807 (fun _ h => h) rfl (by decide) hk_a17 dJ5_removeNode_83 ?_
  refine lv_dup hx hb dJ5_removeNode_86 z_cat ?_
  obtain ⟨y18, ey18⟩ : ∃ z : Option Nat, z = (Q a17 3) := ⟨_, rfl⟩
  replace h := h y18 ey18
  refine z_stk (st' := [va_rf y18, va_rf y18]) (by rw [ey18]) ?_
  refine z_astore (x := y18) (lv' := [(11, va_rf y18), (0, .ref o), (1, .int x1), (2, va_rf x2), (3, va_rf x3), (4, .int x4), (5, .int x5), (6, va_rf x6), (7, .ref a17), (9, .int x9), (10, va_rf x10)]) hx hb dJ5_removeNode_87 hl (by decide) (by simp [z_cat, z_rfs, z_catq]) (fun ls hl9 => ?_)
  replace hl := hl9
  clear hl9
  refine z_ifnull (tgt := 171) hx hb dJ5_removeNode_89 (by decide) (fun c19 => ?_) (fun a20 c19 => ?_)
  · replace h := h.1 c19
    subst c19
    exact ww_J5_removeNode_171 X ho hoc  hB (lv_sub hl [1, 4, 5, 6, 7, 8, 9, 10] rfl) h
  · replace h := h.2 a20 c19
    subst c19
    refine lv_aload (x := a17) hx hb dJ5_removeNode_92 (lv_at hl 8 rfl) ?_
    refine z_instT X hB.1 hk_a17 q1756 dJ5_removeNode_94 ?_
    refine lv_if_eq (tgt := 115) hx hb dJ5_removeNode_97 (by decide) (fun _ => ?_) (fun c => absurd c (by decide))
    obtain ⟨w, h⟩ := h
    exact wv_J5_removeNode_115 X ho hoc  w hB (lv_sub hl [1, 2, 3, 4, 5, 6, 7, 8, 9, 10, 0] rfl) h
theorem ww_J5_removeNode_0 {co : Nat} {o : Nat} {Qk : Option Nat → z_T → z_I → z_Q → Prop} (X : z_X l G A p R s m args meth c cJ5_removeNode 14 RJ5 "removeNode" (some (.object "java/util/HashMap$Node")) 0 0 9 144) (ho : (T0 o).1 = 22) (hoc : (T0 o).2.2 = co) {T : z_T} {I : z_I} {Q : z_Q} {x1 : Int32} {x2 : Option Nat} {x3 : Option Nat} {x4 : Int32} {x5 : Int32} {H : Heap} {locs : List Loc} {ls : Array Slot} (hB : z_HB G (z_co co) A s.heap T0 I0 Q0 T I Q H locs) (hl : lv_has ls 14 [(0, .ref o), (1, .int x1), (2, va_rf x2), (3, va_rf x3), (4, .int x4), (5, .int x5)]) (h : wb_J5_removeNode_0 co o Qk T I Q x1 x2 x3 x4 x5) : W p l e R s m args below meth c H locs 0 0 (z_MQ below G (z_co co) A T0 I0 Q0 (z_qr Qk) z_no args s 0 0) (F0 m 0 ls []) := by
  obtain ⟨hx, hb, -⟩ := id X
  unfold wb_J5_removeNode_0 at h
  refine lv_aload_n (x := o) hx hb dJ5_removeNode_0 rfl (lv_at hl 0 rfl) ?_
  refine z_getq X hB.1 kc_J6 in_J6 (j := 0) (Nat.le_of_ble_eq_true rfl) q1045 (fun _ h => h) rfl (by decide) (z_fo hB ho (by decide)) dJ5_removeNode_1 ?_
  refine lv_dup hx hb dJ5_removeNode_4 z_cat ?_
  obtain ⟨y1, ey1⟩ : ∃ z : Option Nat, z = (Q o 0) := ⟨_, rfl⟩
  replace h := h y1 ey1
  refine z_stk (st' := [va_rf y1, va_rf y1]) (by rw [ey1]) ?_
  refine z_astore (x := y1) (lv' := [(6, va_rf y1), (0, .ref o), (1, .int x1), (2, va_rf x2), (3, va_rf x3), (4, .int x4), (5, .int x5)]) hx hb dJ5_removeNode_5 hl (by decide) rfl (fun ls hl9 => ?_)
  replace hl := hl9
  clear hl9
  refine z_ifnull (tgt := 289) hx hb dJ5_removeNode_7 (by decide) (fun c2 => ?_) (fun a3 c2 => ?_)
  · replace h := h.1 c2
    subst c2
    exact ww_J5_removeNode_289 X ho hoc  hB (lv_sub hl [] rfl) h
  · replace h := h.2 a3 c2
    subst c2
    refine lv_aload (x := a3) hx hb dJ5_removeNode_10 (lv_at hl 0 rfl) ?_
    obtain ⟨hk_a3, h⟩ := h
    refine z_alen (k := 5) X hB.1 (by decide) hk_a3 dJ5_removeNode_12 ?_
    refine lv_dup hx hb dJ5_removeNode_13 rfl ?_
    refine lv_topi (fun y4 ey4 => ?_)
    replace h := h y4 ey4
    refine lv_istore (lv' := [(8, .int y4), (6, .ref a3), (0, .ref o), (1, .int x1), (2, va_rf x2), (3, va_rf x3), (4, .int x4), (5, .int x5)]) hx hb dJ5_removeNode_14 hl (by decide) rfl (fun ls hl9 => ?_)
    replace hl := hl9
    clear hl9
    refine lv_if_le (tgt := 289) hx hb dJ5_removeNode_16 (by decide) (fun c5 => ?_) (fun c5 => ?_)
    · replace h := h.1 c5
      exact ww_J5_removeNode_289 X ho hoc  hB (lv_sub hl [] rfl) h
    · replace h := h.2 c5
      refine lv_aload (x := a3) hx hb dJ5_removeNode_19 (lv_at hl 1 rfl) ?_
      refine lv_iload hx hb dJ5_removeNode_21 (lv_at hl 0 rfl) ?_
      refine lv_iconst (v := 1) hx hb dJ5_removeNode_23 (by decide) ?_
      refine lv_isub hx hb dJ5_removeNode_24 ?_
      refine lv_iload_n hx hb dJ5_removeNode_25 rfl (lv_at hl 3 rfl) ?_
      refine lv_iand hx hb dJ5_removeNode_26 ?_
      refine lv_dup hx hb dJ5_removeNode_27 rfl ?_
      refine lv_topi (fun y6 ey6 => ?_)
      replace h := h y6 ey6
      refine lv_istore (lv' := [(9, .int y6), (8, .int y4), (6, .ref a3), (0, .ref o), (1, .int x1), (2, va_rf x2), (3, va_rf x3), (4, .int x4), (5, .int x5)]) hx hb dJ5_removeNode_28 hl (by decide) rfl (fun ls hl9 => ?_)
      replace hl := hl9
      clear hl9
      obtain ⟨h1, h⟩ := h
      refine z_aald (k := 5) X hB.1 (by decide) hk_a3 h1 dJ5_removeNode_30 ?_
      refine lv_dup hx hb dJ5_removeNode_31 z_cat ?_
      obtain ⟨y7, ey7⟩ : ∃ z : Option Nat, z = (Q a3 ((y4 - 1) &&& x1).toNatClampNeg) := ⟨_, rfl⟩
      replace h := h y7 ey7
      refine z_stk (st' := [va_rf y7, va_rf y7]) (by rw [ey7]) ?_
      refine z_astore (x := y7) (lv' := [(7, va_rf y7), (9, .int y6), (8, .int y4), (6, .ref a3), (0, .ref o), (1, .int x1), (2, va_rf x2), (3, va_rf x3), (4, .int x4), (5, .int x5)]) hx hb dJ5_removeNode_32 hl (by decide) rfl (fun ls hl9 => ?_)
      replace hl := hl9
      clear hl9
      refine z_ifnull (tgt := 289) hx hb dJ5_removeNode_34 (by decide) (fun c8 => ?_) (fun a9 c8 => ?_)
      · replace h := h.1 c8
        subst c8
        exact ww_J5_removeNode_289 X ho hoc  hB (lv_sub hl [] rfl) h
      · replace h := h.2 a9 c8
        subst c8
        refine lv_null hx hb dJ5_removeNode_37 ?_
        refine z_stk (st' := [va_rf none]) rfl ?_
        refine z_astore (x := none) (lv' := [(10, va_rf none), (7, .ref a9), (9, .int y6), (8, .int y4), (6, .ref a3), (0, .ref o), (1, .int x1), (2, va_rf x2), (3, va_rf x3), (4, .int x4), (5, .int x5)]) hx hb dJ5_removeNode_38 hl (by decide) rfl (fun ls hl9 => ?_)
        replace hl := hl9
        clear hl9
        refine lv_aload (x := a9) hx hb dJ5_removeNode_40 (lv_at hl 1 rfl) ?_
        obtain ⟨hk_a9, h⟩ := h
        refine z_geti X hB.1 kc_J42 in_J42 (j := 0) (Nat.le_of_ble_eq_true rfl) q1790 (fun _ h => h) rfl (by decide) hk_a9 dJ5_removeNode_42 ?_
        refine lv_iload_n hx hb dJ5_removeNode_45 rfl (lv_at hl 6 rfl) ?_
        refine lv_icmp_ne (tgt := 81) hx hb dJ5_removeNode_46 (by decide) (fun c10 => ?_) (fun c10 => ?_)
        · replace h := h.1 c10
          exact ww_J5_removeNode_81 X ho hoc  hB (lv_sub hl [5, 6, 7, 8, 9, 10, 4, 1, 2, 0] rfl) h
        · replace h := h.2 c10
          refine lv_aload (x := a9) hx hb dJ5_removeNode_49 (lv_at hl 1 rfl) ?_
          refine z_getq X hB.1 kc_J42 in_J42 (j := 1) (Nat.le_of_ble_eq_true rfl) q1797 (fun _ h => h) rfl (by decide) hk_a9 dJ5_removeNode_51 ?_
          refine lv_dup hx hb dJ5_removeNode_54 z_cat ?_
          obtain ⟨y11, ey11⟩ : ∃ z : Option Nat, z = (Q a9 1) := ⟨_, rfl⟩
          replace h := h y11 ey11
          refine z_stk (st' := [va_rf y11, va_rf y11]) (by rw [ey11]) ?_
          refine z_astore (x := y11) (lv' := [(12, va_rf y11), (10, va_rf none), (7, .ref a9), (9, .int y6), (8, .int y4), (6, .ref a3), (0, .ref o), (1, .int x1), (2, va_rf x2), (3, va_rf x3), (4, .int x4), (5, .int x5)]) hx hb dJ5_removeNode_55 hl (by decide) rfl (fun ls hl9 => ?_)
          replace hl := hl9
          clear hl9
          refine z_aload_n (x := x2) hx hb dJ5_removeNode_57 rfl (lv_at hl 8 rfl) ?_
          refine lv_acmp_eq (rx := y11) (ry := x2) (tgt := 74) hx hb dJ5_removeNode_58 (by decide) (fun c12 => ?_) (fun c12 => ?_)
          · replace h := h.1 c12
            exact ww_J5_removeNode_74 X ho hoc  hB (lv_sub hl [6, 9, 10, 11, 5, 2, 3] rfl) h
          · replace h := h.2 c12
            refine z_aload_n (x := x2) hx hb dJ5_removeNode_61 rfl (lv_at hl 8 rfl) ?_
            refine z_ifnull (tgt := 81) hx hb dJ5_removeNode_62 (by decide) (fun c13 => ?_) (fun a14 c13 => ?_)
            · replace h := h.1 c13
              subst c13
              exact ww_J5_removeNode_81 X ho hoc  hB (lv_sub hl [6, 7, 8, 9, 10, 11, 5, 2, 3, 1] rfl) h
            · replace h := h.2 a14 c13
              subst c13
              refine lv_aload_n (x := a14) hx hb dJ5_removeNode_65 rfl (lv_at hl 8 rfl) ?_
              refine z_aload (x := y11) hx hb dJ5_removeNode_66 (lv_at hl 0 rfl) ?_
              obtain ⟨hk_a14, h⟩ := h
              refine z_callzp (z_runO (rest := []) [va_rf y11] pu_X7_X7_equals_Object q2059 q2104 (met_X7_equals a14 y11 _ h) X hB (fun h => h) q2058 kc_X7 (by decide) hk_a14 rfl hl.1 (Nat.le_of_ble_eq_true rfl) dJ5_removeNode_68 (Nat.le_refl 0) (Nat.le_refl 0) (by decide) (by decide)) hB (fun r15 H locs hz h9 hB => ?_)
              replace h := h9
              clear h9
              replace h := h hz
              refine lv_if_eq (tgt := 81) hx hb dJ5_removeNode_71 (by decide) (fun c16 => ?_) (fun c16 => ?_)
              · replace h := h.1 c16
                exact ww_J5_removeNode_81 X ho hoc  hB (lv_sub hl [6, 7, 8, 9, 10, 11, 5, 2, 3, 1] rfl) h
              · replace h := h.2 c16
                exact ww_J5_removeNode_74 X ho hoc  hB (lv_sub hl [6, 9, 10, 11, 5, 2, 3] rfl) h
theorem met_J5_removeNode {l : Launch} {G : z_E} {T : z_T} {I : z_I} {Q : z_Q} (co : Nat) (o : Nat) (x1 : Int32) (x2 : Option Nat) (x3 : Option Nat) (x4 : Int32) (x5 : Int32) (Qk : Option Nat → z_T → z_I → z_Q → Prop) (h : wp_J5_removeNode co T I Q o x1 x2 x3 x4 x5 Qk) : z_GM l G yJ5_removeNode (ws_ yJ5_removeNode cJ5_removeNode 14 (some (.object "java/util/HashMap$Node"))) 9 144 0 0 [.ref o, .int x1, va_rf x2, va_rf x3, .int x4, .int x5] (z_co co) T I Q (z_qr Qk) z_no := by
  obtain ⟨ho, hoc, h⟩ := h
  refine z_body (own := RJ5) (nm := "removeNode") (by decide +kernel) rfl rfl (by cases x2 <;> cases x3 <;> exact Nat.le_of_ble_eq_true rfl) (fun p e R s m below meth c A ls X hB hl => ?_)
  replace hl : lv_has ls 14 [(0, .ref o), (1, .int x1), (2, va_rf x2), (3, va_rf x3), (4, .int x4), (5, .int x5)] := by cases x2 <;> cases x3 <;> exact hl
  exact ww_J5_removeNode_0 X ho hoc hB hl h
/-! J5_remove -/
theorem pu_J6_J5_removeNode : z_PU "java/util/LinkedHashMap" "java/util/HashMap" ⟨"java/util/HashMap", "removeNode", "(ILjava/lang/Object;Ljava/lang/Object;ZZ)Ljava/util/HashMap$Node;"⟩ yJ5_removeNode cJ5_removeNode 14 (some (.object "java/util/HashMap$Node")) 5 := ⟨q2478, q2479, q2477, q101, q2480, by decide +kernel⟩
theorem ww_J5_remove_25 {co : Nat} {o : Nat} {Qk : Option Nat → z_T → z_I → z_Q → Prop} (X : z_X l G A p R s m args meth c cJ5_remove 3 RJ5 "remove" (some (.object "java/lang/Object")) 0 0 10 177) (ho : (T0 o).1 = 22) {T : z_T} {I : z_I} {Q : z_Q} {s0 : Option Nat} {H : Heap} {locs : List Loc} {ls : Array Slot} (hB : z_HB G (z_co co) A s.heap T0 I0 Q0 T I Q H locs) (hl : lv_has ls 3 []) (h : wb_J5_remove_25 co o Qk T I Q s0) : W p l e R s m args below meth c H locs 0 0 (z_MQ below G (z_co co) A T0 I0 Q0 (z_qr Qk) z_no args s 0 0) (F0 m 25 ls [va_rf s0]) := by
  obtain ⟨hx, hb, -⟩ := id X
  unfold wb_J5_remove_25 at h
  exact z_aret (v := s0) X (by first | exact Or.inl ⟨_, rfl⟩ | exact Or.inr ⟨_, rfl⟩) hB ⟨_, rfl, h⟩ (Nat.le_refl 0) (Nat.le_refl 0) dJ5_remove_25
theorem ww_J5_remove_0 {co : Nat} {o : Nat} {Qk : Option Nat → z_T → z_I → z_Q → Prop} (X : z_X l G A p R s m args meth c cJ5_remove 3 RJ5 "remove" (some (.object "java/lang/Object")) 0 0 10 177) (ho : (T0 o).1 = 22) {T : z_T} {I : z_I} {Q : z_Q} {x1 : Option Nat} {H : Heap} {locs : List Loc} {ls : Array Slot} (hB : z_HB G (z_co co) A s.heap T0 I0 Q0 T I Q H locs) (hl : lv_has ls 3 [(0, .ref o), (1, va_rf x1)]) (h : wb_J5_remove_0 co o Qk T I Q x1) : W p l e R s m args below meth c H locs 0 0 (z_MQ below G (z_co co) A T0 I0 Q0 (z_qr Qk) z_no args s 0 0) (F0 m 0 ls []) := by
  obtain ⟨hx, hb, -⟩ := id X
  unfold wb_J5_remove_0 at h
  refine lv_aload_n (x := o) hx hb dJ5_remove_0 rfl (lv_at hl 0 rfl) ?_
  refine z_aload_n (x := x1) hx hb dJ5_remove_1 rfl (lv_at hl 1 rfl) ?_
  refine z_callip (z_runS (rest := [.ref o]) [va_rf x1] pk_J5_hash (met_J5_hash x1 _ h) X hB (fun h => h) q1643 rfl hl.1 (Nat.le_of_ble_eq_true rfl) dJ5_remove_2 (Nat.le_refl 0) (Nat.le_refl 0) (by decide) (by decide)) hB (fun r1 H locs h9 hB => ?_)
  replace h := h9
  clear h9
  refine z_aload_n (x := x1) hx hb dJ5_remove_5 rfl (lv_at hl 1 rfl) ?_
  refine lv_null hx hb dJ5_remove_6 ?_
  refine z_stk (st' := [va_rf none, va_rf x1, .int r1, .ref o]) rfl ?_
  refine lv_iconst (v := 0) hx hb dJ5_remove_7 (by decide) ?_
  refine lv_iconst (v := 1) hx hb dJ5_remove_8 (by decide) ?_
  refine z_callr (z_runU (rest := []) [.int r1, va_rf x1, va_rf none, .int 0, .int 1] pu_J6_J5_removeNode rfl (met_J5_removeNode co o r1 x1 none 0 1 _ h) X hB hB.2.2.2.2.2.2 q2476 kc_J6 (by decide) (z_fo hB ho (by decide)) rfl hl.1 (Nat.le_of_ble_eq_true rfl) dJ5_remove_9 (Nat.le_refl 0) (Nat.le_refl 0) (by decide) (by decide)) hB (fun _ h => h) (fun r2 T3 I4 Q5 H locs h9 hF hB => ?_)
  replace h := h9
  clear h9
  replace h := h hF
  refine lv_dup hx hb dJ5_remove_12 z_cat ?_
  refine z_astore_n (i := 2) (x := r2) (lv' := [(2, va_rf r2), (0, .ref o), (1, va_rf x1)]) hx hb dJ5_remove_13 rfl hl (by decide) (by simp [z_cat, z_rfs, z_catq]) (fun ls hl9 => ?_)
  replace hl := hl9
  clear hl9
  refine z_ifnonnull (tgt := 21) hx hb dJ5_remove_14 (by decide) (fun a7 c6 => ?_) (fun c6 => ?_)
  · replace h := h.2 a7 c6
    subst c6
    refine lv_aload_n (x := a7) hx hb dJ5_remove_21 rfl (lv_at hl 0 rfl) ?_
    obtain ⟨hk_a7, h⟩ := h
    refine z_getq X hB.1 kc_J42 in_J42 (j := 2) (Nat.le_of_ble_eq_true rfl) q1801 (fun _ h => h) rfl (by decide) hk_a7 dJ5_remove_22 ?_
    exact ww_J5_remove_25 X ho  hB (lv_sub hl [] rfl) h
  · replace h := h.1 c6
    subst c6
    refine lv_null hx hb dJ5_remove_17 ?_
    refine z_stk (st' := [va_rf none]) rfl ?_
    refine lv_goto (tgt := 25) hx hb dJ5_remove_18 (by decide) ?_
    exact ww_J5_remove_25 X ho  hB (lv_sub hl [] rfl) h
theorem met_J5_remove {l : Launch} {G : z_E} {T : z_T} {I : z_I} {Q : z_Q} (co : Nat) (o : Nat) (x1 : Option Nat) (Qk : Option Nat → z_T → z_I → z_Q → Prop) (h : wp_J5_remove co T I Q o x1 Qk) : z_GM l G yJ5_remove (ws_ yJ5_remove cJ5_remove 3 (some (.object "java/lang/Object"))) 10 177 0 0 [.ref o, va_rf x1] (z_co co) T I Q (z_qr Qk) z_no := by
  obtain ⟨ho, h⟩ := h
  refine z_body (own := RJ5) (nm := "remove") (by decide +kernel) rfl rfl (by cases x1 <;> exact Nat.le_of_ble_eq_true rfl) (fun p e R s m below meth c A ls X hB hl => ?_)
  replace hl : lv_has ls 3 [(0, .ref o), (1, va_rf x1)] := by cases x1 <;> exact hl
  exact ww_J5_remove_0 X ho hB hl h
/-! J2_remove -/
theorem pu_J6_J5_remove : z_PU "java/util/LinkedHashMap" "java/util/HashMap" ⟨"java/util/HashMap", "remove", "(Ljava/lang/Object;)Ljava/lang/Object;"⟩ yJ5_remove cJ5_remove 3 (some (.object "java/lang/Object")) 1 := ⟨q2473, q2474, q2472, q101, q2475, by decide +kernel⟩
theorem ww_J2_remove_19 {co : Nat} {o : Nat} {Qk : Int32 → z_T → z_I → z_Q → Prop} (X : z_X l G A p R s m args meth c cJ2_remove 2 RJ2 "remove" (some .boolean) 0 0 11 199) (ho : (T0 o).1 = 21) {T : z_T} {I : z_I} {Q : z_Q} {s0 : Int32} {H : Heap} {locs : List Loc} {ls : Array Slot} (hB : z_HB G (z_co co) A s.heap T0 I0 Q0 T I Q H locs) (hl : lv_has ls 2 []) (h : wb_J2_remove_19 G.2.2 co o Qk T I Q s0) : W p l e R s m args below meth c H locs 0 0 (z_MQ below G (z_co co) A T0 I0 Q0 (z_qz Qk) z_no args s 0 0) (F0 m 19 ls [.int s0]) := by
  obtain ⟨hx, hb, -⟩ := id X
  unfold wb_J2_remove_19 at h
  obtain ⟨hz, h⟩ := h
  exact z_zret X hB hz ⟨_, rfl, hz, h⟩ (Nat.le_refl 0) (Nat.le_refl 0) dJ2_remove_19
theorem ww_J2_remove_0 {co : Nat} {o : Nat} {Qk : Int32 → z_T → z_I → z_Q → Prop} (X : z_X l G A p R s m args meth c cJ2_remove 2 RJ2 "remove" (some .boolean) 0 0 11 199) (ho : (T0 o).1 = 21) {T : z_T} {I : z_I} {Q : z_Q} {x1 : Option Nat} {H : Heap} {locs : List Loc} {ls : Array Slot} (hB : z_HB G (z_co co) A s.heap T0 I0 Q0 T I Q H locs) (hl : lv_has ls 2 [(0, .ref o), (1, va_rf x1)]) (h : wb_J2_remove_0 G.2.2 co o Qk T I Q x1) : W p l e R s m args below meth c H locs 0 0 (z_MQ below G (z_co co) A T0 I0 Q0 (z_qz Qk) z_no args s 0 0) (F0 m 0 ls []) := by
  obtain ⟨hx, hb, -⟩ := id X
  unfold wb_J2_remove_0 at h
  refine lv_aload_n (x := o) hx hb dJ2_remove_0 rfl (lv_at hl 0 rfl) ?_
  refine z_getq X hB.1 kc_J3 in_J3 (j := 0) (Nat.le_of_ble_eq_true rfl) q1084 (fun _ h => h) rfl (by decide) (z_fo hB ho (by decide)) dJ2_remove_1 ?_
  refine z_aload_n (x := x1) hx hb dJ2_remove_4 rfl (lv_at hl 1 rfl) ?_
  obtain ⟨a1, ea1, h⟩ := h
  refine z_stk (st' := [va_rf x1, .ref a1]) (by rw [ea1] <;> rfl) ?_
  obtain ⟨hk_a1, h⟩ := h
  refine z_callr (z_runU (rest := []) [va_rf x1] pu_J6_J5_remove rfl (met_J5_remove co a1 x1 _ h) X hB hB.2.2.2.2.2.2 q2471 kc_J6 (by decide) hk_a1 rfl hl.1 (Nat.le_of_ble_eq_true rfl) dJ2_remove_5 (Nat.le_refl 0) (Nat.le_refl 0) (by decide) (by decide)) hB (fun _ h => h) (fun r2 T3 I4 Q5 H locs h9 hF hB => ?_)
  replace h := h9
  clear h9
  replace h := h hF
  refine z_getpr X hB q1636 dJ2_remove_8 ?_
  refine lv_acmp_ne (rx := r2) (ry := (some G.2.2.1.2.1)) (tgt := 18) hx hb dJ2_remove_11 (by decide) (fun c6 => ?_) (fun c6 => ?_)
  · replace h := h.1 c6
    refine lv_iconst (v := 0) hx hb dJ2_remove_18 (by decide) ?_
    exact ww_J2_remove_19 X ho  hB (lv_sub hl [] rfl) h
  · replace h := h.2 c6
    refine lv_iconst (v := 1) hx hb dJ2_remove_14 (by decide) ?_
    refine lv_goto (tgt := 19) hx hb dJ2_remove_15 (by decide) ?_
    exact ww_J2_remove_19 X ho  hB (lv_sub hl [] rfl) h
theorem met_J2_remove {l : Launch} {G : z_E} {T : z_T} {I : z_I} {Q : z_Q} (co : Nat) (o : Nat) (x1 : Option Nat) (Qk : Int32 → z_T → z_I → z_Q → Prop) (h : wp_J2_remove G.2.2 co T I Q o x1 Qk) : z_GM l G yJ2_remove (ws_ yJ2_remove cJ2_remove 2 (some .boolean)) 11 199 0 0 [.ref o, va_rf x1] (z_co co) T I Q (z_qz Qk) z_no := by
  obtain ⟨ho, h⟩ := h
  refine z_body (own := RJ2) (nm := "remove") (by decide +kernel) rfl rfl (by cases x1 <;> exact Nat.le_of_ble_eq_true rfl) (fun p e R s m below meth c A ls X hB hl => ?_)
  replace hl : lv_has ls 2 [(0, .ref o), (1, va_rf x1)] := by cases x1 <;> exact hl
  exact ww_J2_remove_0 X ho hB hl h
/-! X1_checkArgument -/
theorem ww_X1_checkArgument_0 {Qk : z_T → z_I → z_Q → Prop} {Xk : String → Nat → z_T → z_I → z_Q → Prop} (X : z_X l G A p R s m args meth c cX1_checkArgument 1 RX1 "checkArgument" none mc ms 8 120) {cells slots : Nat} {T : z_T} {I : z_I} {Q : z_Q} {kc : Nat} {ks : Nat} {x0 : Int32} {H : Heap} {locs : List Loc} {ls : Array Slot} (hB : z_HB G z_PR A s.heap T0 I0 Q0 T I Q H locs) (hK1 : cells + kc ≤ mc) (hK2 : slots + ks ≤ ms) (hl : lv_has ls 1 [(0, .int x0)]) (h : wb_X1_checkArgument_0 Qk Xk T I Q kc ks x0) : W p l e R s m args below meth c H locs cells slots (z_MQ below G z_PR A T0 I0 Q0 (z_qv Qk) Xk args s mc ms) (F0 m 0 ls []) := by
  obtain ⟨hx, hb, -⟩ := id X
  unfold wb_X1_checkArgument_0 at h
  refine lv_iload_n hx hb dX1_checkArgument_0 rfl (lv_at hl 0 rfl) ?_
  refine lv_if_ne (tgt := 12) hx hb dX1_checkArgument_1 (by decide) (fun c1 => ?_) (fun c1 => ?_)
  · replace h := h.1 c1
    exact z_vret X hB ⟨rfl, h⟩ (z_k3 hK1) (z_k3 hK2) dX1_checkArgument_12
  · replace h := h.2 c1
    obtain ⟨g1, g2, h⟩ := h
    exact z_thr (cls := "java/lang/IllegalArgumentException") (names := ["java/lang/RuntimeException", "java/lang/Exception"]) (by decide +kernel) X hB (by decide +kernel) (by decide +kernel) q2411 q106 thr_RobotCell_3 hl.1 dX1_checkArgument_4 dX1_checkArgument_7 dX1_checkArgument_8 dX1_checkArgument_11 (by decide) (by simp [Value.category]) (z_k1 hK1 g1) (z_k1 hK2 g2) h
theorem pk_X1_checkArgument : z_PS yX1_checkArgument cX1_checkArgument 1 none 1 := ⟨q2409, q94, q2410, by decide +kernel⟩
theorem met_X1_checkArgument {l : Launch} {G : z_E} {T : z_T} {I : z_I} {Q : z_Q} (x0 : Int32) (kc : Nat) (ks : Nat) (Qk : z_T → z_I → z_Q → Prop) (Xk : String → Nat → z_T → z_I → z_Q → Prop) (h : wp_X1_checkArgument T I Q x0 kc ks Qk Xk) : z_GM l G yX1_checkArgument (ws_ yX1_checkArgument cX1_checkArgument 1 none) 8 120 kc ks [.int x0] z_PR T I Q (z_qv Qk) Xk := by
  refine z_body (own := RX1) (nm := "checkArgument") (by decide +kernel) rfl rfl (Nat.le_of_ble_eq_true rfl) (fun p e R s m below meth c A ls X hB hl => ?_)
  exact ww_X1_checkArgument_0 X hB z_k0 z_k0 hl h
/-! X1_inRange -/
theorem ww_X1_inRange_15 {Qk : Int32 → Prop} (X : z_X l G A p R s m args meth c cX1_inRange 3 RX1 "inRange" (some .boolean) 0 0 8 120) {s0 : Int32} {H : Heap} {locs : List Loc} {ls : Array Slot} (hB : z_HB G z_none A s.heap T I Q T I Q H locs) (hl : lv_has ls 3 []) (h : wb_X1_inRange_15 Qk s0) : W p l e R s m args below meth c H locs 0 0 (z_MQ below G z_none A T I Q (z_pz Qk T I Q) z_no args s 0 0) (F0 m 15 ls [.int s0]) := by
  obtain ⟨hx, hb, -⟩ := id X
  unfold wb_X1_inRange_15 at h
  obtain ⟨hz, h⟩ := h
  exact z_zret X hB hz ⟨_, rfl, hz, h, rfl, rfl, rfl⟩ (Nat.le_refl 0) (Nat.le_refl 0) dX1_inRange_15
theorem ww_X1_inRange_14 {Qk : Int32 → Prop} (X : z_X l G A p R s m args meth c cX1_inRange 3 RX1 "inRange" (some .boolean) 0 0 8 120) {H : Heap} {locs : List Loc} {ls : Array Slot} (hB : z_HB G z_none A s.heap T I Q T I Q H locs) (hl : lv_has ls 3 []) (h : wb_X1_inRange_14 Qk ) : W p l e R s m args below meth c H locs 0 0 (z_MQ below G z_none A T I Q (z_pz Qk T I Q) z_no args s 0 0) (F0 m 14 ls []) := by
  obtain ⟨hx, hb, -⟩ := id X
  unfold wb_X1_inRange_14 at h
  refine lv_iconst (v := 0) hx hb dX1_inRange_14 (by decide) ?_
  exact ww_X1_inRange_15 X  hB (lv_sub hl [] rfl) h
theorem ww_X1_inRange_0 {Qk : Int32 → Prop} (X : z_X l G A p R s m args meth c cX1_inRange 3 RX1 "inRange" (some .boolean) 0 0 8 120) {x0 : Int32} {x1 : Int32} {x2 : Int32} {H : Heap} {locs : List Loc} {ls : Array Slot} (hB : z_HB G z_none A s.heap T I Q T I Q H locs) (hl : lv_has ls 3 [(0, .int x0), (1, .int x1), (2, .int x2)]) (h : wb_X1_inRange_0 Qk x0 x1 x2) : W p l e R s m args below meth c H locs 0 0 (z_MQ below G z_none A T I Q (z_pz Qk T I Q) z_no args s 0 0) (F0 m 0 ls []) := by
  obtain ⟨hx, hb, -⟩ := id X
  unfold wb_X1_inRange_0 at h
  refine lv_iload_n hx hb dX1_inRange_0 rfl (lv_at hl 0 rfl) ?_
  refine lv_iload_n hx hb dX1_inRange_1 rfl (lv_at hl 1 rfl) ?_
  refine lv_icmp_lt (tgt := 14) hx hb dX1_inRange_2 (by decide) (fun c1 => ?_) (fun c1 => ?_)
  · replace h := h.1 c1
    exact ww_X1_inRange_14 X  hB (lv_sub hl [] rfl) h
  · replace h := h.2 c1
    refine lv_iload_n hx hb dX1_inRange_5 rfl (lv_at hl 0 rfl) ?_
    refine lv_iload_n hx hb dX1_inRange_6 rfl (lv_at hl 2 rfl) ?_
    refine lv_icmp_gt (tgt := 14) hx hb dX1_inRange_7 (by decide) (fun c2 => ?_) (fun c2 => ?_)
    · replace h := h.1 c2
      exact ww_X1_inRange_14 X  hB (lv_sub hl [] rfl) h
    · replace h := h.2 c2
      refine lv_iconst (v := 1) hx hb dX1_inRange_10 (by decide) ?_
      refine lv_goto (tgt := 15) hx hb dX1_inRange_11 (by decide) ?_
      exact ww_X1_inRange_15 X  hB (lv_sub hl [] rfl) h
theorem pk_X1_inRange : z_PS yX1_inRange cX1_inRange 3 (some .boolean) 3 := ⟨q2391, q94, q2392, by decide +kernel⟩
theorem met_X1_inRange {l : Launch} {G : z_E} {T : z_T} {I : z_I} {Q : z_Q} (x0 : Int32) (x1 : Int32) (x2 : Int32) (Qk : Int32 → Prop) (h : wp_X1_inRange x0 x1 x2 Qk) : z_GM l G yX1_inRange (ws_ yX1_inRange cX1_inRange 3 (some .boolean)) 8 120 0 0 [.int x0, .int x1, .int x2] z_none T I Q (z_pz Qk T I Q) z_no := by
  refine z_body (own := RX1) (nm := "inRange") (by decide +kernel) rfl rfl (Nat.le_of_ble_eq_true rfl) (fun p e R s m below meth c A ls X hB hl => ?_)
  exact ww_X1_inRange_0 X hB hl h
/-! X1_checkIndex -/
theorem ww_X1_checkIndex_0 {Qk : z_T → z_I → z_Q → Prop} {Xk : String → Nat → z_T → z_I → z_Q → Prop} (X : z_X l G A p R s m args meth c cX1_checkIndex 2 RX1 "checkIndex" none mc ms 9 142) {cells slots : Nat} {T : z_T} {I : z_I} {Q : z_Q} {kc : Nat} {ks : Nat} {x0 : Int32} {x1 : Int32} {H : Heap} {locs : List Loc} {ls : Array Slot} (hB : z_HB G z_PR A s.heap T0 I0 Q0 T I Q H locs) (hK1 : cells + kc ≤ mc) (hK2 : slots + ks ≤ ms) (hl : lv_has ls 2 [(0, .int x0), (1, .int x1)]) (h : wb_X1_checkIndex_0 Qk Xk T I Q kc ks x0 x1) : W p l e R s m args below meth c H locs cells slots (z_MQ below G z_PR A T0 I0 Q0 (z_qv Qk) Xk args s mc ms) (F0 m 0 ls []) := by
  obtain ⟨hx, hb, -⟩ := id X
  unfold wb_X1_checkIndex_0 at h
  refine lv_iload_n hx hb dX1_checkIndex_0 rfl (lv_at hl 0 rfl) ?_
  refine lv_iconst (v := 0) hx hb dX1_checkIndex_1 (by decide) ?_
  refine lv_iload_n hx hb dX1_checkIndex_2 rfl (lv_at hl 1 rfl) ?_
  refine lv_iconst (v := 1) hx hb dX1_checkIndex_3 (by decide) ?_
  refine lv_isub hx hb dX1_checkIndex_4 ?_
  refine z_callzp (z_runS (rest := []) [.int x0, .int 0, .int (x1 - 1)] pk_X1_inRange (met_X1_inRange x0 0 (x1 - 1) _ h) X hB (fun h => h) q2390 rfl hl.1 (Nat.le_of_ble_eq_true rfl) dX1_checkIndex_5 (z_k4 hK1) (z_k4 hK2) (by decide) (by decide)) hB (fun r1 H locs hz h9 hB => ?_)
  replace h := h9
  clear h9
  replace h := h hz
  refine lv_if_ne (tgt := 19) hx hb dX1_checkIndex_8 (by decide) (fun c2 => ?_) (fun c2 => ?_)
  · replace h := h.1 c2
    exact z_vret X hB ⟨rfl, h⟩ (z_k3 hK1) (z_k3 hK2) dX1_checkIndex_19
  · replace h := h.2 c2
    obtain ⟨g1, g2, h⟩ := h
    exact z_thr (cls := "java/lang/IndexOutOfBoundsException") (names := ["java/lang/RuntimeException", "java/lang/Exception"]) (by decide +kernel) X hB (by decide +kernel) (by decide +kernel) q2393 q132 thr_RobotCell_18 hl.1 dX1_checkIndex_11 dX1_checkIndex_14 dX1_checkIndex_15 dX1_checkIndex_18 (by decide) (by simp [Value.category]) (z_k1 hK1 g1) (z_k1 hK2 g2) h
theorem pk_X1_checkIndex : z_PS yX1_checkIndex cX1_checkIndex 2 none 2 := ⟨q2388, q94, q2389, by decide +kernel⟩
theorem met_X1_checkIndex {l : Launch} {G : z_E} {T : z_T} {I : z_I} {Q : z_Q} (x0 : Int32) (x1 : Int32) (kc : Nat) (ks : Nat) (Qk : z_T → z_I → z_Q → Prop) (Xk : String → Nat → z_T → z_I → z_Q → Prop) (h : wp_X1_checkIndex T I Q x0 x1 kc ks Qk Xk) : z_GM l G yX1_checkIndex (ws_ yX1_checkIndex cX1_checkIndex 2 none) 9 142 kc ks [.int x0, .int x1] z_PR T I Q (z_qv Qk) Xk := by
  refine z_body (own := RX1) (nm := "checkIndex") (by decide +kernel) rfl rfl (Nat.le_of_ble_eq_true rfl) (fun p e R s m below meth c A ls X hB hl => ?_)
  exact ww_X1_checkIndex_0 X hB z_k0 z_k0 hl h
/-! X1_checkState -/
theorem ww_X1_checkState_0 {Qk : z_T → z_I → z_Q → Prop} {Xk : String → Nat → z_T → z_I → z_Q → Prop} (X : z_X l G A p R s m args meth c cX1_checkState 1 RX1 "checkState" none mc ms 8 120) {cells slots : Nat} {T : z_T} {I : z_I} {Q : z_Q} {kc : Nat} {ks : Nat} {x0 : Int32} {H : Heap} {locs : List Loc} {ls : Array Slot} (hB : z_HB G z_PR A s.heap T0 I0 Q0 T I Q H locs) (hK1 : cells + kc ≤ mc) (hK2 : slots + ks ≤ ms) (hl : lv_has ls 1 [(0, .int x0)]) (h : wb_X1_checkState_0 Qk Xk T I Q kc ks x0) : W p l e R s m args below meth c H locs cells slots (z_MQ below G z_PR A T0 I0 Q0 (z_qv Qk) Xk args s mc ms) (F0 m 0 ls []) := by
  obtain ⟨hx, hb, -⟩ := id X
  unfold wb_X1_checkState_0 at h
  refine lv_iload_n hx hb dX1_checkState_0 rfl (lv_at hl 0 rfl) ?_
  refine lv_if_ne (tgt := 12) hx hb dX1_checkState_1 (by decide) (fun c1 => ?_) (fun c1 => ?_)
  · replace h := h.1 c1
    exact z_vret X hB ⟨rfl, h⟩ (z_k3 hK1) (z_k3 hK2) dX1_checkState_12
  · replace h := h.2 c1
    obtain ⟨g1, g2, h⟩ := h
    exact z_thr (cls := "java/lang/IllegalStateException") (names := ["java/lang/RuntimeException", "java/lang/Exception"]) (by decide +kernel) X hB (by decide +kernel) (by decide +kernel) q2459 q124 thr_RobotCell_9 hl.1 dX1_checkState_4 dX1_checkState_7 dX1_checkState_8 dX1_checkState_11 (by decide) (by simp [Value.category]) (z_k1 hK1 g1) (z_k1 hK2 g2) h
theorem pk_X1_checkState : z_PS yX1_checkState cX1_checkState 1 none 1 := ⟨q2457, q94, q2458, by decide +kernel⟩
theorem met_X1_checkState {l : Launch} {G : z_E} {T : z_T} {I : z_I} {Q : z_Q} (x0 : Int32) (kc : Nat) (ks : Nat) (Qk : z_T → z_I → z_Q → Prop) (Xk : String → Nat → z_T → z_I → z_Q → Prop) (h : wp_X1_checkState T I Q x0 kc ks Qk Xk) : z_GM l G yX1_checkState (ws_ yX1_checkState cX1_checkState 1 none) 8 120 kc ks [.int x0] z_PR T I Q (z_qv Qk) Xk := by
  refine z_body (own := RX1) (nm := "checkState") (by decide +kernel) rfl rfl (Nat.le_of_ble_eq_true rfl) (fun p e R s m below meth c A ls X hB hl => ?_)
  exact ww_X1_checkState_0 X hB z_k0 z_k0 hl h
/-! X1_contains -/
theorem ww_X1_contains_14 {Qk : Int32 → Prop} (X : z_X l G A p R s m args meth c cX1_contains 2 RX1 "contains" (some .boolean) 0 0 8 120) {s0 : Int32} {H : Heap} {locs : List Loc} {ls : Array Slot} (hB : z_HB G z_none A s.heap T I Q T I Q H locs) (hl : lv_has ls 2 []) (h : wb_X1_contains_14 Qk s0) : W p l e R s m args below meth c H locs 0 0 (z_MQ below G z_none A T I Q (z_pz Qk T I Q) z_no args s 0 0) (F0 m 14 ls [.int s0]) := by
  obtain ⟨hx, hb, -⟩ := id X
  unfold wb_X1_contains_14 at h
  obtain ⟨hz, h⟩ := h
  exact z_zret X hB hz ⟨_, rfl, hz, h, rfl, rfl, rfl⟩ (Nat.le_refl 0) (Nat.le_refl 0) dX1_contains_14
theorem ww_X1_contains_0 {Qk : Int32 → Prop} (X : z_X l G A p R s m args meth c cX1_contains 2 RX1 "contains" (some .boolean) 0 0 8 120) {x0 : Int32} {x1 : Int32} {H : Heap} {locs : List Loc} {ls : Array Slot} (hB : z_HB G z_none A s.heap T I Q T I Q H locs) (hl : lv_has ls 2 [(0, .int x0), (1, .int x1)]) (h : wb_X1_contains_0 Qk x0 x1) : W p l e R s m args below meth c H locs 0 0 (z_MQ below G z_none A T I Q (z_pz Qk T I Q) z_no args s 0 0) (F0 m 0 ls []) := by
  obtain ⟨hx, hb, -⟩ := id X
  unfold wb_X1_contains_0 at h
  refine lv_iload_n hx hb dX1_contains_0 rfl (lv_at hl 0 rfl) ?_
  refine lv_iload_n hx hb dX1_contains_1 rfl (lv_at hl 1 rfl) ?_
  refine lv_ishr hx hb dX1_contains_2 ?_
  refine lv_iconst (v := 1) hx hb dX1_contains_3 (by decide) ?_
  refine lv_iand hx hb dX1_contains_4 ?_
  refine lv_iconst (v := 1) hx hb dX1_contains_5 (by decide) ?_
  refine lv_icmp_ne (tgt := 13) hx hb dX1_contains_6 (by decide) (fun c1 => ?_) (fun c1 => ?_)
  · replace h := h.1 c1
    refine lv_iconst (v := 0) hx hb dX1_contains_13 (by decide) ?_
    exact ww_X1_contains_14 X  hB (lv_sub hl [] rfl) h
  · replace h := h.2 c1
    refine lv_iconst (v := 1) hx hb dX1_contains_9 (by decide) ?_
    refine lv_goto (tgt := 14) hx hb dX1_contains_10 (by decide) ?_
    exact ww_X1_contains_14 X  hB (lv_sub hl [] rfl) h
theorem pk_X1_contains : z_PS yX1_contains cX1_contains 2 (some .boolean) 2 := ⟨q1378, q94, q1379, by decide +kernel⟩
theorem met_X1_contains {l : Launch} {G : z_E} {T : z_T} {I : z_I} {Q : z_Q} (x0 : Int32) (x1 : Int32) (Qk : Int32 → Prop) (h : wp_X1_contains x0 x1 Qk) : z_GM l G yX1_contains (ws_ yX1_contains cX1_contains 2 (some .boolean)) 8 120 0 0 [.int x0, .int x1] z_none T I Q (z_pz Qk T I Q) z_no := by
  refine z_body (own := RX1) (nm := "contains") (by decide +kernel) rfl rfl (Nat.le_of_ble_eq_true rfl) (fun p e R s m below meth c A ls X hB hl => ?_)
  exact ww_X1_contains_0 X hB hl h
/-! X4_order -/
theorem ww_X4_order_0 {T : z_T} {I : z_I} {Q : z_Q} {o : Nat} {Qk : Option Nat → Prop} (X : z_X l G A p R s m args meth c cX4_order 1 RX4 "order" (some (.object "RobotCell$Order")) 0 0 8 120) (ho : (T o).1 = 4) {H : Heap} {locs : List Loc} {ls : Array Slot} (hB : z_HB G z_none A s.heap T I Q T I Q H locs) (hl : lv_has ls 1 [(0, .ref o)]) (h : wb_X4_order_0 T I Q o Qk ) : W p l e R s m args below meth c H locs 0 0 (z_MQ below G z_none A T I Q (z_pr Qk T I Q) z_no args s 0 0) (F0 m 0 ls []) := by
  obtain ⟨hx, hb, -⟩ := id X
  unfold wb_X4_order_0 at h
  refine lv_aload_n (x := o) hx hb dX4_order_0 rfl (lv_at hl 0 rfl) ?_
  refine z_getq X hB.1 kc_X4 in_X4 (j := 3) (Nat.le_of_ble_eq_true rfl) q1185 (fun _ h => h) rfl (by decide) ho dX4_order_1 ?_
  obtain ⟨a1, ea1, h⟩ := h
  refine z_stk (st' := [.ref a1]) (by rw [ea1] <;> rfl) ?_
  obtain ⟨hk_a1, h⟩ := h
  refine z_getqN X hB.1 kc_X6 in_X6 (j := 1) (Nat.le_of_ble_eq_true rfl) q2290 (fun _ h => h) rfl (by decide) hk_a1 dX4_order_4 ?_
  exact z_aret (v := (Q a1 1)) X (by first | exact Or.inl ⟨_, rfl⟩ | exact Or.inr ⟨_, rfl⟩) hB ⟨_, rfl, h, rfl, rfl, rfl⟩ (Nat.le_refl 0) (Nat.le_refl 0) dX4_order_7
theorem pk_X4_order : z_PV RX4 yX4_order cX4_order 1 (some (.object "RobotCell$Order")) 0 := ⟨q1337, q1338, q130, q1339, by decide +kernel⟩
theorem met_X4_order {l : Launch} {G : z_E} {T : z_T} {I : z_I} {Q : z_Q} (o : Nat) (Qk : Option Nat → Prop) (h : wp_X4_order T I Q o Qk) : z_GM l G yX4_order (ws_ yX4_order cX4_order 1 (some (.object "RobotCell$Order"))) 8 120 0 0 [.ref o] z_none T I Q (z_pr Qk T I Q) z_no := by
  obtain ⟨ho, h⟩ := h
  refine z_body (own := RX4) (nm := "order") (by decide +kernel) rfl rfl (Nat.le_of_ble_eq_true rfl) (fun p e R s m below meth c A ls X hB hl => ?_)
  exact ww_X4_order_0 X ho hB hl h
/-! X4_held -/
theorem ww_X4_held_56 {T : z_T} {I : z_I} {Q : z_Q} {o : Nat} {Qk : Int32 → Prop} (X : z_X l G A p R s m args meth c cX4_held 2 RX4 "held" (some .int) 0 0 9 140) (ho : (T o).1 = 4) {s0 : Int32} {H : Heap} {locs : List Loc} {ls : Array Slot} (hB : z_HB G z_none A s.heap T I Q T I Q H locs) (hl : lv_has ls 2 []) (h : wb_X4_held_56 T I Q o Qk s0) : W p l e R s m args below meth c H locs 0 0 (z_MQ below G z_none A T I Q (z_pi Qk T I Q) z_no args s 0 0) (F0 m 56 ls [.int s0]) := by
  obtain ⟨hx, hb, -⟩ := id X
  unfold wb_X4_held_56 at h
  exact z_iret X hB ⟨_, rfl, h, rfl, rfl, rfl⟩ (Nat.le_refl 0) (Nat.le_refl 0) dX4_held_56
theorem ww_X4_held_25 {T : z_T} {I : z_I} {Q : z_Q} {o : Nat} {Qk : Int32 → Prop} (X : z_X l G A p R s m args meth c cX4_held 2 RX4 "held" (some .int) 0 0 9 140) (ho : (T o).1 = 4) {s0 : Int32} {H : Heap} {locs : List Loc} {ls : Array Slot} (hB : z_HB G z_none A s.heap T I Q T I Q H locs) (hl : lv_has ls 2 [(0, .ref o)]) (h : wb_X4_held_25 T I Q o Qk s0) : W p l e R s m args below meth c H locs 0 0 (z_MQ below G z_none A T I Q (z_pi Qk T I Q) z_no args s 0 0) (F0 m 25 ls [.int s0]) := by
  obtain ⟨hx, hb, -⟩ := id X
  unfold wb_X4_held_25 at h
  refine lv_istore_n (lv' := [(1, .int s0), (0, .ref o)]) hx hb dX4_held_25 rfl hl (by decide) rfl (fun ls hl9 => ?_)
  replace hl := hl9
  clear hl9
  refine lv_aload_n (x := o) hx hb dX4_held_26 rfl (lv_at hl 1 rfl) ?_
  refine z_geti X hB.1 kc_X4 in_X4 (j := 4) (Nat.le_of_ble_eq_true rfl) q1187 (fun _ h => h) rfl (by decide) ho dX4_held_27 ?_
  refine lv_iconst (v := 2) hx hb dX4_held_30 (by decide) ?_
  refine lv_icmp_ne (tgt := 55) hx hb dX4_held_31 (by decide) (fun c5 => ?_) (fun c5 => ?_)
  · replace h := h.1 c5
    refine lv_iload_n hx hb dX4_held_55 rfl (lv_at hl 0 rfl) ?_
    exact ww_X4_held_56 X ho  hB (lv_sub hl [] rfl) h
  · replace h := h.2 c5
    refine lv_iload_n hx hb dX4_held_34 rfl (lv_at hl 0 rfl) ?_
    refine lv_iconst (v := 1) hx hb dX4_held_35 (by decide) ?_
    refine lv_aload_n (x := o) hx hb dX4_held_36 rfl (lv_at hl 1 rfl) ?_
    refine z_callrp (z_runV (rest := [.int 1, .int s0]) [] pk_X4_order (met_X4_order o _ h) X hB (fun h => h) q1336 kc_X4 (by decide) ho rfl hl.1 (Nat.le_of_ble_eq_true rfl) dX4_held_37 (Nat.le_refl 0) (Nat.le_refl 0) (by decide) (by decide)) hB (fun r6 H locs h9 hB => ?_)
    replace h := h9
    clear h9
    obtain ⟨a7, rfl, h⟩ := h
    obtain ⟨hk_a7, h⟩ := h
    refine z_getqN X hB.1 kc_X8 in_X8 (j := 2) (Nat.le_of_ble_eq_true rfl) q2648 (fun _ h => h) rfl (by decide) hk_a7 dX4_held_40 ?_
    refine lv_aload_n (x := o) hx hb dX4_held_43 rfl (lv_at hl 1 rfl) ?_
    refine z_geti X hB.1 kc_X4 in_X4 (j := 5) (Nat.le_of_ble_eq_true rfl) q1190 (fun _ h => h) rfl (by decide) ho dX4_held_44 ?_
    refine lv_iconst (v := 1) hx hb dX4_held_47 (by decide) ?_
    refine lv_iadd hx hb dX4_held_48 ?_
    obtain ⟨a8, ea8, h⟩ := h
    refine z_stk (st' := [.int ((I o 5) + 1), .ref a8, .int 1, .int s0]) (by rw [ea8] <;> rfl) ?_
    obtain ⟨hk_a8, h⟩ := h
    obtain ⟨h1, h⟩ := h
    refine z_iald X hB.1 hk_a8 h1 dX4_held_49 ?_
    refine lv_ishl hx hb dX4_held_50 ?_
    refine lv_ior hx hb dX4_held_51 ?_
    refine lv_goto (tgt := 56) hx hb dX4_held_52 (by decide) ?_
    exact ww_X4_held_56 X ho  hB (lv_sub hl [] rfl) h
theorem ww_X4_held_0 {T : z_T} {I : z_I} {Q : z_Q} {o : Nat} {Qk : Int32 → Prop} (X : z_X l G A p R s m args meth c cX4_held 2 RX4 "held" (some .int) 0 0 9 140) (ho : (T o).1 = 4) {H : Heap} {locs : List Loc} {ls : Array Slot} (hB : z_HB G z_none A s.heap T I Q T I Q H locs) (hl : lv_has ls 2 [(0, .ref o)]) (h : wb_X4_held_0 T I Q o Qk ) : W p l e R s m args below meth c H locs 0 0 (z_MQ below G z_none A T I Q (z_pi Qk T I Q) z_no args s 0 0) (F0 m 0 ls []) := by
  obtain ⟨hx, hb, -⟩ := id X
  unfold wb_X4_held_0 at h
  refine lv_aload_n (x := o) hx hb dX4_held_0 rfl (lv_at hl 0 rfl) ?_
  refine z_geti X hB.1 kc_X4 in_X4 (j := 4) (Nat.le_of_ble_eq_true rfl) q1187 (fun _ h => h) rfl (by decide) ho dX4_held_1 ?_
  refine lv_if_ne (tgt := 11) hx hb dX4_held_4 (by decide) (fun c1 => ?_) (fun c1 => ?_)
  · replace h := h.1 c1
    refine lv_iconst (v := 1) hx hb dX4_held_11 (by decide) ?_
    refine lv_aload_n (x := o) hx hb dX4_held_12 rfl (lv_at hl 0 rfl) ?_
    refine z_callrp (z_runV (rest := [.int 1]) [] pk_X4_order (met_X4_order o _ h) X hB (fun h => h) q1336 kc_X4 (by decide) ho rfl hl.1 (Nat.le_of_ble_eq_true rfl) dX4_held_13 (Nat.le_refl 0) (Nat.le_refl 0) (by decide) (by decide)) hB (fun r2 H locs h9 hB => ?_)
    replace h := h9
    clear h9
    obtain ⟨a3, rfl, h⟩ := h
    obtain ⟨hk_a3, h⟩ := h
    refine z_getqN X hB.1 kc_X8 in_X8 (j := 2) (Nat.le_of_ble_eq_true rfl) q2648 (fun _ h => h) rfl (by decide) hk_a3 dX4_held_16 ?_
    refine lv_aload_n (x := o) hx hb dX4_held_19 rfl (lv_at hl 0 rfl) ?_
    refine z_geti X hB.1 kc_X4 in_X4 (j := 5) (Nat.le_of_ble_eq_true rfl) q1190 (fun _ h => h) rfl (by decide) ho dX4_held_20 ?_
    obtain ⟨a4, ea4, h⟩ := h
    refine z_stk (st' := [.int (I o 5), .ref a4, .int 1]) (by rw [ea4] <;> rfl) ?_
    obtain ⟨hk_a4, h⟩ := h
    obtain ⟨h1, h⟩ := h
    refine z_iald X hB.1 hk_a4 h1 dX4_held_23 ?_
    refine lv_ishl hx hb dX4_held_24 ?_
    exact ww_X4_held_25 X ho  hB (lv_sub hl [0] rfl) h
  · replace h := h.2 c1
    refine lv_iconst (v := 0) hx hb dX4_held_7 (by decide) ?_
    refine lv_goto (tgt := 25) hx hb dX4_held_8 (by decide) ?_
    exact ww_X4_held_25 X ho  hB (lv_sub hl [0] rfl) h
theorem pk_X4_held : z_PV RX4 yX4_held cX4_held 2 (some .int) 0 := ⟨q1333, q1334, q130, q1335, by decide +kernel⟩
theorem met_X4_held {l : Launch} {G : z_E} {T : z_T} {I : z_I} {Q : z_Q} (o : Nat) (Qk : Int32 → Prop) (h : wp_X4_held T I Q o Qk) : z_GM l G yX4_held (ws_ yX4_held cX4_held 2 (some .int)) 9 140 0 0 [.ref o] z_none T I Q (z_pi Qk T I Q) z_no := by
  obtain ⟨ho, h⟩ := h
  refine z_body (own := RX4) (nm := "held") (by decide +kernel) rfl rfl (Nat.le_of_ble_eq_true rfl) (fun p e R s m below meth c A ls X hB hl => ?_)
  exact ww_X4_held_0 X ho hB hl h
/-! X1_holder -/
theorem ww_X1_holder_48 {T : z_T} {I : z_I} {Q : z_Q} {k14 : Int32 → Int32 → Option Nat → Int32 → Int32 → Prop} {Qk : Int32 → Prop} (X : z_X l G A p R s m args meth c cX1_holder 7 RX1 "holder" (some .int) 0 0 10 161) (hk14 : ∀ {x1 : Int32} {x2 : Int32} {x3 : Option Nat} {x4 : Int32} {x5 : Int32} {H : Heap} {locs : List Loc} {ls : Array Slot}, z_HB G z_none A s.heap T I Q T I Q H locs → lv_has ls 7 [(1, .int x1), (2, .int x2), (3, va_rf x3), (4, .int x4), (5, .int x5)] → k14 x1 x2 x3 x4 x5 → W p l e R s m args below meth c H locs 0 0 (z_MQ below G z_none A T I Q (z_pi Qk T I Q) z_no args s 0 0) (F0 m 14 ls [])) {x1 : Int32} {x3 : Option Nat} {x4 : Int32} {x5 : Int32} {s0 : Int32} {H : Heap} {locs : List Loc} {ls : Array Slot} (hB : z_HB G z_none A s.heap T I Q T I Q H locs) (hl : lv_has ls 7 [(1, .int x1), (3, va_rf x3), (4, .int x4), (5, .int x5)]) (h : wb_X1_holder_48 T I Q k14 Qk x1 x3 x4 x5 s0) : W p l e R s m args below meth c H locs 0 0 (z_MQ below G z_none A T I Q (z_pi Qk T I Q) z_no args s 0 0) (F0 m 48 ls [.int s0]) := by
  obtain ⟨hx, hb, -⟩ := id X
  unfold wb_X1_holder_48 at h
  refine lv_istore_n (lv' := [(2, .int s0), (1, .int x1), (3, va_rf x3), (4, .int x4), (5, .int x5)]) hx hb dX1_holder_48 rfl hl (by decide) rfl (fun ls hl9 => ?_)
  replace hl := hl9
  clear hl9
  obtain ⟨y12, ey12⟩ : ∃ z : Int32, z = x5 + 1 := ⟨_, rfl⟩
  replace h := h y12 ey12
  refine lv_iinc (v := y12) (lv' := [(5, .int y12), (2, .int s0), (1, .int x1), (3, va_rf x3), (4, .int x4)]) hx hb dX1_holder_49 hl (k := 4) rfl (by rw [ey12]; rfl) (by decide) rfl (fun ls hl9 => ?_)
  replace hl := hl9
  clear hl9
  refine lv_goto (tgt := 14) hx hb dX1_holder_52 (by decide) ?_
  exact hk14 hB (lv_sub hl [2, 1, 3, 4, 0] rfl) h
theorem wv_X1_holder_14 {T : z_T} {I : z_I} {Q : z_Q} {Qk : Int32 → Prop} (X : z_X l G A p R s m args meth c cX1_holder 7 RX1 "holder" (some .int) 0 0 10 161) : ∀ (n : Nat) {x1 : Int32} {x2 : Int32} {x3 : Option Nat} {x4 : Int32} {x5 : Int32} {H : Heap} {locs : List Loc} {ls : Array Slot}, z_HB G z_none A s.heap T I Q T I Q H locs → lv_has ls 7 [(1, .int x1), (2, .int x2), (3, va_rf x3), (4, .int x4), (5, .int x5)] → wl_X1_holder_14 T I Q Qk n x1 x2 x3 x4 x5 → W p l e R s m args below meth c H locs 0 0 (z_MQ below G z_none A T I Q (z_pi Qk T I Q) z_no args s 0 0) (F0 m 14 ls []) := by
  intro n
  induction n with
  | zero =>
    intro x1 x2 x3 x4 x5 H locs ls hB hl h
    exact h.elim
  | succ n ih =>
    intro x1 x2 x3 x4 x5 H locs ls hB hl h
    obtain ⟨hx, hb, -⟩ := id X
    unfold wl_X1_holder_14 at h
    refine lv_iload hx hb dX1_holder_14 (lv_at hl 4 rfl) ?_
    refine lv_iload hx hb dX1_holder_16 (lv_at hl 3 rfl) ?_
    refine lv_icmp_ge (tgt := 55) hx hb dX1_holder_18 (by decide) (fun c5 => ?_) (fun c5 => ?_)
    · replace h := h.1 c5
      refine lv_iload_n hx hb dX1_holder_55 rfl (lv_at hl 1 rfl) ?_
      exact z_iret X hB ⟨_, rfl, h, rfl, rfl, rfl⟩ (Nat.le_refl 0) (Nat.le_refl 0) dX1_holder_56
    · replace h := h.2 c5
      refine z_aload_n (x := x3) hx hb dX1_holder_21 rfl (lv_at hl 2 rfl) ?_
      refine lv_iload hx hb dX1_holder_22 (lv_at hl 4 rfl) ?_
      obtain ⟨a6, rfl, h⟩ := h
      obtain ⟨hk_a6, h⟩ := h
      obtain ⟨h1, h⟩ := h
      refine z_aald (k := 4) X hB.1 (by decide) hk_a6 h1 dX1_holder_24 ?_
      obtain ⟨y7, ey7⟩ : ∃ z : Option Nat, z = (Q a6 x5.toNatClampNeg) := ⟨_, rfl⟩
      replace h := h y7 ey7
      refine z_stk (st' := [va_rf y7]) (by rw [ey7]) ?_
      refine z_astore (x := y7) (lv' := [(6, va_rf y7), (1, .int x1), (2, .int x2), (3, .ref a6), (4, .int x4), (5, .int x5)]) hx hb dX1_holder_25 hl (by decide) rfl (fun ls hl9 => ?_)
      replace hl := hl9
      clear hl9
      refine z_aload (x := y7) hx hb dX1_holder_27 (lv_at hl 0 rfl) ?_
      obtain ⟨a8, rfl, h⟩ := h
      obtain ⟨hk_a8, h⟩ := h
      refine z_callip (z_runV (rest := []) [] pk_X4_held (met_X4_held a8 _ h) X hB (fun h => h) q2454 kc_X4 (by decide) hk_a8 rfl hl.1 (Nat.le_of_ble_eq_true rfl) dX1_holder_29 (Nat.le_refl 0) (Nat.le_refl 0) (by decide) (by decide)) hB (fun r9 H locs h9 hB => ?_)
      replace h := h9
      clear h9
      refine lv_iload_n hx hb dX1_holder_32 rfl (lv_at hl 1 rfl) ?_
      refine z_callzp (z_runS (rest := []) [.int r9, .int x1] pk_X1_contains (met_X1_contains r9 x1 _ h) X hB (fun h => h) q2455 rfl hl.1 (Nat.le_of_ble_eq_true rfl) dX1_holder_33 (Nat.le_refl 0) (Nat.le_refl 0) (by decide) (by decide)) hB (fun r10 H locs hz h9 hB => ?_)
      replace h := h9
      clear h9
      replace h := h hz
      refine lv_if_eq (tgt := 47) hx hb dX1_holder_36 (by decide) (fun c11 => ?_) (fun c11 => ?_)
      · replace h := h.1 c11
        refine lv_iload_n hx hb dX1_holder_47 rfl (lv_at hl 2 rfl) ?_
        exact ww_X1_holder_48 X (fun hB hl h => ih hB hl h) hB (lv_sub hl [1, 3, 4, 5] rfl) h
      · replace h := h.2 c11
        refine lv_aload (x := a8) hx hb dX1_holder_39 (lv_at hl 0 rfl) ?_
        refine z_getiN X hB.1 kc_X4 in_X4 (j := 0) (Nat.le_of_ble_eq_true rfl) q1179 (fun _ h => h) rfl (by decide) hk_a8 dX1_holder_41 ?_
        refine lv_goto (tgt := 48) hx hb dX1_holder_44 (by decide) ?_
        exact ww_X1_holder_48 X (fun hB hl h => ih hB hl h) hB (lv_sub hl [1, 3, 4, 5] rfl) h
theorem ww_X1_holder_0 {T : z_T} {I : z_I} {Q : z_Q} {Qk : Int32 → Prop} (X : z_X l G A p R s m args meth c cX1_holder 7 RX1 "holder" (some .int) 0 0 10 161) {x0 : Option Nat} {x1 : Int32} {H : Heap} {locs : List Loc} {ls : Array Slot} (hB : z_HB G z_none A s.heap T I Q T I Q H locs) (hl : lv_has ls 7 [(0, va_rf x0), (1, .int x1)]) (h : wb_X1_holder_0 T I Q Qk x0 x1) : W p l e R s m args below meth c H locs 0 0 (z_MQ below G z_none A T I Q (z_pi Qk T I Q) z_no args s 0 0) (F0 m 0 ls []) := by
  obtain ⟨hx, hb, -⟩ := id X
  unfold wb_X1_holder_0 at h
  refine lv_iconst (v := (-1)) hx hb dX1_holder_0 (by decide) ?_
  refine lv_istore_n (lv' := [(2, .int (-1)), (0, va_rf x0), (1, .int x1)]) hx hb dX1_holder_1 rfl hl (by decide) rfl (fun ls hl9 => ?_)
  replace hl := hl9
  clear hl9
  refine z_aload_n (x := x0) hx hb dX1_holder_2 rfl (lv_at hl 1 rfl) ?_
  obtain ⟨a1, rfl, h⟩ := h
  obtain ⟨hk_a1, h⟩ := h
  refine z_getqN X hB.1 kc_X2 in_X2 (j := 2) (Nat.le_of_ble_eq_true rfl) q1243 (fun _ h => h) rfl (by decide) hk_a1 dX1_holder_3 ?_
  obtain ⟨y2, ey2⟩ : ∃ z : Option Nat, z = (Q a1 2) := ⟨_, rfl⟩
  replace h := h y2 ey2
  refine z_stk (st' := [va_rf y2]) (by rw [ey2]) ?_
  refine z_astore_n (x := y2) (lv' := [(3, va_rf y2), (2, .int (-1)), (0, .ref a1), (1, .int x1)]) hx hb dX1_holder_6 rfl hl (by decide) rfl (fun ls hl9 => ?_)
  replace hl := hl9
  clear hl9
  refine z_aload_n (x := y2) hx hb dX1_holder_7 rfl (lv_at hl 0 rfl) ?_
  obtain ⟨a3, rfl, h⟩ := h
  obtain ⟨hk_a3, h⟩ := h
  refine z_alen (k := 4) X hB.1 (by decide) hk_a3 dX1_holder_8 ?_
  refine lv_topi (fun y4 ey4 => ?_)
  replace h := h y4 ey4
  refine lv_istore (lv' := [(4, .int y4), (3, .ref a3), (2, .int (-1)), (0, .ref a1), (1, .int x1)]) hx hb dX1_holder_9 hl (by decide) rfl (fun ls hl9 => ?_)
  replace hl := hl9
  clear hl9
  refine lv_iconst (v := 0) hx hb dX1_holder_11 (by decide) ?_
  refine lv_istore (lv' := [(5, .int 0), (4, .int y4), (3, .ref a3), (2, .int (-1)), (0, .ref a1), (1, .int x1)]) hx hb dX1_holder_12 hl (by decide) rfl (fun ls hl9 => ?_)
  replace hl := hl9
  clear hl9
  obtain ⟨w, h⟩ := h
  exact wv_X1_holder_14 X  w hB (lv_sub hl [5, 3, 2, 1, 0] rfl) h
theorem pk_X1_holder : z_PS yX1_holder cX1_holder 7 (some .int) 2 := ⟨q2452, q94, q2453, by decide +kernel⟩
theorem met_X1_holder {l : Launch} {G : z_E} {T : z_T} {I : z_I} {Q : z_Q} (x0 : Option Nat) (x1 : Int32) (Qk : Int32 → Prop) (h : wp_X1_holder T I Q x0 x1 Qk) : z_GM l G yX1_holder (ws_ yX1_holder cX1_holder 7 (some .int)) 10 161 0 0 [va_rf x0, .int x1] z_none T I Q (z_pi Qk T I Q) z_no := by
  refine z_body (own := RX1) (nm := "holder") (by decide +kernel) rfl rfl (by cases x0 <;> exact Nat.le_of_ble_eq_true rfl) (fun p e R s m below meth c A ls X hB hl => ?_)
  replace hl : lv_has ls 7 [(0, va_rf x0), (1, .int x1)] := by cases x0 <;> exact hl
  exact ww_X1_holder_0 X hB hl h
/-! X7_init -/
theorem ww_X7_init_0 {co : Nat} {o : Nat} {Qk : z_T → z_I → z_Q → Prop} (X : z_X l G A p R s m args meth c cX7_init 3 RX7 "<init>" none 0 0 8 120) (ho : (T0 o).1 = 9) (hoc : (T0 o).2.2 = co) {T : z_T} {I : z_I} {Q : z_Q} {x1 : Int32} {x2 : Int32} {H : Heap} {locs : List Loc} {ls : Array Slot} (hB : z_HB G (z_co co) A s.heap T0 I0 Q0 T I Q H locs) (hl : lv_has ls 3 [(0, .ref o), (1, .int x1), (2, .int x2)]) (h : wb_X7_init_0 co o Qk T I Q x1 x2) : W p l e R s m args below meth c H locs 0 0 (z_MQ below G (z_co co) A T0 I0 Q0 (z_qv Qk) z_no args s 0 0) (F0 m 0 ls []) := by
  obtain ⟨hx, hb, -⟩ := id X
  unfold wb_X7_init_0 at h
  refine lv_aload_n (x := o) hx hb dX7_init_0 rfl (lv_at hl 0 rfl) ?_
  refine z_objInit (rest := []) X q2421 hl.1 dX7_init_1 (by decide) (Nat.le_of_ble_eq_true rfl) ?_
  refine lv_aload_n (x := o) hx hb dX7_init_4 rfl (lv_at hl 0 rfl) ?_
  refine lv_iload_n hx hb dX7_init_5 rfl (lv_at hl 1 rfl) ?_
  refine lv_iload_n hx hb dX7_init_6 rfl (lv_at hl 2 rfl) ?_
  refine z_mmin (rest := [.ref o]) X hl.1 q2422 (by decide) (Nat.le_of_ble_eq_true rfl) (Nat.le_refl 0) (Nat.le_refl 0) dX7_init_7 ?_
  obtain ⟨I1, eI1⟩ : ∃ z, z = z_up I o 0 (if x2 < x1 then x2 else x1) := ⟨_, rfl⟩
  replace h := h I1 eI1
  refine z_putiF (x := (if x2 < x1 then x2 else x1)) eI1 tyX7 X hB kc_X7 in_X7 tyX7_ok nmX7 (j := 0) (Nat.le_of_ble_eq_true rfl) q2424 (fun _ h => h) rfl rfl rfl (by decide) (z_fo hB ho (by decide)) (z_foc hB ho (by decide) hoc) rfl (Or.inl rfl) dX7_init_10 (fun H locs hB => ?_)
  refine lv_aload_n (x := o) hx hb dX7_init_13 rfl (lv_at hl 0 rfl) ?_
  refine lv_iload_n hx hb dX7_init_14 rfl (lv_at hl 1 rfl) ?_
  refine lv_iload_n hx hb dX7_init_15 rfl (lv_at hl 2 rfl) ?_
  refine z_mmax (rest := [.ref o]) X hl.1 q2423 (by decide) (Nat.le_of_ble_eq_true rfl) (Nat.le_refl 0) (Nat.le_refl 0) dX7_init_16 ?_
  obtain ⟨I2, eI2⟩ : ∃ z, z = z_up I1 o 1 (if x1 < x2 then x2 else x1) := ⟨_, rfl⟩
  replace h := h I2 eI2
  refine z_putiF (x := (if x1 < x2 then x2 else x1)) eI2 tyX7 X hB kc_X7 in_X7 tyX7_ok nmX7 (j := 1) (Nat.le_of_ble_eq_true rfl) q2425 (fun _ h => h) rfl rfl rfl (by decide) (z_fo hB ho (by decide)) (z_foc hB ho (by decide) hoc) rfl (Or.inl rfl) dX7_init_19 (fun H locs hB => ?_)
  exact z_vret X hB ⟨rfl, h⟩ (Nat.le_refl 0) (Nat.le_refl 0) dX7_init_22
theorem pk_X7_init : z_PI yX7_init cX7_init 3 2 := ⟨q2419, q150, q2420, rfl, by decide +kernel⟩
theorem met_X7_init {l : Launch} {G : z_E} {T : z_T} {I : z_I} {Q : z_Q} (co : Nat) (o : Nat) (x1 : Int32) (x2 : Int32) (Qk : z_T → z_I → z_Q → Prop) (h : wp_X7_init co T I Q o x1 x2 Qk) : z_GM l G yX7_init (ws_ yX7_init cX7_init 3 none) 8 120 0 0 [.ref o, .int x1, .int x2] (z_co co) T I Q (z_qv Qk) z_no := by
  obtain ⟨ho, hoc, h⟩ := h
  refine z_body (own := RX7) (nm := "<init>") (by decide +kernel) rfl rfl (Nat.le_of_ble_eq_true rfl) (fun p e R s m below meth c A ls X hB hl => ?_)
  exact ww_X7_init_0 X ho hoc hB hl h
/-! X1_setInterlockIn -/
theorem pu_J3_J2_contains_LinkedHashSet : z_PU "java/util/LinkedHashSet" "java/util/HashSet" ⟨"java/util/LinkedHashSet", "contains", "(Ljava/lang/Object;)Z"⟩ yJ2_contains cJ2_contains 2 (some .boolean) 1 := ⟨q2432, q2434, q2435, q98, q2436, by decide +kernel⟩
theorem pu_J3_J2_remove_LinkedHashSet : z_PU "java/util/LinkedHashSet" "java/util/HashSet" ⟨"java/util/LinkedHashSet", "remove", "(Ljava/lang/Object;)Z"⟩ yJ2_remove cJ2_remove 2 (some .boolean) 1 := ⟨q2466, q2468, q2469, q98, q2470, by decide +kernel⟩
theorem pu_J3_J2_add_LinkedHashSet : z_PU "java/util/LinkedHashSet" "java/util/HashSet" ⟨"java/util/LinkedHashSet", "add", "(Ljava/lang/Object;)Z"⟩ yJ2_add cJ2_add 2 (some .boolean) 1 := ⟨q1631, q1633, q1634, q98, q1635, by decide +kernel⟩
theorem ww_X1_setInterlockIn_122 {Qk : Int32 → z_T → z_I → z_Q → Prop} {Xk : String → Nat → z_T → z_I → z_Q → Prop} (X : z_X l G A p R s m args meth c cX1_setInterlockIn 9 RX1 "setInterlockIn" (some .boolean) mc ms 14 268) {cells slots : Nat} {T : z_T} {I : z_I} {Q : z_Q} {kc : Nat} {ks : Nat} {x5 : Int32} {s0 : Int32} {H : Heap} {locs : List Loc} {ls : Array Slot} (hB : z_HB G z_PR A s.heap T0 I0 Q0 T I Q H locs) (hK1 : cells + kc ≤ mc) (hK2 : slots + ks ≤ ms) (hl : lv_has ls 9 [(5, .int x5)]) (h : wb_X1_setInterlockIn_122 G.2.2 Qk Xk T I Q kc ks x5 s0) : W p l e R s m args below meth c H locs cells slots (z_MQ below G z_PR A T0 I0 Q0 (z_qz Qk) Xk args s mc ms) (F0 m 122 ls [.int s0]) := by
  obtain ⟨hx, hb, -⟩ := id X
  unfold wb_X1_setInterlockIn_122 at h
  refine lv_istore (lv' := [(8, .int s0), (5, .int x5)]) hx hb dX1_setInterlockIn_122 hl (by decide) rfl (fun ls hl9 => ?_)
  replace hl := hl9
  clear hl9
  refine lv_iload hx hb dX1_setInterlockIn_124 (lv_at hl 1 rfl) ?_
  obtain ⟨hz, h⟩ := h
  exact z_zret X hB hz ⟨_, rfl, hz, h⟩ (z_k3 hK1) (z_k3 hK2) dX1_setInterlockIn_126
theorem ww_X1_setInterlockIn_94 {Qk : Int32 → z_T → z_I → z_Q → Prop} {Xk : String → Nat → z_T → z_I → z_Q → Prop} (X : z_X l G A p R s m args meth c cX1_setInterlockIn 9 RX1 "setInterlockIn" (some .boolean) mc ms 14 268) {cells slots : Nat} {T : z_T} {I : z_I} {Q : z_Q} {kc : Nat} {ks : Nat} {x0 : Option Nat} {x3 : Int32} {x4 : Option Nat} {x5 : Int32} {s0 : Int32} {H : Heap} {locs : List Loc} {ls : Array Slot} (hB : z_HB G z_PR A s.heap T0 I0 Q0 T I Q H locs) (hK1 : cells + kc ≤ mc) (hK2 : slots + ks ≤ ms) (hl : lv_has ls 9 [(0, va_rf x0), (3, .int x3), (4, va_rf x4), (5, .int x5)]) (h : wb_X1_setInterlockIn_94 G.2.2 Qk Xk T I Q kc ks x0 x3 x4 x5 s0) : W p l e R s m args below meth c H locs cells slots (z_MQ below G z_PR A T0 I0 Q0 (z_qz Qk) Xk args s mc ms) (F0 m 94 ls [.int s0]) := by
  obtain ⟨hx, hb, -⟩ := id X
  unfold wb_X1_setInterlockIn_94 at h
  obtain ⟨kc41, ks42, g1, g2, h⟩ := h
  refine z_callXv (z_runS (rest := []) [.int s0] pk_X1_checkState (met_X1_checkState s0 kc41 ks42 _ _ h) X hB hB.2.2.2.2.2.2 q2456 rfl hl.1 (Nat.le_of_ble_eq_true rfl) dX1_setInterlockIn_94 (z_k1 hK1 g1) (z_k1 hK2 g2) (by decide) (by decide)) hB (fun _ h => h) (z_on (by decide +kernel) X (z_k1 hK1 g1) (z_k1 hK2 g2)) (fun T43 I44 Q45 H locs h9 hF hB => ?_)
  replace h := h9
  clear h9
  replace h := h hF
  replace hK1 := z_k2 hK1 g1
  replace hK2 := z_k2 hK2 g2
  refine lv_iload_n hx hb dX1_setInterlockIn_97 rfl (lv_at hl 1 rfl) ?_
  refine lv_if_eq (tgt := 113) hx hb dX1_setInterlockIn_98 (by decide) (fun c46 => ?_) (fun c46 => ?_)
  · replace h := h.1 c46
    refine z_aload_n (x := x0) hx hb dX1_setInterlockIn_113 rfl (lv_at hl 0 rfl) ?_
    obtain ⟨a47, rfl, h⟩ := h
    obtain ⟨hk_a47, h⟩ := h
    refine z_getqN X hB.1 kc_X2 in_X2 (j := 0) (Nat.le_of_ble_eq_true rfl) q1236 (fun _ h => h) rfl (by decide) hk_a47 dX1_setInterlockIn_114 ?_
    refine z_aload (x := x4) hx hb dX1_setInterlockIn_117 (lv_at hl 2 rfl) ?_
    obtain ⟨a48, ea48, h⟩ := h
    refine z_stk (st' := [va_rf x4, .ref a48]) (by rw [ea48] <;> rfl) ?_
    obtain ⟨hk_a48, h⟩ := h
    obtain ⟨co50, hco50, h⟩ := h
    refine z_callz (z_runU (rest := []) [va_rf x4] pu_J3_J2_remove_LinkedHashSet rfl (met_J2_remove co50 a48 x4 _ h) X hB (z_coR0 hco50) q2465 kc_J3 (by decide) hk_a48 rfl hl.1 (Nat.le_of_ble_eq_true rfl) dX1_setInterlockIn_119 (z_k4 hK1) (z_k4 hK2) (by decide) (by decide)) hB (z_coR hco50) (fun r49 T51 I52 Q53 H locs hz h9 hF hB => ?_)
    replace h := h9
    clear h9
    replace h := h hz hF
    have hk_a47 := z_tk hF hk_a47 (by decide)
    exact ww_X1_setInterlockIn_122 X  hB hK1 hK2 (lv_sub hl [3] rfl) h
  · replace h := h.2 c46
    refine z_aload_n (x := x0) hx hb dX1_setInterlockIn_101 rfl (lv_at hl 0 rfl) ?_
    obtain ⟨a54, rfl, h⟩ := h
    obtain ⟨hk_a54, h⟩ := h
    refine z_getqN X hB.1 kc_X2 in_X2 (j := 0) (Nat.le_of_ble_eq_true rfl) q1236 (fun _ h => h) rfl (by decide) hk_a54 dX1_setInterlockIn_102 ?_
    refine z_aload (x := x4) hx hb dX1_setInterlockIn_105 (lv_at hl 2 rfl) ?_
    obtain ⟨a55, ea55, h⟩ := h
    refine z_stk (st' := [va_rf x4, .ref a55]) (by rw [ea55] <;> rfl) ?_
    obtain ⟨hk_a55, h⟩ := h
    obtain ⟨co57, hco57, h⟩ := h
    obtain ⟨kc58, ks59, g1, g2, h⟩ := h
    refine z_callz (z_runU (rest := []) [va_rf x4] pu_J3_J2_add_LinkedHashSet rfl (met_J2_add co57 a55 x4 kc58 ks59 _ h) X hB (z_coR0 hco57) q2464 kc_J3 (by decide) hk_a55 rfl hl.1 (Nat.le_of_ble_eq_true rfl) dX1_setInterlockIn_107 (z_k1 hK1 g1) (z_k1 hK2 g2) (by decide) (by decide)) hB (z_coR hco57) (fun r56 T60 I61 Q62 H locs hz h9 hF hB => ?_)
    replace h := h9
    clear h9
    replace h := h hz hF
    have hk_a54 := z_tk hF hk_a54 (by decide)
    replace hK1 := z_k2 hK1 g1
    replace hK2 := z_k2 hK2 g2
    refine lv_goto (tgt := 122) hx hb dX1_setInterlockIn_110 (by decide) ?_
    exact ww_X1_setInterlockIn_122 X  hB hK1 hK2 (lv_sub hl [3] rfl) h
theorem ww_X1_setInterlockIn_89 {Qk : Int32 → z_T → z_I → z_Q → Prop} {Xk : String → Nat → z_T → z_I → z_Q → Prop} (X : z_X l G A p R s m args meth c cX1_setInterlockIn 9 RX1 "setInterlockIn" (some .boolean) mc ms 14 268) {cells slots : Nat} {T : z_T} {I : z_I} {Q : z_Q} {kc : Nat} {ks : Nat} {x0 : Option Nat} {x3 : Int32} {x4 : Option Nat} {x5 : Int32} {H : Heap} {locs : List Loc} {ls : Array Slot} (hB : z_HB G z_PR A s.heap T0 I0 Q0 T I Q H locs) (hK1 : cells + kc ≤ mc) (hK2 : slots + ks ≤ ms) (hl : lv_has ls 9 [(0, va_rf x0), (3, .int x3), (4, va_rf x4), (5, .int x5)]) (h : wb_X1_setInterlockIn_89 G.2.2 Qk Xk T I Q kc ks x0 x3 x4 x5) : W p l e R s m args below meth c H locs cells slots (z_MQ below G z_PR A T0 I0 Q0 (z_qz Qk) Xk args s mc ms) (F0 m 89 ls []) := by
  obtain ⟨hx, hb, -⟩ := id X
  unfold wb_X1_setInterlockIn_89 at h
  refine lv_iconst (v := 1) hx hb dX1_setInterlockIn_89 (by decide) ?_
  refine lv_goto (tgt := 94) hx hb dX1_setInterlockIn_90 (by decide) ?_
  exact ww_X1_setInterlockIn_94 X  hB hK1 hK2 (lv_sub hl [0, 1, 2, 3] rfl) h
theorem ww_X1_setInterlockIn_22 {Qk : Int32 → z_T → z_I → z_Q → Prop} {Xk : String → Nat → z_T → z_I → z_Q → Prop} (X : z_X l G A p R s m args meth c cX1_setInterlockIn 9 RX1 "setInterlockIn" (some .boolean) mc ms 14 268) {cells slots : Nat} {T : z_T} {I : z_I} {Q : z_Q} {kc : Nat} {ks : Nat} {x0 : Option Nat} {x1 : Int32} {x2 : Int32} {x3 : Int32} {s0 : Int32} {H : Heap} {locs : List Loc} {ls : Array Slot} (hB : z_HB G z_PR A s.heap T0 I0 Q0 T I Q H locs) (hK1 : cells + kc ≤ mc) (hK2 : slots + ks ≤ ms) (hl : lv_has ls 9 [(0, va_rf x0), (1, .int x1), (2, .int x2), (3, .int x3)]) (h : wb_X1_setInterlockIn_22 G.2.2 Qk Xk T I Q kc ks x0 x1 x2 x3 s0) : W p l e R s m args below meth c H locs cells slots (z_MQ below G z_PR A T0 I0 Q0 (z_qz Qk) Xk args s mc ms) (F0 m 22 ls [.int s0]) := by
  obtain ⟨hx, hb, -⟩ := id X
  unfold wb_X1_setInterlockIn_22 at h
  obtain ⟨kc15, ks16, g1, g2, h⟩ := h
  refine z_callXv (z_runS (rest := []) [.int s0] pk_X1_checkArgument (met_X1_checkArgument s0 kc15 ks16 _ _ h) X hB hB.2.2.2.2.2.2 q2408 rfl hl.1 (Nat.le_of_ble_eq_true rfl) dX1_setInterlockIn_22 (z_k1 hK1 g1) (z_k1 hK2 g2) (by decide) (by decide)) hB (fun _ h => h) (z_on (by decide +kernel) X (z_k1 hK1 g1) (z_k1 hK2 g2)) (fun T17 I18 Q19 H locs h9 hF hB => ?_)
  replace h := h9
  clear h9
  replace h := h hF
  replace hK1 := z_k2 hK1 g1
  replace hK2 := z_k2 hK2 g2
  obtain ⟨co20, hco20, h⟩ := h
  obtain ⟨g1, g2, h⟩ := h
  refine z_new (col := co20) tyX7 X hB kc_X7 in_X7 tyX7_ok q2416 q2417 q150 (by decide) (z_dvX7) hco20 (z_k1 hK1 g1) (z_k1 hK2 g2) dX1_setInterlockIn_25 (fun a21 H hq hB => ?_)
  obtain ⟨T22, eT22⟩ : ∃ z, z = z_t T17 a21 (9, 0, co20) := ⟨_, rfl⟩
  obtain ⟨I23, eI23⟩ : ∃ z, z = z_row I18 a21 (fun _ => 0) := ⟨_, rfl⟩
  obtain ⟨Q24, eQ24⟩ : ∃ z, z = z_row Q19 a21 (fun _ => none) := ⟨_, rfl⟩
  rw [← eT22, ← eI23, ← eQ24] at hB
  replace h := h a21 T22 I23 Q24 hq eT22 eI23 eQ24
  have hk_a21 := z_tq eT22
  have hc_a21 : 3 ≤ (T22 a21).2.2 := by rw [z_tqc eT22]; exact hco20
  replace hK1 := z_k2 hK1 g1
  replace hK2 := z_k2 hK2 g2
  refine lv_dup hx hb dX1_setInterlockIn_28 rfl ?_
  refine lv_iload_n hx hb dX1_setInterlockIn_29 rfl (lv_at hl 1 rfl) ?_
  refine lv_iload_n hx hb dX1_setInterlockIn_30 rfl (lv_at hl 2 rfl) ?_
  obtain ⟨co26, hco26, h⟩ := h
  refine z_callv (z_runI (rest := [.ref a21]) [.int x1, .int x2] pk_X7_init (met_X7_init co26 a21 x1 x2 _ h) X hB (z_coR0 hco26) q2418 rfl hl.1 (Nat.le_of_ble_eq_true rfl) dX1_setInterlockIn_31 (z_k4 hK1) (z_k4 hK2) (by decide) (by decide)) hB (z_coR hco26) (fun T27 I28 Q29 H locs h9 hF hB => ?_)
  replace h := h9
  clear h9
  replace h := h hF
  have hc_a21 : 3 ≤ (T27 a21).2.2 := by rw [z_te hF hk_a21 (by decide)]; exact hc_a21
  have hk_a21 := z_tk hF hk_a21 (by decide)
  refine lv_astore (x := a21) (lv' := [(4, .ref a21), (0, va_rf x0), (1, .int x1), (2, .int x2), (3, .int x3)]) hx hb dX1_setInterlockIn_34 hl (by decide) rfl (fun ls hl9 => ?_)
  replace hl := hl9
  clear hl9
  refine z_aload_n (x := x0) hx hb dX1_setInterlockIn_36 rfl (lv_at hl 1 rfl) ?_
  obtain ⟨a30, rfl, h⟩ := h
  obtain ⟨hk_a30, h⟩ := h
  refine z_getqN X hB.1 kc_X2 in_X2 (j := 0) (Nat.le_of_ble_eq_true rfl) q1236 (fun _ h => h) rfl (by decide) hk_a30 dX1_setInterlockIn_37 ?_
  refine lv_aload (x := a21) hx hb dX1_setInterlockIn_40 (lv_at hl 0 rfl) ?_
  obtain ⟨a31, ea31, h⟩ := h
  refine z_stk (st' := [.ref a21, .ref a31]) (by rw [ea31] <;> rfl) ?_
  obtain ⟨hk_a31, h⟩ := h
  refine z_callzp (z_runU (rest := []) [.ref a21] pu_J3_J2_contains_LinkedHashSet rfl (met_J2_contains a31 (some a21) _ h) X hB (fun h => h) q2431 kc_J3 (by decide) hk_a31 rfl hl.1 (Nat.le_of_ble_eq_true rfl) dX1_setInterlockIn_42 (z_k4 hK1) (z_k4 hK2) (by decide) (by decide)) hB (fun r32 H locs hz h9 hB => ?_)
  replace h := h9
  clear h9
  replace h := h hz
  refine lv_istore (lv' := [(5, .int r32), (4, .ref a21), (0, .ref a30), (1, .int x1), (2, .int x2), (3, .int x3)]) hx hb dX1_setInterlockIn_45 hl (by decide) rfl (fun ls hl9 => ?_)
  replace hl := hl9
  clear hl9
  refine lv_aload_n (x := a30) hx hb dX1_setInterlockIn_47 rfl (lv_at hl 2 rfl) ?_
  refine lv_iload_n hx hb dX1_setInterlockIn_48 rfl (lv_at hl 3 rfl) ?_
  refine z_callip (z_runS (rest := []) [.ref a30, .int x1] pk_X1_holder (met_X1_holder (some a30) x1 _ h) X hB (fun h => h) q2451 rfl hl.1 (Nat.le_of_ble_eq_true rfl) dX1_setInterlockIn_49 (z_k4 hK1) (z_k4 hK2) (by decide) (by decide)) hB (fun r33 H locs h9 hB => ?_)
  replace h := h9
  clear h9
  refine lv_istore (lv' := [(6, .int r33), (5, .int r32), (4, .ref a21), (0, .ref a30), (1, .int x1), (2, .int x2), (3, .int x3)]) hx hb dX1_setInterlockIn_52 hl (by decide) rfl (fun ls hl9 => ?_)
  replace hl := hl9
  clear hl9
  refine lv_aload_n (x := a30) hx hb dX1_setInterlockIn_54 rfl (lv_at hl 3 rfl) ?_
  refine lv_iload_n hx hb dX1_setInterlockIn_55 rfl (lv_at hl 5 rfl) ?_
  refine z_callip (z_runS (rest := []) [.ref a30, .int x2] pk_X1_holder (met_X1_holder (some a30) x2 _ h) X hB (fun h => h) q2451 rfl hl.1 (Nat.le_of_ble_eq_true rfl) dX1_setInterlockIn_56 (z_k4 hK1) (z_k4 hK2) (by decide) (by decide)) hB (fun r34 H locs h9 hB => ?_)
  replace h := h9
  clear h9
  refine lv_istore (lv' := [(7, .int r34), (6, .int r33), (5, .int r32), (4, .ref a21), (0, .ref a30), (1, .int x1), (2, .int x2), (3, .int x3)]) hx hb dX1_setInterlockIn_59 hl (by decide) rfl (fun ls hl9 => ?_)
  replace hl := hl9
  clear hl9
  refine lv_iload_n hx hb dX1_setInterlockIn_61 rfl (lv_at hl 7 rfl) ?_
  refine lv_if_eq (tgt := 89) hx hb dX1_setInterlockIn_62 (by decide) (fun c35 => ?_) (fun c35 => ?_)
  · replace h := h.1 c35
    exact ww_X1_setInterlockIn_89 X  hB hK1 hK2 (lv_sub hl [4, 7, 3, 2] rfl) h
  · replace h := h.2 c35
    refine lv_iload hx hb dX1_setInterlockIn_65 (lv_at hl 2 rfl) ?_
    refine lv_if_ne (tgt := 89) hx hb dX1_setInterlockIn_67 (by decide) (fun c36 => ?_) (fun c36 => ?_)
    · replace h := h.1 c36
      exact ww_X1_setInterlockIn_89 X  hB hK1 hK2 (lv_sub hl [4, 7, 3, 2] rfl) h
    · replace h := h.2 c36
      refine lv_iload hx hb dX1_setInterlockIn_70 (lv_at hl 1 rfl) ?_
      refine lv_iconst (v := (-1)) hx hb dX1_setInterlockIn_72 (by decide) ?_
      refine lv_icmp_eq (tgt := 89) hx hb dX1_setInterlockIn_73 (by decide) (fun c37 => ?_) (fun c37 => ?_)
      · replace h := h.1 c37
        exact ww_X1_setInterlockIn_89 X  hB hK1 hK2 (lv_sub hl [4, 7, 3, 2] rfl) h
      · replace h := h.2 c37
        refine lv_iload hx hb dX1_setInterlockIn_76 (lv_at hl 0 rfl) ?_
        refine lv_iconst (v := (-1)) hx hb dX1_setInterlockIn_78 (by decide) ?_
        refine lv_icmp_eq (tgt := 89) hx hb dX1_setInterlockIn_79 (by decide) (fun c38 => ?_) (fun c38 => ?_)
        · replace h := h.1 c38
          exact ww_X1_setInterlockIn_89 X  hB hK1 hK2 (lv_sub hl [4, 7, 3, 2] rfl) h
        · replace h := h.2 c38
          refine lv_iload hx hb dX1_setInterlockIn_82 (lv_at hl 1 rfl) ?_
          refine lv_iload hx hb dX1_setInterlockIn_84 (lv_at hl 0 rfl) ?_
          refine lv_icmp_ne (tgt := 93) hx hb dX1_setInterlockIn_86 (by decide) (fun c39 => ?_) (fun c39 => ?_)
          · replace h := h.1 c39
            refine lv_iconst (v := 0) hx hb dX1_setInterlockIn_93 (by decide) ?_
            exact ww_X1_setInterlockIn_94 X  hB hK1 hK2 (lv_sub hl [4, 7, 3, 2] rfl) h
          · replace h := h.2 c39
            exact ww_X1_setInterlockIn_89 X  hB hK1 hK2 (lv_sub hl [4, 7, 3, 2] rfl) h
theorem ww_X1_setInterlockIn_0 {Qk : Int32 → z_T → z_I → z_Q → Prop} {Xk : String → Nat → z_T → z_I → z_Q → Prop} (X : z_X l G A p R s m args meth c cX1_setInterlockIn 9 RX1 "setInterlockIn" (some .boolean) mc ms 14 268) {cells slots : Nat} {T : z_T} {I : z_I} {Q : z_Q} {kc : Nat} {ks : Nat} {x0 : Option Nat} {x1 : Int32} {x2 : Int32} {x3 : Int32} {H : Heap} {locs : List Loc} {ls : Array Slot} (hB : z_HB G z_PR A s.heap T0 I0 Q0 T I Q H locs) (hK1 : cells + kc ≤ mc) (hK2 : slots + ks ≤ ms) (hl : lv_has ls 9 [(0, va_rf x0), (1, .int x1), (2, .int x2), (3, .int x3)]) (h : wb_X1_setInterlockIn_0 G.2.2 Qk Xk T I Q kc ks x0 x1 x2 x3) : W p l e R s m args below meth c H locs cells slots (z_MQ below G z_PR A T0 I0 Q0 (z_qz Qk) Xk args s mc ms) (F0 m 0 ls []) := by
  obtain ⟨hx, hb, -⟩ := id X
  unfold wb_X1_setInterlockIn_0 at h
  refine lv_iload_n hx hb dX1_setInterlockIn_0 rfl (lv_at hl 1 rfl) ?_
  refine lv_bipush (v := 8) hx hb dX1_setInterlockIn_1 (by decide) ?_
  obtain ⟨kc2, ks3, g1, g2, h⟩ := h
  refine z_callXv (z_runS (rest := []) [.int x1, .int 8] pk_X1_checkIndex (met_X1_checkIndex x1 8 kc2 ks3 _ _ h) X hB hB.2.2.2.2.2.2 q2387 rfl hl.1 (Nat.le_of_ble_eq_true rfl) dX1_setInterlockIn_3 (z_k1 hK1 g1) (z_k1 hK2 g2) (by decide) (by decide)) hB (fun _ h => h) (z_on (by decide +kernel) X (z_k1 hK1 g1) (z_k1 hK2 g2)) (fun T4 I5 Q6 H locs h9 hF hB => ?_)
  replace h := h9
  clear h9
  replace h := h hF
  replace hK1 := z_k2 hK1 g1
  replace hK2 := z_k2 hK2 g2
  refine lv_iload_n hx hb dX1_setInterlockIn_6 rfl (lv_at hl 2 rfl) ?_
  refine lv_bipush (v := 8) hx hb dX1_setInterlockIn_7 (by decide) ?_
  obtain ⟨kc8, ks9, g1, g2, h⟩ := h
  refine z_callXv (z_runS (rest := []) [.int x2, .int 8] pk_X1_checkIndex (met_X1_checkIndex x2 8 kc8 ks9 _ _ h) X hB hB.2.2.2.2.2.2 q2387 rfl hl.1 (Nat.le_of_ble_eq_true rfl) dX1_setInterlockIn_9 (z_k1 hK1 g1) (z_k1 hK2 g2) (by decide) (by decide)) hB (fun _ h => h) (z_on (by decide +kernel) X (z_k1 hK1 g1) (z_k1 hK2 g2)) (fun T10 I11 Q12 H locs h9 hF hB => ?_)
  replace h := h9
  clear h9
  replace h := h hF
  replace hK1 := z_k2 hK1 g1
  replace hK2 := z_k2 hK2 g2
  refine lv_iload_n hx hb dX1_setInterlockIn_12 rfl (lv_at hl 1 rfl) ?_
  refine lv_iload_n hx hb dX1_setInterlockIn_13 rfl (lv_at hl 2 rfl) ?_
  refine lv_icmp_eq (tgt := 21) hx hb dX1_setInterlockIn_14 (by decide) (fun c13 => ?_) (fun c13 => ?_)
  · replace h := h.1 c13
    refine lv_iconst (v := 0) hx hb dX1_setInterlockIn_21 (by decide) ?_
    exact ww_X1_setInterlockIn_22 X  hB hK1 hK2 (lv_sub hl [0, 1, 2, 3] rfl) h
  · replace h := h.2 c13
    refine lv_iconst (v := 1) hx hb dX1_setInterlockIn_17 (by decide) ?_
    refine lv_goto (tgt := 22) hx hb dX1_setInterlockIn_18 (by decide) ?_
    exact ww_X1_setInterlockIn_22 X  hB hK1 hK2 (lv_sub hl [0, 1, 2, 3] rfl) h
theorem pk_X1_setInterlockIn : z_PS yX1_setInterlockIn cX1_setInterlockIn 9 (some .boolean) 4 := ⟨q2385, q94, q2386, by decide +kernel⟩
theorem met_X1_setInterlockIn {l : Launch} {G : z_E} {T : z_T} {I : z_I} {Q : z_Q} (x0 : Option Nat) (x1 : Int32) (x2 : Int32) (x3 : Int32) (kc : Nat) (ks : Nat) (Qk : Int32 → z_T → z_I → z_Q → Prop) (Xk : String → Nat → z_T → z_I → z_Q → Prop) (h : wp_X1_setInterlockIn G.2.2 T I Q x0 x1 x2 x3 kc ks Qk Xk) : z_GM l G yX1_setInterlockIn (ws_ yX1_setInterlockIn cX1_setInterlockIn 9 (some .boolean)) 14 268 kc ks [va_rf x0, .int x1, .int x2, .int x3] z_PR T I Q (z_qz Qk) Xk := by
  refine z_body (own := RX1) (nm := "setInterlockIn") (by decide +kernel) rfl rfl (by cases x0 <;> exact Nat.le_of_ble_eq_true rfl) (fun p e R s m below meth c A ls X hB hl => ?_)
  replace hl : lv_has ls 9 [(0, va_rf x0), (1, .int x1), (2, .int x2), (3, .int x3)] := by cases x0 <;> exact hl
  exact ww_X1_setInterlockIn_0 X hB z_k0 z_k0 hl h
/-! X17_perform -/
theorem ww_X17_perform_41 {o : Nat} {Qk : z_T → z_I → z_Q → Prop} {Xk : String → Nat → z_T → z_I → z_Q → Prop} (X : z_X l G A p R s m args meth c cX17_perform 3 RX17 "perform" none mc ms 15 296) (ho : (T0 o).1 = 15) {cells slots : Nat} {T : z_T} {I : z_I} {Q : z_Q} {kc : Nat} {ks : Nat} {s0 : Option Nat} {s1 : Int32} {s2 : Int32} {s3 : Int32} {H : Heap} {locs : List Loc} {ls : Array Slot} (hB : z_HB G z_PR A s.heap T0 I0 Q0 T I Q H locs) (hK1 : cells + kc ≤ mc) (hK2 : slots + ks ≤ ms) (hl : lv_has ls 3 []) (h : wb_X17_perform_41 G.2.2 o Qk Xk T I Q kc ks s0 s1 s2 s3) : W p l e R s m args below meth c H locs cells slots (z_MQ below G z_PR A T0 I0 Q0 (z_qv Qk) Xk args s mc ms) (F0 m 41 ls [.int s3, .int s2, .int s1, va_rf s0]) := by
  obtain ⟨hx, hb, -⟩ := id X
  unfold wb_X17_perform_41 at h
  obtain ⟨kc16, ks17, g1, g2, h⟩ := h
  refine z_callXz (z_runSN (rest := []) [va_rf s0, .int s1, .int s2, .int s3] pk_X1_setInterlockIn (met_X1_setInterlockIn s0 s1 s2 s3 kc16 ks17 _ _ h) X hB hB.2.2.2.2.2.2 q3182 rfl hl.1 (Nat.le_of_ble_eq_true rfl) dX17_perform_41 (z_k1 hK1 g1) (z_k1 hK2 g2) (by decide) (by decide)) hB (fun _ h => h) (z_on (by decide +kernel) X (z_k1 hK1 g1) (z_k1 hK2 g2)) (fun r15 T18 I19 Q20 H locs hz h9 hF hB => ?_)
  replace h := h9
  clear h9
  replace h := h hz hF
  replace hK1 := z_k2 hK1 g1
  replace hK2 := z_k2 hK2 g2
  refine lv_istore_n (lv' := [(2, .int r15)]) hx hb dX17_perform_44 rfl hl (by decide) rfl (fun ls hl9 => ?_)
  replace hl := hl9
  clear hl9
  exact z_vret X hB ⟨rfl, h⟩ (z_k3 hK1) (z_k3 hK2) dX17_perform_45
theorem ww_X17_perform_0 {o : Nat} {Qk : z_T → z_I → z_Q → Prop} {Xk : String → Nat → z_T → z_I → z_Q → Prop} (X : z_X l G A p R s m args meth c cX17_perform 3 RX17 "perform" none mc ms 15 296) (ho : (T0 o).1 = 15) {cells slots : Nat} {T : z_T} {I : z_I} {Q : z_Q} {kc : Nat} {ks : Nat} {x1 : Option Nat} {H : Heap} {locs : List Loc} {ls : Array Slot} (hB : z_HB G z_PR A s.heap T0 I0 Q0 T I Q H locs) (hK1 : cells + kc ≤ mc) (hK2 : slots + ks ≤ ms) (hl : lv_has ls 3 [(0, .ref o), (1, va_rf x1)]) (h : wb_X17_perform_0 G.2.2 o Qk Xk T I Q kc ks x1) : W p l e R s m args below meth c H locs cells slots (z_MQ below G z_PR A T0 I0 Q0 (z_qv Qk) Xk args s mc ms) (F0 m 0 ls []) := by
  obtain ⟨hx, hb, -⟩ := id X
  unfold wb_X17_perform_0 at h
  refine z_aload_n (x := x1) hx hb dX17_perform_0 rfl (lv_at hl 1 rfl) ?_
  obtain ⟨a1, rfl, h⟩ := h
  obtain ⟨hk_a1, h⟩ := h
  refine z_getqN X hB.1 kc_X2 in_X2 (j := 0) (Nat.le_of_ble_eq_true rfl) q1235 (fun _ h => h) rfl (by decide) hk_a1 dX17_perform_1 ?_
  obtain ⟨co2, hco2, h⟩ := h
  obtain ⟨g1, g2, h⟩ := h
  refine z_new (col := co2) tyX7 X hB kc_X7 in_X7 tyX7_ok q3179 q2417 q150 (by decide) (z_dvX7) hco2 (z_k1 hK1 g1) (z_k1 hK2 g2) dX17_perform_4 (fun a3 H hq hB => ?_)
  obtain ⟨T4, eT4⟩ : ∃ z, z = z_t T a3 (9, 0, co2) := ⟨_, rfl⟩
  obtain ⟨I5, eI5⟩ : ∃ z, z = z_row I a3 (fun _ => 0) := ⟨_, rfl⟩
  obtain ⟨Q6, eQ6⟩ : ∃ z, z = z_row Q a3 (fun _ => none) := ⟨_, rfl⟩
  rw [← eT4, ← eI5, ← eQ6] at hB
  replace h := h a3 T4 I5 Q6 hq eT4 eI5 eQ6
  have hk_a1 := z_tn eT4 hq hk_a1 (by decide)
  have hk_a3 := z_tq eT4
  have hc_a3 : 3 ≤ (T4 a3).2.2 := by rw [z_tqc eT4]; exact hco2
  replace hK1 := z_k2 hK1 g1
  replace hK2 := z_k2 hK2 g2
  refine lv_dup hx hb dX17_perform_7 rfl ?_
  refine lv_aload_n (x := o) hx hb dX17_perform_8 rfl (lv_at hl 0 rfl) ?_
  refine z_geti X hB.1 kc_X17 in_X17 (j := 0) (Nat.le_of_ble_eq_true rfl) q3152 (fun _ h => h) rfl (by decide) (z_fo hB ho (by decide)) dX17_perform_9 ?_
  refine lv_aload_n (x := o) hx hb dX17_perform_12 rfl (lv_at hl 0 rfl) ?_
  refine z_geti X hB.1 kc_X17 in_X17 (j := 1) (Nat.le_of_ble_eq_true rfl) q3153 (fun _ h => h) rfl (by decide) (z_fo hB ho (by decide)) dX17_perform_13 ?_
  obtain ⟨co8, hco8, h⟩ := h
  refine z_callv (z_runI (rest := [.ref a3, va_rf (Q a1 0)]) [.int (I5 o 0), .int (I5 o 1)] pk_X7_init (met_X7_init co8 a3 (I5 o 0) (I5 o 1) _ h) X hB (z_coR0 hco8) q3180 rfl hl.1 (by simp [z_cat, z_cati, z_catl, z_catf, z_catd, z_catq]) dX17_perform_16 (z_k4 hK1) (z_k4 hK2) (by decide) (by decide)) hB (z_coR hco8) (fun T9 I10 Q11 H locs h9 hF hB => ?_)
  replace h := h9
  clear h9
  replace h := h hF
  have hc_a3 : 3 ≤ (T9 a3).2.2 := by rw [z_te hF hk_a3 (by decide)]; exact hc_a3
  have hk_a1 := z_tk hF hk_a1 (by decide)
  have hk_a3 := z_tk hF hk_a3 (by decide)
  obtain ⟨a12, ea12, h⟩ := h
  refine z_stk (st' := [.ref a3, .ref a12]) (by rw [ea12] <;> rfl) ?_
  obtain ⟨hk_a12, h⟩ := h
  refine z_callzp (z_runU (rest := []) [.ref a3] pu_J3_J2_contains_LinkedHashSet rfl (met_J2_contains a12 (some a3) _ h) X hB (fun h => h) q3181 kc_J3 (by decide) hk_a12 rfl hl.1 (Nat.le_of_ble_eq_true rfl) dX17_perform_19 (z_k4 hK1) (z_k4 hK2) (by decide) (by decide)) hB (fun r13 H locs hz h9 hB => ?_)
  replace h := h9
  clear h9
  replace h := h hz
  refine lv_istore_n (lv' := [(2, .int r13), (0, .ref o), (1, .ref a1)]) hx hb dX17_perform_22 rfl hl (by decide) rfl (fun ls hl9 => ?_)
  replace hl := hl9
  clear hl9
  refine lv_aload_n (x := a1) hx hb dX17_perform_23 rfl (lv_at hl 2 rfl) ?_
  refine lv_aload_n (x := o) hx hb dX17_perform_24 rfl (lv_at hl 1 rfl) ?_
  refine z_geti X hB.1 kc_X17 in_X17 (j := 0) (Nat.le_of_ble_eq_true rfl) q3152 (fun _ h => h) rfl (by decide) (z_fo hB ho (by decide)) dX17_perform_25 ?_
  refine lv_aload_n (x := o) hx hb dX17_perform_28 rfl (lv_at hl 1 rfl) ?_
  refine z_geti X hB.1 kc_X17 in_X17 (j := 1) (Nat.le_of_ble_eq_true rfl) q3153 (fun _ h => h) rfl (by decide) (z_fo hB ho (by decide)) dX17_perform_29 ?_
  refine lv_iload_n hx hb dX17_perform_32 rfl (lv_at hl 0 rfl) ?_
  refine lv_if_ne (tgt := 40) hx hb dX17_perform_33 (by decide) (fun c14 => ?_) (fun c14 => ?_)
  · replace h := h.1 c14
    refine lv_iconst (v := 0) hx hb dX17_perform_40 (by decide) ?_
    exact ww_X17_perform_41 X ho  hB hK1 hK2 (lv_sub hl [] rfl) h
  · replace h := h.2 c14
    refine lv_iconst (v := 1) hx hb dX17_perform_36 (by decide) ?_
    refine lv_goto (tgt := 41) hx hb dX17_perform_37 (by decide) ?_
    exact ww_X17_perform_41 X ho  hB hK1 hK2 (lv_sub hl [] rfl) h
theorem met_X17_perform {l : Launch} {G : z_E} {T : z_T} {I : z_I} {Q : z_Q} (o : Nat) (x1 : Option Nat) (kc : Nat) (ks : Nat) (Qk : z_T → z_I → z_Q → Prop) (Xk : String → Nat → z_T → z_I → z_Q → Prop) (h : wp_X17_perform G.2.2 T I Q o x1 kc ks Qk Xk) : z_GM l G yX17_perform (ws_ yX17_perform cX17_perform 3 none) 15 296 kc ks [.ref o, va_rf x1] z_PR T I Q (z_qv Qk) Xk := by
  obtain ⟨ho, h⟩ := h
  refine z_body (own := RX17) (nm := "perform") (by decide +kernel) rfl rfl (by cases x1 <;> exact Nat.le_of_ble_eq_true rfl) (fun p e R s m below meth c A ls X hB hl => ?_)
  replace hl : lv_has ls 3 [(0, .ref o), (1, va_rf x1)] := by cases x1 <;> exact hl
  exact ww_X17_perform_0 X ho hB z_k0 z_k0 hl h
/-! X14_init -/
theorem ww_X14_init_0 {T : z_T} {I : z_I} {Q : z_Q} {o : Nat} {Qk : Prop} (X : z_X l G A p R s m args meth c cX14_init 1 RX14 "<init>" none 0 0 8 120) {H : Heap} {locs : List Loc} {ls : Array Slot} (hB : z_HB G z_none A s.heap T I Q T I Q H locs) (hl : lv_has ls 1 [(0, .ref o)]) (h : wb_X14_init_0 T I Q o Qk ) : W p l e R s m args below meth c H locs 0 0 (z_MQ below G z_none A T I Q (z_pv Qk T I Q) z_no args s 0 0) (F0 m 0 ls []) := by
  obtain ⟨hx, hb, -⟩ := id X
  unfold wb_X14_init_0 at h
  refine lv_aload_n (x := o) hx hb dX14_init_0 rfl (lv_at hl 0 rfl) ?_
  refine z_objInit (rest := []) X q3117 hl.1 dX14_init_1 (by decide) (Nat.le_of_ble_eq_true rfl) ?_
  exact z_vret X hB ⟨rfl, h, rfl, rfl, rfl⟩ (Nat.le_refl 0) (Nat.le_refl 0) dX14_init_4
theorem pk_X14_init : z_PI yX14_init cX14_init 1 0 := ⟨q3115, q160, q3116, rfl, by decide +kernel⟩
theorem met_X14_init {l : Launch} {G : z_E} {T : z_T} {I : z_I} {Q : z_Q} (o : Nat) (Qk : Prop) (h : wp_X14_init T I Q o Qk) : z_GM l G yX14_init (ws_ yX14_init cX14_init 1 none) 8 120 0 0 [.ref o] z_none T I Q (z_pv Qk T I Q) z_no := by
  refine z_body (own := RX14) (nm := "<init>") (by decide +kernel) rfl rfl (Nat.le_of_ble_eq_true rfl) (fun p e R s m below meth c A ls X hB hl => ?_)
  exact ww_X14_init_0 X hB hl h
/-! X17_init -/
theorem ww_X17_init_0 {o : Nat} {Qk : z_T → z_I → z_Q → Prop} (X : z_X l G A p R s m args meth c cX17_init 4 RX17 "<init>" none 0 0 9 140) (ho : (T0 o).1 = 15) (hoc : 3 ≤ (T0 o).2.2) {T : z_T} {I : z_I} {Q : z_Q} {x1 : Option Nat} {x2 : Int32} {x3 : Int32} {H : Heap} {locs : List Loc} {ls : Array Slot} (hB : z_HB G z_PR A s.heap T0 I0 Q0 T I Q H locs) (hl : lv_has ls 4 [(0, .ref o), (1, va_rf x1), (2, .int x2), (3, .int x3)]) (h : wb_X17_init_0 o Qk T I Q x1 x2 x3) : W p l e R s m args below meth c H locs 0 0 (z_MQ below G z_PR A T0 I0 Q0 (z_qv Qk) z_no args s 0 0) (F0 m 0 ls []) := by
  obtain ⟨hx, hb, -⟩ := id X
  unfold wb_X17_init_0 at h
  refine lv_aload_n (x := o) hx hb dX17_init_0 rfl (lv_at hl 0 rfl) ?_
  refine z_aload_n (x := x1) hx hb dX17_init_1 rfl (lv_at hl 1 rfl) ?_
  obtain ⟨Q1, eQ1⟩ : ∃ z, z = z_up Q o 2 x1 := ⟨_, rfl⟩
  replace h := h Q1 eQ1
  refine z_putqF (x := x1) eQ1 tyX17 X hB kc_X17 in_X17 tyX17_ok nmX17 (j := 2) (Nat.le_of_ble_eq_true rfl) q3154 (fun _ h => h) rfl rfl rfl (by decide) (z_fo hB ho (by decide)) (z_foc hB ho (by decide) hoc) rfl (Or.inl ⟨_, rfl⟩) dX17_init_2 (fun H locs hB => ?_)
  refine lv_aload_n (x := o) hx hb dX17_init_5 rfl (lv_at hl 0 rfl) ?_
  refine lv_iload_n hx hb dX17_init_6 rfl (lv_at hl 2 rfl) ?_
  obtain ⟨I2, eI2⟩ : ∃ z, z = z_up I o 0 x2 := ⟨_, rfl⟩
  replace h := h I2 eI2
  refine z_putiF (x := x2) eI2 tyX17 X hB kc_X17 in_X17 tyX17_ok nmX17 (j := 0) (Nat.le_of_ble_eq_true rfl) q3152 (fun _ h => h) rfl rfl rfl (by decide) (z_fo hB ho (by decide)) (z_foc hB ho (by decide) hoc) rfl (Or.inl rfl) dX17_init_7 (fun H locs hB => ?_)
  refine lv_aload_n (x := o) hx hb dX17_init_10 rfl (lv_at hl 0 rfl) ?_
  refine lv_iload_n hx hb dX17_init_11 rfl (lv_at hl 3 rfl) ?_
  obtain ⟨I3, eI3⟩ : ∃ z, z = z_up I2 o 1 x3 := ⟨_, rfl⟩
  replace h := h I3 eI3
  refine z_putiF (x := x3) eI3 tyX17 X hB kc_X17 in_X17 tyX17_ok nmX17 (j := 1) (Nat.le_of_ble_eq_true rfl) q3153 (fun _ h => h) rfl rfl rfl (by decide) (z_fo hB ho (by decide)) (z_foc hB ho (by decide) hoc) rfl (Or.inl rfl) dX17_init_12 (fun H locs hB => ?_)
  refine lv_aload_n (x := o) hx hb dX17_init_15 rfl (lv_at hl 0 rfl) ?_
  refine z_callvp (z_runIN (rest := []) [] pk_X14_init (met_X14_init o _ h) X hB (fun h => h) q3151 rfl hl.1 (Nat.le_of_ble_eq_true rfl) dX17_init_16 (Nat.le_refl 0) (Nat.le_refl 0) (by decide) (by decide)) hB (fun H locs h9 hB => ?_)
  replace h := h9
  clear h9
  exact z_vret X hB ⟨rfl, h⟩ (Nat.le_refl 0) (Nat.le_refl 0) dX17_init_19
theorem pk_X17_init : z_PI yX17_init cX17_init 4 3 := ⟨q3149, q163, q3150, rfl, by decide +kernel⟩
theorem met_X17_init {l : Launch} {G : z_E} {T : z_T} {I : z_I} {Q : z_Q} (o : Nat) (x1 : Option Nat) (x2 : Int32) (x3 : Int32) (Qk : z_T → z_I → z_Q → Prop) (h : wp_X17_init T I Q o x1 x2 x3 Qk) : z_GM l G yX17_init (ws_ yX17_init cX17_init 4 none) 9 140 0 0 [.ref o, va_rf x1, .int x2, .int x3] z_PR T I Q (z_qv Qk) z_no := by
  obtain ⟨ho, hoc, h⟩ := h
  refine z_body (own := RX17) (nm := "<init>") (by decide +kernel) rfl rfl (by cases x1 <;> exact Nat.le_of_ble_eq_true rfl) (fun p e R s m below meth c A ls X hB hl => ?_)
  replace hl : lv_has ls 4 [(0, .ref o), (1, va_rf x1), (2, .int x2), (3, .int x3)] := by cases x1 <;> exact hl
  exact ww_X17_init_0 X ho hoc hB hl h
/-! X9_init -/
theorem ww_X9_init_0 {co : Nat} {o : Nat} {Qk : z_T → z_I → z_Q → Prop} (X : z_X l G A p R s m args meth c cX9_init 3 RX9 "<init>" none 0 0 8 120) (ho : (T0 o).1 = 10) (hoc : (T0 o).2.2 = co) {T : z_T} {I : z_I} {Q : z_Q} {x1 : Option Nat} {x2 : Option Nat} {H : Heap} {locs : List Loc} {ls : Array Slot} (hB : z_HB G (z_co co) A s.heap T0 I0 Q0 T I Q H locs) (hl : lv_has ls 3 [(0, .ref o), (1, va_rf x1), (2, va_rf x2)]) (h : wb_X9_init_0 co o Qk T I Q x1 x2) : W p l e R s m args below meth c H locs 0 0 (z_MQ below G (z_co co) A T0 I0 Q0 (z_qv Qk) z_no args s 0 0) (F0 m 0 ls []) := by
  obtain ⟨hx, hb, -⟩ := id X
  unfold wb_X9_init_0 at h
  refine lv_aload_n (x := o) hx hb dX9_init_0 rfl (lv_at hl 0 rfl) ?_
  refine z_aload_n (x := x1) hx hb dX9_init_1 rfl (lv_at hl 1 rfl) ?_
  obtain ⟨Q1, eQ1⟩ : ∃ z, z = z_up Q o 2 x1 := ⟨_, rfl⟩
  replace h := h Q1 eQ1
  refine z_putqF (x := x1) eQ1 tyX9 X hB kc_X9 in_X9 tyX9_ok nmX9 (j := 2) (Nat.le_of_ble_eq_true rfl) q2799 (fun _ h => h) rfl rfl rfl (by decide) (z_fo hB ho (by decide)) (z_foc hB ho (by decide) hoc) rfl (Or.inl ⟨_, rfl⟩) dX9_init_2 (fun H locs hB => ?_)
  refine lv_aload_n (x := o) hx hb dX9_init_5 rfl (lv_at hl 0 rfl) ?_
  refine z_aload_n (x := x2) hx hb dX9_init_6 rfl (lv_at hl 2 rfl) ?_
  obtain ⟨Q2, eQ2⟩ : ∃ z, z = z_up Q1 o 1 x2 := ⟨_, rfl⟩
  replace h := h Q2 eQ2
  refine z_putqF (x := x2) eQ2 tyX9 X hB kc_X9 in_X9 tyX9_ok nmX9 (j := 1) (Nat.le_of_ble_eq_true rfl) q2798 (fun _ h => h) rfl rfl rfl (by decide) (z_fo hB ho (by decide)) (z_foc hB ho (by decide) hoc) rfl (Or.inr ⟨_, rfl⟩) dX9_init_7 (fun H locs hB => ?_)
  refine lv_aload_n (x := o) hx hb dX9_init_10 rfl (lv_at hl 0 rfl) ?_
  refine z_objInit (rest := []) X q2796 hl.1 dX9_init_11 (by decide) (Nat.le_of_ble_eq_true rfl) ?_
  exact z_vret X hB ⟨rfl, h⟩ (Nat.le_refl 0) (Nat.le_refl 0) dX9_init_14
theorem pk_X9_init : z_PI yX9_init cX9_init 3 2 := ⟨q2794, q154, q2795, rfl, by decide +kernel⟩
theorem met_X9_init {l : Launch} {G : z_E} {T : z_T} {I : z_I} {Q : z_Q} (co : Nat) (o : Nat) (x1 : Option Nat) (x2 : Option Nat) (Qk : z_T → z_I → z_Q → Prop) (h : wp_X9_init co T I Q o x1 x2 Qk) : z_GM l G yX9_init (ws_ yX9_init cX9_init 3 none) 8 120 0 0 [.ref o, va_rf x1, va_rf x2] (z_co co) T I Q (z_qv Qk) z_no := by
  obtain ⟨ho, hoc, h⟩ := h
  refine z_body (own := RX9) (nm := "<init>") (by decide +kernel) rfl rfl (by cases x1 <;> cases x2 <;> exact Nat.le_of_ble_eq_true rfl) (fun p e R s m below meth c A ls X hB hl => ?_)
  replace hl : lv_has ls 3 [(0, .ref o), (1, va_rf x1), (2, va_rf x2)] := by cases x1 <;> cases x2 <;> exact hl
  exact ww_X9_init_0 X ho hoc hB hl h
/-! X2_acting -/
theorem ww_X2_acting_56 {co : Nat} {o : Nat} {k6 : z_T → z_I → z_Q → Nat → Nat → Option Nat → Int32 → Prop} {Qk : Option Nat → z_T → z_I → z_Q → Prop} (X : z_X l G A p R s m args meth c cX2_acting 4 RX2 "acting" (some (.object "java/util/Iterator")) mc ms 9 142) (ho : (T0 o).1 = 3) (hk6 : ∀ {cells slots : Nat} {T : z_T} {I : z_I} {Q : z_Q} {kc : Nat} {ks : Nat} {x1 : Option Nat} {x2 : Int32} {H : Heap} {locs : List Loc} {ls : Array Slot}, z_HB G (z_co co) A s.heap T0 I0 Q0 T I Q H locs → cells + kc ≤ mc → slots + ks ≤ ms → lv_has ls 4 [(0, .ref o), (1, va_rf x1), (2, .int x2)] → k6 T I Q kc ks x1 x2 → W p l e R s m args below meth c H locs cells slots (z_MQ below G (z_co co) A T0 I0 Q0 (z_qr Qk) z_no args s mc ms) (F0 m 6 ls [])) {cells slots : Nat} {T : z_T} {I : z_I} {Q : z_Q} {kc : Nat} {ks : Nat} {x1 : Option Nat} {x2 : Int32} {x3 : Int32} {H : Heap} {locs : List Loc} {ls : Array Slot} (hB : z_HB G (z_co co) A s.heap T0 I0 Q0 T I Q H locs) (hK1 : cells + kc ≤ mc) (hK2 : slots + ks ≤ ms) (hl : lv_has ls 4 [(0, .ref o), (1, va_rf x1), (2, .int x2), (3, .int x3)]) (h : wb_X2_acting_56 co o k6 Qk T I Q kc ks x1 x2 x3) : W p l e R s m args below meth c H locs cells slots (z_MQ below G (z_co co) A T0 I0 Q0 (z_qr Qk) z_no args s mc ms) (F0 m 56 ls []) := by
  obtain ⟨hx, hb, -⟩ := id X
  unfold wb_X2_acting_56 at h
  refine z_aload_n (x := x1) hx hb dX2_acting_56 rfl (lv_at hl 1 rfl) ?_
  refine lv_iload_n hx hb dX2_acting_57 rfl (lv_at hl 3 rfl) ?_
  refine lv_iload_n hx hb dX2_acting_58 rfl (lv_at hl 2 rfl) ?_
  obtain ⟨a22, rfl, h⟩ := h
  obtain ⟨hk_a22, h⟩ := h
  obtain ⟨hc_a22, h⟩ := h
  obtain ⟨h1, h⟩ := h
  obtain ⟨I23, eI23⟩ : ∃ z, z = z_up I a22 x3.toNatClampNeg x2 := ⟨_, rfl⟩
  replace h := h I23 eI23
  refine z_iast (x := x2) X hB hk_a22 hc_a22 h1 dX2_acting_59 (fun H locs hB => ?_)
  rw [← eI23] at hB
  obtain ⟨y24, ey24⟩ : ∃ z : Int32, z = x2 + 1 := ⟨_, rfl⟩
  replace h := h y24 ey24
  refine lv_iinc (v := y24) (lv' := [(2, .int y24), (0, .ref o), (1, .ref a22), (3, .int x3)]) hx hb dX2_acting_60 hl (k := 2) rfl (by rw [ey24]; rfl) (by decide) rfl (fun ls hl9 => ?_)
  replace hl := hl9
  clear hl9
  refine lv_goto (tgt := 6) hx hb dX2_acting_63 (by decide) ?_
  exact hk6 hB hK1 hK2 (lv_sub hl [1, 2, 0] rfl) h
theorem wv_X2_acting_13 {co : Nat} {o : Nat} {k6 : z_T → z_I → z_Q → Nat → Nat → Option Nat → Int32 → Prop} {Qk : Option Nat → z_T → z_I → z_Q → Prop} (X : z_X l G A p R s m args meth c cX2_acting 4 RX2 "acting" (some (.object "java/util/Iterator")) mc ms 9 142) (ho : (T0 o).1 = 3) (hk6 : ∀ {cells slots : Nat} {T : z_T} {I : z_I} {Q : z_Q} {kc : Nat} {ks : Nat} {x1 : Option Nat} {x2 : Int32} {H : Heap} {locs : List Loc} {ls : Array Slot}, z_HB G (z_co co) A s.heap T0 I0 Q0 T I Q H locs → cells + kc ≤ mc → slots + ks ≤ ms → lv_has ls 4 [(0, .ref o), (1, va_rf x1), (2, .int x2)] → k6 T I Q kc ks x1 x2 → W p l e R s m args below meth c H locs cells slots (z_MQ below G (z_co co) A T0 I0 Q0 (z_qr Qk) z_no args s mc ms) (F0 m 6 ls [])) : ∀ (n : Nat) {cells slots : Nat} {T : z_T} {I : z_I} {Q : z_Q} {kc : Nat} {ks : Nat} {x1 : Option Nat} {x2 : Int32} {x3 : Int32} {H : Heap} {locs : List Loc} {ls : Array Slot}, z_HB G (z_co co) A s.heap T0 I0 Q0 T I Q H locs → cells + kc ≤ mc → slots + ks ≤ ms → lv_has ls 4 [(0, .ref o), (1, va_rf x1), (2, .int x2), (3, .int x3)] → wl_X2_acting_13 co o k6 Qk n T I Q kc ks x1 x2 x3 → W p l e R s m args below meth c H locs cells slots (z_MQ below G (z_co co) A T0 I0 Q0 (z_qr Qk) z_no args s mc ms) (F0 m 13 ls []) := by
  intro n
  induction n with
  | zero =>
    intro cells slots T I Q kc ks x1 x2 x3 H locs ls hB hK1 hK2 hl h
    exact h.elim
  | succ n ih =>
    intro cells slots T I Q kc ks x1 x2 x3 H locs ls hB hK1 hK2 hl h
    obtain ⟨hx, hb, -⟩ := id X
    unfold wl_X2_acting_13 at h
    refine lv_iload_n hx hb dX2_acting_13 rfl (lv_at hl 3 rfl) ?_
    refine lv_if_le (tgt := 56) hx hb dX2_acting_14 (by decide) (fun c14 => ?_) (fun c14 => ?_)
    · replace h := h.1 c14
      exact ww_X2_acting_56 X ho hk6 hB hK1 hK2 (lv_sub hl [0, 1, 2, 3] rfl) h
    · replace h := h.2 c14
      refine lv_aload_n (x := o) hx hb dX2_acting_17 rfl (lv_at hl 0 rfl) ?_
      refine z_getq X hB.1 kc_X2 in_X2 (j := 2) (Nat.le_of_ble_eq_true rfl) q1240 (fun _ h => h) rfl (by decide) (z_fo hB ho (by decide)) dX2_acting_18 ?_
      refine z_aload_n (x := x1) hx hb dX2_acting_21 rfl (lv_at hl 1 rfl) ?_
      refine lv_iload_n hx hb dX2_acting_22 rfl (lv_at hl 3 rfl) ?_
      refine lv_iconst (v := 1) hx hb dX2_acting_23 (by decide) ?_
      refine lv_isub hx hb dX2_acting_24 ?_
      obtain ⟨a15, rfl, h⟩ := h
      obtain ⟨hk_a15, h⟩ := h
      obtain ⟨h1, h⟩ := h
      refine z_iald X hB.1 hk_a15 h1 dX2_acting_25 ?_
      obtain ⟨a16, ea16, h⟩ := h
      refine z_stk (st' := [.int (I a15 (x3 - 1).toNatClampNeg), .ref a16]) (by rw [ea16] <;> rfl) ?_
      obtain ⟨hk_a16, h⟩ := h
      obtain ⟨h1, h⟩ := h
      refine z_aald (k := 4) X hB.1 (by decide) hk_a16 h1 dX2_acting_26 ?_
      obtain ⟨a17, ea17, h⟩ := h
      refine z_stk (st' := [.ref a17]) (by rw [ea17] <;> rfl) ?_
      obtain ⟨hk_a17, h⟩ := h
      refine z_getiN X hB.1 kc_X4 in_X4 (j := 7) (Nat.le_of_ble_eq_true rfl) q1193 (fun _ h => h) rfl (by decide) hk_a17 dX2_acting_27 ?_
      refine lv_aload_n (x := o) hx hb dX2_acting_30 rfl (lv_at hl 0 rfl) ?_
      refine z_getq X hB.1 kc_X2 in_X2 (j := 2) (Nat.le_of_ble_eq_true rfl) q1240 (fun _ h => h) rfl (by decide) (z_fo hB ho (by decide)) dX2_acting_31 ?_
      refine z_stk (st' := [.ref a16, .int (I a17 7)]) (by rw [ea16] <;> rfl) ?_
      refine lv_iload_n hx hb dX2_acting_34 rfl (lv_at hl 2 rfl) ?_
      obtain ⟨h1, h⟩ := h
      refine z_aald (k := 4) X hB.1 (by decide) hk_a16 h1 dX2_acting_35 ?_
      obtain ⟨a18, ea18, h⟩ := h
      refine z_stk (st' := [.ref a18, .int (I a17 7)]) (by rw [ea18] <;> rfl) ?_
      obtain ⟨hk_a18, h⟩ := h
      refine z_getiN X hB.1 kc_X4 in_X4 (j := 7) (Nat.le_of_ble_eq_true rfl) q1193 (fun _ h => h) rfl (by decide) hk_a18 dX2_acting_36 ?_
      refine lv_icmp_ge (tgt := 56) hx hb dX2_acting_39 (by decide) (fun c19 => ?_) (fun c19 => ?_)
      · replace h := h.1 c19
        exact ww_X2_acting_56 X ho hk6 hB hK1 hK2 (lv_sub hl [0, 1, 2, 3] rfl) h
      · replace h := h.2 c19
        refine lv_aload_n (x := a15) hx hb dX2_acting_42 rfl (lv_at hl 1 rfl) ?_
        refine lv_iload_n hx hb dX2_acting_43 rfl (lv_at hl 3 rfl) ?_
        refine lv_aload_n (x := a15) hx hb dX2_acting_44 rfl (lv_at hl 1 rfl) ?_
        refine lv_iload_n hx hb dX2_acting_45 rfl (lv_at hl 3 rfl) ?_
        refine lv_iconst (v := 1) hx hb dX2_acting_46 (by decide) ?_
        refine lv_isub hx hb dX2_acting_47 ?_
        obtain ⟨h1, h⟩ := h
        refine z_iald X hB.1 hk_a15 h1 dX2_acting_48 ?_
        obtain ⟨hc_a15, h⟩ := h
        obtain ⟨h1, h⟩ := h
        obtain ⟨I20, eI20⟩ : ∃ z, z = z_up I a15 x3.toNatClampNeg (I a15 (x3 - 1).toNatClampNeg) := ⟨_, rfl⟩
        replace h := h I20 eI20
        refine z_iast (x := (I a15 (x3 - 1).toNatClampNeg)) X hB hk_a15 hc_a15 h1 dX2_acting_49 (fun H locs hB => ?_)
        rw [← eI20] at hB
        obtain ⟨y21, ey21⟩ : ∃ z : Int32, z = x3 + (-1) := ⟨_, rfl⟩
        replace h := h y21 ey21
        refine lv_iinc (v := y21) (lv' := [(3, .int y21), (0, .ref o), (1, .ref a15), (2, .int x2)]) hx hb dX2_acting_50 hl (k := 3) rfl (by rw [ey21]; rfl) (by decide) rfl (fun ls hl9 => ?_)
        replace hl := hl9
        clear hl9
        refine lv_goto (tgt := 13) hx hb dX2_acting_53 (by decide) ?_
        exact ih hB hK1 hK2 (lv_sub hl [1, 2, 3, 0] rfl) h
theorem wv_X2_acting_6 {co : Nat} {o : Nat} {Qk : Option Nat → z_T → z_I → z_Q → Prop} (X : z_X l G A p R s m args meth c cX2_acting 4 RX2 "acting" (some (.object "java/util/Iterator")) mc ms 9 142) (ho : (T0 o).1 = 3) : ∀ (n : Nat) {cells slots : Nat} {T : z_T} {I : z_I} {Q : z_Q} {kc : Nat} {ks : Nat} {x1 : Option Nat} {x2 : Int32} {H : Heap} {locs : List Loc} {ls : Array Slot}, z_HB G (z_co co) A s.heap T0 I0 Q0 T I Q H locs → cells + kc ≤ mc → slots + ks ≤ ms → lv_has ls 4 [(0, .ref o), (1, va_rf x1), (2, .int x2)] → wl_X2_acting_6 co o Qk n T I Q kc ks x1 x2 → W p l e R s m args below meth c H locs cells slots (z_MQ below G (z_co co) A T0 I0 Q0 (z_qr Qk) z_no args s mc ms) (F0 m 6 ls []) := by
  intro n
  induction n with
  | zero =>
    intro cells slots T I Q kc ks x1 x2 H locs ls hB hK1 hK2 hl h
    exact h.elim
  | succ n ih =>
    intro cells slots T I Q kc ks x1 x2 H locs ls hB hK1 hK2 hl h
    obtain ⟨hx, hb, -⟩ := id X
    unfold wl_X2_acting_6 at h
    refine lv_iload_n hx hb dX2_acting_6 rfl (lv_at hl 2 rfl) ?_
    refine lv_iconst (v := 3) hx hb dX2_acting_7 (by decide) ?_
    refine lv_icmp_ge (tgt := 66) hx hb dX2_acting_8 (by decide) (fun c5 => ?_) (fun c5 => ?_)
    · replace h := h.1 c5
      obtain ⟨g1, g2, h⟩ := h
      refine z_new (col := co) tyX9 X hB kc_X9 in_X9 tyX9_ok q2791 q2792 q154 (by decide) (z_dvX9) rfl (z_k1 hK1 g1) (z_k1 hK2 g2) dX2_acting_66 (fun a6 H hq hB => ?_)
      obtain ⟨T7, eT7⟩ : ∃ z, z = z_t T a6 (10, 0, co) := ⟨_, rfl⟩
      obtain ⟨I8, eI8⟩ : ∃ z, z = z_row I a6 (fun _ => 0) := ⟨_, rfl⟩
      obtain ⟨Q9, eQ9⟩ : ∃ z, z = z_row Q a6 (fun _ => none) := ⟨_, rfl⟩
      rw [← eT7, ← eI8, ← eQ9] at hB
      replace h := h a6 T7 I8 Q9 hq eT7 eI8 eQ9
      have hk_a6 := z_tq eT7
      have hc_a6 : (T7 a6).2.2 = co := by rw [z_tqc eT7]
      replace hK1 := z_k2 hK1 g1
      replace hK2 := z_k2 hK2 g2
      refine lv_dup hx hb dX2_acting_69 rfl ?_
      refine lv_aload_n (x := o) hx hb dX2_acting_70 rfl (lv_at hl 0 rfl) ?_
      refine z_aload_n (x := x1) hx hb dX2_acting_71 rfl (lv_at hl 1 rfl) ?_
      refine z_callv (z_runI (rest := [.ref a6]) [.ref o, va_rf x1] pk_X9_init (met_X9_init co a6 o x1 _ h) X hB hB.2.2.2.2.2.2 q2793 rfl hl.1 (Nat.le_of_ble_eq_true rfl) dX2_acting_72 (z_k4 hK1) (z_k4 hK2) (by decide) (by decide)) hB (fun _ h => h) (fun T11 I12 Q13 H locs h9 hF hB => ?_)
      replace h := h9
      clear h9
      replace h := h hF
      have hc_a6 : (T11 a6).2.2 = co := by rw [z_te hF hk_a6 (by decide)]; exact hc_a6
      have hk_a6 := z_tk hF hk_a6 (by decide)
      exact z_aret (v := (some a6)) X (by first | exact Or.inl ⟨_, rfl⟩ | exact Or.inr ⟨_, rfl⟩) hB ⟨_, rfl, h⟩ (z_k3 hK1) (z_k3 hK2) dX2_acting_75
    · replace h := h.2 c5
      refine lv_iload_n hx hb dX2_acting_11 rfl (lv_at hl 2 rfl) ?_
      refine lv_istore_n (lv' := [(3, .int x2), (0, .ref o), (1, va_rf x1), (2, .int x2)]) hx hb dX2_acting_12 rfl hl (by decide) rfl (fun ls hl9 => ?_)
      replace hl := hl9
      clear hl9
      obtain ⟨w, h⟩ := h
      exact wv_X2_acting_13 X ho (fun hB hK1 hK2 hl h => ih hB hK1 hK2 hl h) w hB hK1 hK2 (lv_sub hl [1, 2, 3, 0] rfl) h
theorem ww_X2_acting_0 {co : Nat} {o : Nat} {Qk : Option Nat → z_T → z_I → z_Q → Prop} (X : z_X l G A p R s m args meth c cX2_acting 4 RX2 "acting" (some (.object "java/util/Iterator")) mc ms 9 142) (ho : (T0 o).1 = 3) {cells slots : Nat} {T : z_T} {I : z_I} {Q : z_Q} {kc : Nat} {ks : Nat} {H : Heap} {locs : List Loc} {ls : Array Slot} (hB : z_HB G (z_co co) A s.heap T0 I0 Q0 T I Q H locs) (hK1 : cells + kc ≤ mc) (hK2 : slots + ks ≤ ms) (hl : lv_has ls 4 [(0, .ref o)]) (h : wb_X2_acting_0 co o Qk T I Q kc ks) : W p l e R s m args below meth c H locs cells slots (z_MQ below G (z_co co) A T0 I0 Q0 (z_qr Qk) z_no args s mc ms) (F0 m 0 ls []) := by
  obtain ⟨hx, hb, -⟩ := id X
  unfold wb_X2_acting_0 at h
  refine lv_iconst (v := 3) hx hb dX2_acting_0 (by decide) ?_
  obtain ⟨g1, g2, h⟩ := h
  refine z_newa (k := 0) (n := 3) (col := co) (.int) rfl (by decide) X hB q1170 (by decide) rfl (Nat.le_of_ble_eq_true rfl) rfl (z_k1 hK1 g1) (z_k1 hK2 g2) dX2_acting_1 (fun a1 H hq hB => ?_)
  obtain ⟨T2, eT2⟩ : ∃ z, z = z_t T a1 (100, 3, co) := ⟨_, rfl⟩
  obtain ⟨I3, eI3⟩ : ∃ z, z = z_row I a1 (fun _ => 0) := ⟨_, rfl⟩
  obtain ⟨Q4, eQ4⟩ : ∃ z, z = z_row Q a1 (fun _ => none) := ⟨_, rfl⟩
  rw [← eT2, ← eI3, ← eQ4] at hB
  replace h := h a1 T2 I3 Q4 hq eT2 eI3 eQ4
  have hk_a1 := z_tq eT2
  have hc_a1 : (T2 a1).2.2 = co := by rw [z_tqc eT2]
  replace hK1 := z_k2 hK1 g1
  replace hK2 := z_k2 hK2 g2
  refine lv_astore_n (x := a1) (lv' := [(1, .ref a1), (0, .ref o)]) hx hb dX2_acting_3 rfl hl (by decide) rfl (fun ls hl9 => ?_)
  replace hl := hl9
  clear hl9
  refine lv_iconst (v := 0) hx hb dX2_acting_4 (by decide) ?_
  refine lv_istore_n (lv' := [(2, .int 0), (1, .ref a1), (0, .ref o)]) hx hb dX2_acting_5 rfl hl (by decide) rfl (fun ls hl9 => ?_)
  replace hl := hl9
  clear hl9
  obtain ⟨w, h⟩ := h
  exact wv_X2_acting_6 X ho  w hB hK1 hK2 (lv_sub hl [2, 1, 0] rfl) h
theorem pk_X2_acting : z_PV RX2 yX2_acting cX2_acting 4 (some (.object "java/util/Iterator")) 0 := ⟨q2789, qs24, q95, q2790, by decide +kernel⟩
theorem met_X2_acting {l : Launch} {G : z_E} {T : z_T} {I : z_I} {Q : z_Q} (co : Nat) (o : Nat) (kc : Nat) (ks : Nat) (Qk : Option Nat → z_T → z_I → z_Q → Prop) (h : wp_X2_acting co T I Q o kc ks Qk) : z_GM l G yX2_acting (ws_ yX2_acting cX2_acting 4 (some (.object "java/util/Iterator"))) 9 142 kc ks [.ref o] (z_co co) T I Q (z_qr Qk) z_no := by
  obtain ⟨ho, h⟩ := h
  refine z_body (own := RX2) (nm := "acting") (by decide +kernel) rfl rfl (Nat.le_of_ble_eq_true rfl) (fun p e R s m below meth c A ls X hB hl => ?_)
  exact ww_X2_acting_0 X ho hB z_k0 z_k0 hl h
/-! J31_isEmpty -/
theorem ww_J31_isEmpty_16 {T : z_T} {I : z_I} {Q : z_Q} {o : Nat} {Qk : Int32 → Prop} (X : z_X l G A p R s m args meth c cJ31_isEmpty 1 RJ31 "isEmpty" (some .boolean) 0 0 8 120) (ho : (T o).1 = 17) {s0 : Int32} {H : Heap} {locs : List Loc} {ls : Array Slot} (hB : z_HB G z_none A s.heap T I Q T I Q H locs) (hl : lv_has ls 1 []) (h : wb_J31_isEmpty_16 T I Q o Qk s0) : W p l e R s m args below meth c H locs 0 0 (z_MQ below G z_none A T I Q (z_pz Qk T I Q) z_no args s 0 0) (F0 m 16 ls [.int s0]) := by
  obtain ⟨hx, hb, -⟩ := id X
  unfold wb_J31_isEmpty_16 at h
  obtain ⟨hz, h⟩ := h
  exact z_zret X hB hz ⟨_, rfl, hz, h, rfl, rfl, rfl⟩ (Nat.le_refl 0) (Nat.le_refl 0) dJ31_isEmpty_16
theorem ww_J31_isEmpty_0 {T : z_T} {I : z_I} {Q : z_Q} {o : Nat} {Qk : Int32 → Prop} (X : z_X l G A p R s m args meth c cJ31_isEmpty 1 RJ31 "isEmpty" (some .boolean) 0 0 8 120) (ho : (T o).1 = 17) {H : Heap} {locs : List Loc} {ls : Array Slot} (hB : z_HB G z_none A s.heap T I Q T I Q H locs) (hl : lv_has ls 1 [(0, .ref o)]) (h : wb_J31_isEmpty_0 T I Q o Qk ) : W p l e R s m args below meth c H locs 0 0 (z_MQ below G z_none A T I Q (z_pz Qk T I Q) z_no args s 0 0) (F0 m 0 ls []) := by
  obtain ⟨hx, hb, -⟩ := id X
  unfold wb_J31_isEmpty_0 at h
  refine lv_aload_n (x := o) hx hb dJ31_isEmpty_0 rfl (lv_at hl 0 rfl) ?_
  refine z_geti X hB.1 kc_J31 in_J31 (j := 1) (Nat.le_of_ble_eq_true rfl) q1129 (fun _ h => h) rfl (by decide) ho dJ31_isEmpty_1 ?_
  refine lv_aload_n (x := o) hx hb dJ31_isEmpty_4 rfl (lv_at hl 0 rfl) ?_
  refine z_geti X hB.1 kc_J31 in_J31 (j := 2) (Nat.le_of_ble_eq_true rfl) q1130 (fun _ h => h) rfl (by decide) ho dJ31_isEmpty_5 ?_
  refine lv_icmp_ne (tgt := 15) hx hb dJ31_isEmpty_8 (by decide) (fun c1 => ?_) (fun c1 => ?_)
  · replace h := h.1 c1
    refine lv_iconst (v := 0) hx hb dJ31_isEmpty_15 (by decide) ?_
    exact ww_J31_isEmpty_16 X ho  hB (lv_sub hl [] rfl) h
  · replace h := h.2 c1
    refine lv_iconst (v := 1) hx hb dJ31_isEmpty_11 (by decide) ?_
    refine lv_goto (tgt := 16) hx hb dJ31_isEmpty_12 (by decide) ?_
    exact ww_J31_isEmpty_16 X ho  hB (lv_sub hl [] rfl) h
theorem pk_J31_isEmpty : z_PV RJ31 yJ31_isEmpty cJ31_isEmpty 1 (some .boolean) 0 := ⟨q2719, q2720, q128, q2721, by decide +kernel⟩
theorem met_J31_isEmpty {l : Launch} {G : z_E} {T : z_T} {I : z_I} {Q : z_Q} (o : Nat) (Qk : Int32 → Prop) (h : wp_J31_isEmpty T I Q o Qk) : z_GM l G yJ31_isEmpty (ws_ yJ31_isEmpty cJ31_isEmpty 1 (some .boolean)) 8 120 0 0 [.ref o] z_none T I Q (z_pz Qk T I Q) z_no := by
  obtain ⟨ho, h⟩ := h
  refine z_body (own := RJ31) (nm := "isEmpty") (by decide +kernel) rfl rfl (Nat.le_of_ble_eq_true rfl) (fun p e R s m below meth c A ls X hB hl => ?_)
  exact ww_J31_isEmpty_0 X ho hB hl h
end
