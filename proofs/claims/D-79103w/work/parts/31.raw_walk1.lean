/-! THE CODE: walks 1 -/
set_option maxRecDepth 100000
section
variable {p : Program} {l : Launch} {e : Env} {R : Room} {s : State} {m : MethodId} {args : Array Value} {below : List Frame} {meth : Method} {c : Code}
variable {G : z_E} {A : Nat → Prop} {T T0 : z_T} {I I0 : z_I} {Q Q0 : z_Q} {mc ms : Nat}
/-! J38_nextNode -/
theorem ww_J38_nextNode_63 {co : Nat} {o : Nat} {Qk : Option Nat → z_T → z_I → z_Q → Prop} (X : z_X l G A p R s m args meth c cJ38_nextNode 2 RJ38 "nextNode" (some (.object "java/util/LinkedHashMap$Entry")) 0 0 8 120) (ho : (T0 o).1 = 25) (hoc : (T0 o).2.2 = co) {T : z_T} {I : z_I} {Q : z_Q} {x1 : Option Nat} {s1 : Option Nat} {H : Heap} {locs : List Loc} {ls : Array Slot} (hB : z_HB G (z_co co) A s.heap T0 I0 Q0 T I Q H locs) (hl : lv_has ls 2 [(1, va_rf x1)]) (h : wb_J38_nextNode_63 co o Qk T I Q x1 s1) : W p l e R s m args below meth c H locs 0 0 (z_MQ below G (z_co co) A T0 I0 Q0 (z_qr Qk) z_no args s 0 0) (F0 m 63 ls [va_rf s1, .ref o]) := by
  obtain ⟨hx, hb, -⟩ := id X
  unfold wb_J38_nextNode_63 at h
  obtain ⟨Q8, eQ8⟩ : ∃ z, z = z_up Q o 0 s1 := ⟨_, rfl⟩
  replace h := h Q8 eQ8
  refine z_putq (x := s1) eQ8 tyJ39 X hB kc_J39 in_J39 tyJ39_ok nmJ39 (j := 0) (Nat.le_of_ble_eq_true rfl) q1469 (fun _ h => h) rfl rfl (by decide) (z_fo hB ho (by decide)) (z_foc hB ho (by decide) hoc) rfl (Or.inl ⟨_, rfl⟩) dJ38_nextNode_63 (fun H locs hB => ?_)
  refine z_aload_n (x := x1) hx hb dJ38_nextNode_66 rfl (lv_at hl 0 rfl) ?_
  exact z_aret (v := x1) X (by first | exact Or.inl ⟨_, rfl⟩ | exact Or.inr ⟨_, rfl⟩) hB ⟨_, rfl, h⟩ (Nat.le_refl 0) (Nat.le_refl 0) dJ38_nextNode_67
theorem ww_J38_nextNode_0 {co : Nat} {o : Nat} {Qk : Option Nat → z_T → z_I → z_Q → Prop} (X : z_X l G A p R s m args meth c cJ38_nextNode 2 RJ38 "nextNode" (some (.object "java/util/LinkedHashMap$Entry")) 0 0 8 120) (ho : (T0 o).1 = 25) (hoc : (T0 o).2.2 = co) {T : z_T} {I : z_I} {Q : z_Q} {H : Heap} {locs : List Loc} {ls : Array Slot} (hB : z_HB G (z_co co) A s.heap T0 I0 Q0 T I Q H locs) (hl : lv_has ls 2 [(0, .ref o)]) (h : wb_J38_nextNode_0 co o Qk T I Q) : W p l e R s m args below meth c H locs 0 0 (z_MQ below G (z_co co) A T0 I0 Q0 (z_qr Qk) z_no args s 0 0) (F0 m 0 ls []) := by
  obtain ⟨hx, hb, -⟩ := id X
  unfold wb_J38_nextNode_0 at h
  refine lv_aload_n (x := o) hx hb dJ38_nextNode_0 rfl (lv_at hl 0 rfl) ?_
  refine z_getq X hB.1 kc_J39 in_J39 (j := 0) (Nat.le_of_ble_eq_true rfl) q1469 (fun _ h => h) rfl (by decide) (z_fo hB ho (by decide)) dJ38_nextNode_1 ?_
  obtain ⟨y1, ey1⟩ : ∃ z : Option Nat, z = (Q o 0) := ⟨_, rfl⟩
  replace h := h y1 ey1
  refine z_stk (st' := [va_rf y1]) (by rw [ey1]) ?_
  refine z_astore_n (x := y1) (lv' := [(1, va_rf y1), (0, .ref o)]) hx hb dJ38_nextNode_4 rfl hl (by decide) rfl (fun ls hl9 => ?_)
  replace hl := hl9
  clear hl9
  refine lv_aload_n (x := o) hx hb dJ38_nextNode_5 rfl (lv_at hl 1 rfl) ?_
  refine z_getq X hB.1 kc_J39 in_J39 (j := 4) (Nat.le_of_ble_eq_true rfl) q1473 (fun _ h => h) rfl (by decide) (z_fo hB ho (by decide)) dJ38_nextNode_6 ?_
  obtain ⟨a2, ea2, h⟩ := h
  refine z_stk (st' := [.ref a2]) (by rw [ea2] <;> rfl) ?_
  obtain ⟨hk_a2, h⟩ := h
  refine z_geti X hB.1 kc_J6 in_J6 (j := 3) (Nat.le_of_ble_eq_true rfl) q1049 (z_same X q1050) rfl (by decide) hk_a2 dJ38_nextNode_9 ?_
  refine lv_aload_n (x := o) hx hb dJ38_nextNode_12 rfl (lv_at hl 1 rfl) ?_
  refine z_geti X hB.1 kc_J39 in_J39 (j := 2) (Nat.le_of_ble_eq_true rfl) q1471 (fun _ h => h) rfl (by decide) (z_fo hB ho (by decide)) dJ38_nextNode_13 ?_
  refine lv_icmp_eq (tgt := 27) hx hb dJ38_nextNode_16 (by decide) (fun c3 => ?_) (fun c3 => ?_)
  · replace h := h.1 c3
    refine z_aload_n (x := y1) hx hb dJ38_nextNode_27 rfl (lv_at hl 0 rfl) ?_
    refine z_ifnonnull (tgt := 39) hx hb dJ38_nextNode_28 (by decide) (fun a5 c4 => ?_) (fun c4 => ?_)
    · replace h := h.2 a5 c4
      subst c4
      refine lv_aload_n (x := o) hx hb dJ38_nextNode_39 rfl (lv_at hl 1 rfl) ?_
      refine lv_aload_n (x := a5) hx hb dJ38_nextNode_40 rfl (lv_at hl 0 rfl) ?_
      obtain ⟨Q6, eQ6⟩ : ∃ z, z = z_up Q o 1 (some a5) := ⟨_, rfl⟩
      replace h := h Q6 eQ6
      refine z_putq (x := (some a5)) eQ6 tyJ39 X hB kc_J39 in_J39 tyJ39_ok nmJ39 (j := 1) (Nat.le_of_ble_eq_true rfl) q1470 (fun _ h => h) rfl rfl (by decide) (z_fo hB ho (by decide)) (z_foc hB ho (by decide) hoc) rfl (Or.inl ⟨_, rfl⟩) dJ38_nextNode_41 (fun H locs hB => ?_)
      refine lv_aload_n (x := o) hx hb dJ38_nextNode_44 rfl (lv_at hl 1 rfl) ?_
      refine lv_aload_n (x := o) hx hb dJ38_nextNode_45 rfl (lv_at hl 1 rfl) ?_
      refine z_geti X hB.1 kc_J39 in_J39 (j := 3) (Nat.le_of_ble_eq_true rfl) q1472 (fun _ h => h) rfl (by decide) (z_fo hB ho (by decide)) dJ38_nextNode_46 ?_
      refine lv_if_eq (tgt := 59) hx hb dJ38_nextNode_49 (by decide) (fun c7 => ?_) (fun c7 => ?_)
      · replace h := h.1 c7
        refine lv_aload_n (x := a5) hx hb dJ38_nextNode_59 rfl (lv_at hl 0 rfl) ?_
        obtain ⟨hk_a5, h⟩ := h
        refine z_getq X hB.1 kc_J42 in_J42 (j := 5) (Nat.le_of_ble_eq_true rfl) q1784 (fun _ h => h) rfl (by decide) hk_a5 dJ38_nextNode_60 ?_
        exact ww_J38_nextNode_63 X ho hoc  hB (lv_sub hl [0] rfl) h
      · replace h := h.2 c7
        refine lv_aload_n (x := a5) hx hb dJ38_nextNode_52 rfl (lv_at hl 0 rfl) ?_
        obtain ⟨hk_a5, h⟩ := h
        refine z_getq X hB.1 kc_J42 in_J42 (j := 4) (Nat.le_of_ble_eq_true rfl) q1782 (fun _ h => h) rfl (by decide) hk_a5 dJ38_nextNode_53 ?_
        refine lv_goto (tgt := 63) hx hb dJ38_nextNode_56 (by decide) ?_
        exact ww_J38_nextNode_63 X ho hoc  hB (lv_sub hl [0] rfl) h
    · replace h := h.1 c4
      subst c4
      exact h.elim
  · replace h := h.2 c3
    exact h.elim
theorem met_J38_nextNode {l : Launch} {G : z_E} {T : z_T} {I : z_I} {Q : z_Q} (co : Nat) (o : Nat) (Qk : Option Nat → z_T → z_I → z_Q → Prop) (h : wp_J38_nextNode co T I Q o Qk) : z_GM l G yJ38_nextNode (ws_ yJ38_nextNode cJ38_nextNode 2 (some (.object "java/util/LinkedHashMap$Entry"))) 8 120 0 0 [.ref o] (z_co co) T I Q (z_qr Qk) z_no := by
  obtain ⟨ho, hoc, h⟩ := h
  refine z_body (own := RJ38) (nm := "nextNode") (by decide +kernel) rfl rfl (Nat.le_of_ble_eq_true rfl) (fun p e R s m below meth c A ls X hB hl => ?_)
  exact ww_J38_nextNode_0 X ho hoc hB hl h
/-! J41_getKey -/
theorem ww_J41_getKey_0 {T : z_T} {I : z_I} {Q : z_Q} {o : Nat} {Qk : Option Nat → Prop} (X : z_X l G A p R s m args meth c cJ41_getKey 1 RJ41 "getKey" (some (.object "java/lang/Object")) 0 0 8 120) (ho : (T o).1 = 23) {H : Heap} {locs : List Loc} {ls : Array Slot} (hB : z_HB G z_none A s.heap T I Q T I Q H locs) (hl : lv_has ls 1 [(0, .ref o)]) (h : wb_J41_getKey_0 T I Q o Qk ) : W p l e R s m args below meth c H locs 0 0 (z_MQ below G z_none A T I Q (z_pr Qk T I Q) z_no args s 0 0) (F0 m 0 ls []) := by
  obtain ⟨hx, hb, -⟩ := id X
  unfold wb_J41_getKey_0 at h
  refine lv_aload_n (x := o) hx hb dJ41_getKey_0 rfl (lv_at hl 0 rfl) ?_
  refine z_getq X hB.1 kc_J42 in_J42 (j := 1) (Nat.le_of_ble_eq_true rfl) q1791 (fun _ h => h) rfl (by decide) ho dJ41_getKey_1 ?_
  exact z_aret (v := (Q o 1)) X (by first | exact Or.inl ⟨_, rfl⟩ | exact Or.inr ⟨_, rfl⟩) hB ⟨_, rfl, h, rfl, rfl, rfl⟩ (Nat.le_refl 0) (Nat.le_refl 0) dJ41_getKey_4
theorem met_J41_getKey {l : Launch} {G : z_E} {T : z_T} {I : z_I} {Q : z_Q} (o : Nat) (Qk : Option Nat → Prop) (h : wp_J41_getKey T I Q o Qk) : z_GM l G yJ41_getKey (ws_ yJ41_getKey cJ41_getKey 1 (some (.object "java/lang/Object"))) 8 120 0 0 [.ref o] z_none T I Q (z_pr Qk T I Q) z_no := by
  obtain ⟨ho, h⟩ := h
  refine z_body (own := RJ41) (nm := "getKey") (by decide +kernel) rfl rfl (Nat.le_of_ble_eq_true rfl) (fun p e R s m below meth c A ls X hB hl => ?_)
  exact ww_J41_getKey_0 X ho hB hl h
/-! J39_next -/
theorem pu_J39_J38_nextNode_LinkedHashMap_LinkedKeyIterator : z_PU "java/util/LinkedHashMap$LinkedKeyIterator" "java/util/LinkedHashMap$LinkedHashIterator" ⟨"java/util/LinkedHashMap$LinkedKeyIterator", "nextNode", "()Ljava/util/LinkedHashMap$Entry;"⟩ yJ38_nextNode cJ38_nextNode 2 (some (.object "java/util/LinkedHashMap$Entry")) 0 := ⟨q1601, q1603, q1604, q138, q1605, by decide +kernel⟩
theorem pu_J42_J41_getKey_LinkedHashMap_Entry : z_PU "java/util/LinkedHashMap$Entry" "java/util/HashMap$Node" ⟨"java/util/LinkedHashMap$Entry", "getKey", "()Ljava/lang/Object;"⟩ yJ41_getKey cJ41_getKey 1 (some (.object "java/lang/Object")) 0 := ⟨q1609, q1612, q1613, q141, q1614, by decide +kernel⟩
theorem ww_J39_next_0 {co : Nat} {o : Nat} {Qk : Option Nat → z_T → z_I → z_Q → Prop} (X : z_X l G A p R s m args meth c cJ39_next 1 RJ39 "next" (some (.object "java/lang/Object")) 0 0 9 141) (ho : (T0 o).1 = 25) {T : z_T} {I : z_I} {Q : z_Q} {H : Heap} {locs : List Loc} {ls : Array Slot} (hB : z_HB G (z_co co) A s.heap T0 I0 Q0 T I Q H locs) (hl : lv_has ls 1 [(0, .ref o)]) (h : wb_J39_next_0 co o Qk T I Q) : W p l e R s m args below meth c H locs 0 0 (z_MQ below G (z_co co) A T0 I0 Q0 (z_qr Qk) z_no args s 0 0) (F0 m 0 ls []) := by
  obtain ⟨hx, hb, -⟩ := id X
  unfold wb_J39_next_0 at h
  refine lv_aload_n (x := o) hx hb dJ39_next_0 rfl (lv_at hl 0 rfl) ?_
  refine z_callr (z_runU (rest := []) [] pu_J39_J38_nextNode_LinkedHashMap_LinkedKeyIterator rfl (met_J38_nextNode co o _ h) X hB hB.2.2.2.2.2.2 q1600 kc_J39 (by decide) (z_fo hB ho (by decide)) rfl hl.1 (Nat.le_of_ble_eq_true rfl) dJ39_next_1 (Nat.le_refl 0) (Nat.le_refl 0) (by decide) (by decide)) hB (fun _ h => h) (fun r1 T2 I3 Q4 H locs h9 hF hB => ?_)
  replace h := h9
  clear h9
  replace h := h hF
  obtain ⟨a5, rfl, h⟩ := h
  obtain ⟨hk_a5, h⟩ := h
  refine z_callrp (z_runU (rest := []) [] pu_J42_J41_getKey_LinkedHashMap_Entry rfl (met_J41_getKey a5 _ h) X hB (fun h => h) q1608 kc_J42 (by decide) hk_a5 rfl hl.1 (Nat.le_of_ble_eq_true rfl) dJ39_next_4 (Nat.le_refl 0) (Nat.le_refl 0) (by decide) (by decide)) hB (fun r6 H locs h9 hB => ?_)
  replace h := h9
  clear h9
  exact z_aret (v := r6) X (by first | exact Or.inl ⟨_, rfl⟩ | exact Or.inr ⟨_, rfl⟩) hB ⟨_, rfl, h⟩ (Nat.le_refl 0) (Nat.le_refl 0) dJ39_next_7
theorem met_J39_next {l : Launch} {G : z_E} {T : z_T} {I : z_I} {Q : z_Q} (co : Nat) (o : Nat) (Qk : Option Nat → z_T → z_I → z_Q → Prop) (h : wp_J39_next co T I Q o Qk) : z_GM l G yJ39_next (ws_ yJ39_next cJ39_next 1 (some (.object "java/lang/Object"))) 9 141 0 0 [.ref o] (z_co co) T I Q (z_qr Qk) z_no := by
  obtain ⟨ho, h⟩ := h
  refine z_body (own := RJ39) (nm := "next") (by decide +kernel) rfl rfl (Nat.le_of_ble_eq_true rfl) (fun p e R s m below meth c A ls X hB hl => ?_)
  exact ww_J39_next_0 X ho hB hl h
/-! J38_hasNext -/
theorem ww_J38_hasNext_12 {T : z_T} {I : z_I} {Q : z_Q} {o : Nat} {Qk : Int32 → Prop} (X : z_X l G A p R s m args meth c cJ38_hasNext 1 RJ38 "hasNext" (some .boolean) 0 0 8 120) (ho : (T o).1 = 25) {s0 : Int32} {H : Heap} {locs : List Loc} {ls : Array Slot} (hB : z_HB G z_none A s.heap T I Q T I Q H locs) (hl : lv_has ls 1 []) (h : wb_J38_hasNext_12 T I Q o Qk s0) : W p l e R s m args below meth c H locs 0 0 (z_MQ below G z_none A T I Q (z_pz Qk T I Q) z_no args s 0 0) (F0 m 12 ls [.int s0]) := by
  obtain ⟨hx, hb, -⟩ := id X
  unfold wb_J38_hasNext_12 at h
  obtain ⟨hz, h⟩ := h
  exact z_zret X hB hz ⟨_, rfl, hz, h, rfl, rfl, rfl⟩ (Nat.le_refl 0) (Nat.le_refl 0) dJ38_hasNext_12
theorem ww_J38_hasNext_0 {T : z_T} {I : z_I} {Q : z_Q} {o : Nat} {Qk : Int32 → Prop} (X : z_X l G A p R s m args meth c cJ38_hasNext 1 RJ38 "hasNext" (some .boolean) 0 0 8 120) (ho : (T o).1 = 25) {H : Heap} {locs : List Loc} {ls : Array Slot} (hB : z_HB G z_none A s.heap T I Q T I Q H locs) (hl : lv_has ls 1 [(0, .ref o)]) (h : wb_J38_hasNext_0 T I Q o Qk ) : W p l e R s m args below meth c H locs 0 0 (z_MQ below G z_none A T I Q (z_pz Qk T I Q) z_no args s 0 0) (F0 m 0 ls []) := by
  obtain ⟨hx, hb, -⟩ := id X
  unfold wb_J38_hasNext_0 at h
  refine lv_aload_n (x := o) hx hb dJ38_hasNext_0 rfl (lv_at hl 0 rfl) ?_
  refine z_getq X hB.1 kc_J39 in_J39 (j := 0) (Nat.le_of_ble_eq_true rfl) q1469 (fun _ h => h) rfl (by decide) ho dJ38_hasNext_1 ?_
  refine z_ifnull (tgt := 11) hx hb dJ38_hasNext_4 (by decide) (fun c1 => ?_) (fun a2 c1 => ?_)
  · replace h := h.1 c1
    refine lv_iconst (v := 0) hx hb dJ38_hasNext_11 (by decide) ?_
    exact ww_J38_hasNext_12 X ho  hB (lv_sub hl [] rfl) h
  · replace h := h.2 a2 c1
    refine lv_iconst (v := 1) hx hb dJ38_hasNext_7 (by decide) ?_
    refine lv_goto (tgt := 12) hx hb dJ38_hasNext_8 (by decide) ?_
    exact ww_J38_hasNext_12 X ho  hB (lv_sub hl [] rfl) h
theorem met_J38_hasNext {l : Launch} {G : z_E} {T : z_T} {I : z_I} {Q : z_Q} (o : Nat) (Qk : Int32 → Prop) (h : wp_J38_hasNext T I Q o Qk) : z_GM l G yJ38_hasNext (ws_ yJ38_hasNext cJ38_hasNext 1 (some .boolean)) 8 120 0 0 [.ref o] z_none T I Q (z_pz Qk T I Q) z_no := by
  obtain ⟨ho, h⟩ := h
  refine z_body (own := RJ38) (nm := "hasNext") (by decide +kernel) rfl rfl (Nat.le_of_ble_eq_true rfl) (fun p e R s m below meth c A ls X hB hl => ?_)
  exact ww_J38_hasNext_0 X ho hB hl h
/-! J47_checkForComodification -/
theorem ww_J47_checkForComodification_0 {T : z_T} {I : z_I} {Q : z_Q} {o : Nat} {Qk : Prop} (X : z_X l G A p R s m args meth c cJ47_checkForComodification 1 RJ47 "checkForComodification" none 0 0 8 120) (ho : (T o).1 = 20) {H : Heap} {locs : List Loc} {ls : Array Slot} (hB : z_HB G z_none A s.heap T I Q T I Q H locs) (hl : lv_has ls 1 [(0, .ref o)]) (h : wb_J47_checkForComodification_0 T I Q o Qk ) : W p l e R s m args below meth c H locs 0 0 (z_MQ below G z_none A T I Q (z_pv Qk T I Q) z_no args s 0 0) (F0 m 0 ls []) := by
  obtain ⟨hx, hb, -⟩ := id X
  unfold wb_J47_checkForComodification_0 at h
  refine lv_aload_n (x := o) hx hb dJ47_checkForComodification_0 rfl (lv_at hl 0 rfl) ?_
  refine z_getq X hB.1 kc_J47 in_J47 (j := 3) (Nat.le_of_ble_eq_true rfl) q2267 (fun _ h => h) rfl (by decide) ho dJ47_checkForComodification_1 ?_
  obtain ⟨a1, ea1, h⟩ := h
  refine z_stk (st' := [.ref a1]) (by rw [ea1] <;> rfl) ?_
  obtain ⟨hk_a1, h⟩ := h
  refine z_geti X hB.1 kc_J30 in_J30 (j := 0) (Nat.le_of_ble_eq_true rfl) q1108 (z_same X q1109) rfl (by decide) hk_a1 dJ47_checkForComodification_4 ?_
  refine lv_aload_n (x := o) hx hb dJ47_checkForComodification_7 rfl (lv_at hl 0 rfl) ?_
  refine z_geti X hB.1 kc_J47 in_J47 (j := 2) (Nat.le_of_ble_eq_true rfl) q2266 (fun _ h => h) rfl (by decide) ho dJ47_checkForComodification_8 ?_
  refine lv_icmp_eq (tgt := 22) hx hb dJ47_checkForComodification_11 (by decide) (fun c2 => ?_) (fun c2 => ?_)
  · replace h := h.1 c2
    exact z_vret X hB ⟨rfl, h, rfl, rfl, rfl⟩ (Nat.le_refl 0) (Nat.le_refl 0) dJ47_checkForComodification_22
  · replace h := h.2 c2
    exact h.elim
theorem pk_J47_checkForComodification : z_PV RJ47 yJ47_checkForComodification cJ47_checkForComodification 1 none 0 := ⟨q1577, q1578, q148, q1579, by decide +kernel⟩
theorem met_J47_checkForComodification {l : Launch} {G : z_E} {T : z_T} {I : z_I} {Q : z_Q} (o : Nat) (Qk : Prop) (h : wp_J47_checkForComodification T I Q o Qk) : z_GM l G yJ47_checkForComodification (ws_ yJ47_checkForComodification cJ47_checkForComodification 1 none) 8 120 0 0 [.ref o] z_none T I Q (z_pv Qk T I Q) z_no := by
  obtain ⟨ho, h⟩ := h
  refine z_body (own := RJ47) (nm := "checkForComodification") (by decide +kernel) rfl rfl (Nat.le_of_ble_eq_true rfl) (fun p e R s m below meth c A ls X hB hl => ?_)
  exact ww_J47_checkForComodification_0 X ho hB hl h
/-! J47_next -/
theorem ww_J47_next_0 {co : Nat} {o : Nat} {Qk : Option Nat → z_T → z_I → z_Q → Prop} (X : z_X l G A p R s m args meth c cJ47_next 3 RJ47 "next" (some (.object "java/lang/Object")) 0 0 9 140) (ho : (T0 o).1 = 20) (hoc : (T0 o).2.2 = co) {T : z_T} {I : z_I} {Q : z_Q} {H : Heap} {locs : List Loc} {ls : Array Slot} (hB : z_HB G (z_co co) A s.heap T0 I0 Q0 T I Q H locs) (hl : lv_has ls 3 [(0, .ref o)]) (h : wb_J47_next_0 co o Qk T I Q) : W p l e R s m args below meth c H locs 0 0 (z_MQ below G (z_co co) A T0 I0 Q0 (z_qr Qk) z_no args s 0 0) (F0 m 0 ls []) := by
  obtain ⟨hx, hb, -⟩ := id X
  unfold wb_J47_next_0 at h
  refine lv_aload_n (x := o) hx hb dJ47_next_0 rfl (lv_at hl 0 rfl) ?_
  refine z_callvp (z_runV (rest := []) [] pk_J47_checkForComodification (met_J47_checkForComodification o _ h) X hB (fun h => h) q1576 kc_J47 (by decide) (z_fo hB ho (by decide)) rfl hl.1 (Nat.le_of_ble_eq_true rfl) dJ47_next_1 (Nat.le_refl 0) (Nat.le_refl 0) (by decide) (by decide)) hB (fun H locs h9 hB => ?_)
  replace h := h9
  clear h9
  refine lv_aload_n (x := o) hx hb dJ47_next_4 rfl (lv_at hl 0 rfl) ?_
  refine z_geti X hB.1 kc_J47 in_J47 (j := 0) (Nat.le_of_ble_eq_true rfl) q2264 (fun _ h => h) rfl (by decide) (z_fo hB ho (by decide)) dJ47_next_5 ?_
  refine lv_topi (fun y2 ey2 => ?_)
  replace h := h y2 ey2
  refine lv_istore_n (lv' := [(1, .int y2), (0, .ref o)]) hx hb dJ47_next_8 rfl hl (by decide) rfl (fun ls hl9 => ?_)
  replace hl := hl9
  clear hl9
  refine lv_iload_n hx hb dJ47_next_9 rfl (lv_at hl 0 rfl) ?_
  refine lv_aload_n (x := o) hx hb dJ47_next_10 rfl (lv_at hl 1 rfl) ?_
  refine z_getq X hB.1 kc_J47 in_J47 (j := 3) (Nat.le_of_ble_eq_true rfl) q2267 (fun _ h => h) rfl (by decide) (z_fo hB ho (by decide)) dJ47_next_11 ?_
  obtain ⟨a3, ea3, h⟩ := h
  refine z_stk (st' := [.ref a3, .int y2]) (by rw [ea3] <;> rfl) ?_
  obtain ⟨hk_a3, h⟩ := h
  refine z_getiN X hB.1 kc_J30 in_J30 (j := 2) (Nat.le_of_ble_eq_true rfl) q1105 (fun _ h => h) rfl (by decide) hk_a3 dJ47_next_14 ?_
  refine lv_icmp_lt (tgt := 28) hx hb dJ47_next_17 (by decide) (fun c4 => ?_) (fun c4 => ?_)
  · replace h := h.1 c4
    refine lv_aload_n (x := o) hx hb dJ47_next_28 rfl (lv_at hl 1 rfl) ?_
    refine z_getq X hB.1 kc_J47 in_J47 (j := 3) (Nat.le_of_ble_eq_true rfl) q2267 (fun _ h => h) rfl (by decide) (z_fo hB ho (by decide)) dJ47_next_29 ?_
    refine z_stk (st' := [.ref a3]) (by rw [ea3] <;> rfl) ?_
    refine z_getq X hB.1 kc_J30 in_J30 (j := 1) (Nat.le_of_ble_eq_true rfl) q1104 (fun _ h => h) rfl (by decide) hk_a3 dJ47_next_32 ?_
    obtain ⟨y5, ey5⟩ : ∃ z : Option Nat, z = (Q a3 1) := ⟨_, rfl⟩
    replace h := h y5 ey5
    refine z_stk (st' := [va_rf y5]) (by rw [ey5]) ?_
    refine z_astore_n (x := y5) (lv' := [(2, va_rf y5), (1, .int y2), (0, .ref o)]) hx hb dJ47_next_35 rfl hl (by decide) rfl (fun ls hl9 => ?_)
    replace hl := hl9
    clear hl9
    refine lv_iload_n hx hb dJ47_next_36 rfl (lv_at hl 1 rfl) ?_
    refine z_aload_n (x := y5) hx hb dJ47_next_37 rfl (lv_at hl 0 rfl) ?_
    obtain ⟨a6, rfl, h⟩ := h
    obtain ⟨hk_a6, h⟩ := h
    refine z_alen (k := 2) X hB.1 (by decide) hk_a6 dJ47_next_38 ?_
    refine lv_icmp_lt (tgt := 50) hx hb dJ47_next_39 (by decide) (fun c7 => ?_) (fun c7 => ?_)
    · replace h := h.1 c7
      refine lv_aload_n (x := o) hx hb dJ47_next_50 rfl (lv_at hl 2 rfl) ?_
      refine lv_iload_n hx hb dJ47_next_51 rfl (lv_at hl 1 rfl) ?_
      refine lv_iconst (v := 1) hx hb dJ47_next_52 (by decide) ?_
      refine lv_iadd hx hb dJ47_next_53 ?_
      obtain ⟨I8, eI8⟩ : ∃ z, z = z_up I o 0 (y2 + 1) := ⟨_, rfl⟩
      replace h := h I8 eI8
      refine z_puti (x := (y2 + 1)) eI8 tyJ47 X hB kc_J47 in_J47 tyJ47_ok nmJ47 (j := 0) (Nat.le_of_ble_eq_true rfl) q2264 (fun _ h => h) rfl rfl (by decide) (z_fo hB ho (by decide)) (z_foc hB ho (by decide) hoc) rfl (Or.inl rfl) dJ47_next_54 (fun H locs hB => ?_)
      refine lv_aload_n (x := a6) hx hb dJ47_next_57 rfl (lv_at hl 0 rfl) ?_
      refine lv_aload_n (x := o) hx hb dJ47_next_58 rfl (lv_at hl 2 rfl) ?_
      refine lv_iload_n hx hb dJ47_next_59 rfl (lv_at hl 1 rfl) ?_
      refine lv_dup_x1 hx hb dJ47_next_60 rfl rfl ?_
      obtain ⟨I9, eI9⟩ : ∃ z, z = z_up I8 o 1 y2 := ⟨_, rfl⟩
      replace h := h I9 eI9
      refine z_puti (x := y2) eI9 tyJ47 X hB kc_J47 in_J47 tyJ47_ok nmJ47 (j := 1) (Nat.le_of_ble_eq_true rfl) q2265 (fun _ h => h) rfl rfl (by decide) (z_fo hB ho (by decide)) (z_foc hB ho (by decide) hoc) rfl (Or.inl rfl) dJ47_next_61 (fun H locs hB => ?_)
      obtain ⟨h1, h⟩ := h
      refine z_aald (k := 2) X hB.1 (by decide) hk_a6 h1 dJ47_next_64 ?_
      exact z_aret (v := (Q a6 y2.toNatClampNeg)) X (by first | exact Or.inl ⟨_, rfl⟩ | exact Or.inr ⟨_, rfl⟩) hB ⟨_, rfl, h⟩ (Nat.le_refl 0) (Nat.le_refl 0) dJ47_next_65
    · replace h := h.2 c7
      exact h.elim
  · replace h := h.2 c4
    exact h.elim
theorem met_J47_next {l : Launch} {G : z_E} {T : z_T} {I : z_I} {Q : z_Q} (co : Nat) (o : Nat) (Qk : Option Nat → z_T → z_I → z_Q → Prop) (h : wp_J47_next co T I Q o Qk) : z_GM l G yJ47_next (ws_ yJ47_next cJ47_next 3 (some (.object "java/lang/Object"))) 9 140 0 0 [.ref o] (z_co co) T I Q (z_qr Qk) z_no := by
  obtain ⟨ho, hoc, h⟩ := h
  refine z_body (own := RJ47) (nm := "next") (by decide +kernel) rfl rfl (Nat.le_of_ble_eq_true rfl) (fun p e R s m below meth c A ls X hB hl => ?_)
  exact ww_J47_next_0 X ho hoc hB hl h
/-! J47_hasNext -/
theorem ww_J47_hasNext_19 {T : z_T} {I : z_I} {Q : z_Q} {o : Nat} {Qk : Int32 → Prop} (X : z_X l G A p R s m args meth c cJ47_hasNext 1 RJ47 "hasNext" (some .boolean) 0 0 8 120) (ho : (T o).1 = 20) {s0 : Int32} {H : Heap} {locs : List Loc} {ls : Array Slot} (hB : z_HB G z_none A s.heap T I Q T I Q H locs) (hl : lv_has ls 1 []) (h : wb_J47_hasNext_19 T I Q o Qk s0) : W p l e R s m args below meth c H locs 0 0 (z_MQ below G z_none A T I Q (z_pz Qk T I Q) z_no args s 0 0) (F0 m 19 ls [.int s0]) := by
  obtain ⟨hx, hb, -⟩ := id X
  unfold wb_J47_hasNext_19 at h
  obtain ⟨hz, h⟩ := h
  exact z_zret X hB hz ⟨_, rfl, hz, h, rfl, rfl, rfl⟩ (Nat.le_refl 0) (Nat.le_refl 0) dJ47_hasNext_19
theorem ww_J47_hasNext_0 {T : z_T} {I : z_I} {Q : z_Q} {o : Nat} {Qk : Int32 → Prop} (X : z_X l G A p R s m args meth c cJ47_hasNext 1 RJ47 "hasNext" (some .boolean) 0 0 8 120) (ho : (T o).1 = 20) {H : Heap} {locs : List Loc} {ls : Array Slot} (hB : z_HB G z_none A s.heap T I Q T I Q H locs) (hl : lv_has ls 1 [(0, .ref o)]) (h : wb_J47_hasNext_0 T I Q o Qk ) : W p l e R s m args below meth c H locs 0 0 (z_MQ below G z_none A T I Q (z_pz Qk T I Q) z_no args s 0 0) (F0 m 0 ls []) := by
  obtain ⟨hx, hb, -⟩ := id X
  unfold wb_J47_hasNext_0 at h
  refine lv_aload_n (x := o) hx hb dJ47_hasNext_0 rfl (lv_at hl 0 rfl) ?_
  refine z_geti X hB.1 kc_J47 in_J47 (j := 0) (Nat.le_of_ble_eq_true rfl) q2264 (fun _ h => h) rfl (by decide) ho dJ47_hasNext_1 ?_
  refine lv_aload_n (x := o) hx hb dJ47_hasNext_4 rfl (lv_at hl 0 rfl) ?_
  refine z_getq X hB.1 kc_J47 in_J47 (j := 3) (Nat.le_of_ble_eq_true rfl) q2267 (fun _ h => h) rfl (by decide) ho dJ47_hasNext_5 ?_
  obtain ⟨a1, ea1, h⟩ := h
  refine z_stk (st' := [.ref a1, .int (I o 0)]) (by rw [ea1] <;> rfl) ?_
  obtain ⟨hk_a1, h⟩ := h
  refine z_getiN X hB.1 kc_J30 in_J30 (j := 2) (Nat.le_of_ble_eq_true rfl) q1105 (fun _ h => h) rfl (by decide) hk_a1 dJ47_hasNext_8 ?_
  refine lv_icmp_eq (tgt := 18) hx hb dJ47_hasNext_11 (by decide) (fun c2 => ?_) (fun c2 => ?_)
  · replace h := h.1 c2
    refine lv_iconst (v := 0) hx hb dJ47_hasNext_18 (by decide) ?_
    exact ww_J47_hasNext_19 X ho  hB (lv_sub hl [] rfl) h
  · replace h := h.2 c2
    refine lv_iconst (v := 1) hx hb dJ47_hasNext_14 (by decide) ?_
    refine lv_goto (tgt := 19) hx hb dJ47_hasNext_15 (by decide) ?_
    exact ww_J47_hasNext_19 X ho  hB (lv_sub hl [] rfl) h
theorem met_J47_hasNext {l : Launch} {G : z_E} {T : z_T} {I : z_I} {Q : z_Q} (o : Nat) (Qk : Int32 → Prop) (h : wp_J47_hasNext T I Q o Qk) : z_GM l G yJ47_hasNext (ws_ yJ47_hasNext cJ47_hasNext 1 (some .boolean)) 8 120 0 0 [.ref o] z_none T I Q (z_pz Qk T I Q) z_no := by
  obtain ⟨ho, h⟩ := h
  refine z_body (own := RJ47) (nm := "hasNext") (by decide +kernel) rfl rfl (Nat.le_of_ble_eq_true rfl) (fun p e R s m below meth c A ls X hB hl => ?_)
  exact ww_J47_hasNext_0 X ho hB hl h
/-! J31_inc -/
theorem ww_J31_inc_10 {Qk : Int32 → Prop} (X : z_X l G A p R s m args meth c cJ31_inc 2 RJ31 "inc" (some .int) 0 0 8 120) {x0 : Int32} {H : Heap} {locs : List Loc} {ls : Array Slot} (hB : z_HB G z_none A s.heap T I Q T I Q H locs) (hl : lv_has ls 2 [(0, .int x0)]) (h : wb_J31_inc_10 Qk x0) : W p l e R s m args below meth c H locs 0 0 (z_MQ below G z_none A T I Q (z_pi Qk T I Q) z_no args s 0 0) (F0 m 10 ls []) := by
  obtain ⟨hx, hb, -⟩ := id X
  unfold wb_J31_inc_10 at h
  refine lv_iload_n hx hb dJ31_inc_10 rfl (lv_at hl 0 rfl) ?_
  exact z_iret X hB ⟨_, rfl, h, rfl, rfl, rfl⟩ (Nat.le_refl 0) (Nat.le_refl 0) dJ31_inc_11
theorem ww_J31_inc_0 {Qk : Int32 → Prop} (X : z_X l G A p R s m args meth c cJ31_inc 2 RJ31 "inc" (some .int) 0 0 8 120) {x0 : Int32} {x1 : Int32} {H : Heap} {locs : List Loc} {ls : Array Slot} (hB : z_HB G z_none A s.heap T I Q T I Q H locs) (hl : lv_has ls 2 [(0, .int x0), (1, .int x1)]) (h : wb_J31_inc_0 Qk x0 x1) : W p l e R s m args below meth c H locs 0 0 (z_MQ below G z_none A T I Q (z_pi Qk T I Q) z_no args s 0 0) (F0 m 0 ls []) := by
  obtain ⟨hx, hb, -⟩ := id X
  unfold wb_J31_inc_0 at h
  obtain ⟨y1, ey1⟩ : ∃ z : Int32, z = x0 + 1 := ⟨_, rfl⟩
  replace h := h y1 ey1
  refine lv_iinc (v := y1) (lv' := [(0, .int y1), (1, .int x1)]) hx hb dJ31_inc_0 hl (k := 0) rfl (by rw [ey1]; rfl) (by decide) rfl (fun ls hl9 => ?_)
  replace hl := hl9
  clear hl9
  refine lv_iload_n hx hb dJ31_inc_3 rfl (lv_at hl 0 rfl) ?_
  refine lv_iload_n hx hb dJ31_inc_4 rfl (lv_at hl 1 rfl) ?_
  refine lv_icmp_lt (tgt := 10) hx hb dJ31_inc_5 (by decide) (fun c2 => ?_) (fun c2 => ?_)
  · replace h := h.1 c2
    exact ww_J31_inc_10 X  hB (lv_sub hl [0] rfl) h
  · replace h := h.2 c2
    refine lv_iconst (v := 0) hx hb dJ31_inc_8 (by decide) ?_
    refine lv_istore_n (lv' := [(0, .int 0), (1, .int x1)]) hx hb dJ31_inc_9 rfl hl (by decide) rfl (fun ls hl9 => ?_)
    replace hl := hl9
    clear hl9
    exact ww_J31_inc_10 X  hB (lv_sub hl [0] rfl) h
theorem pk_J31_inc : z_PS yJ31_inc cJ31_inc 2 (some .int) 2 := ⟨q1569, q128, q1570, by decide +kernel⟩
theorem met_J31_inc {l : Launch} {G : z_E} {T : z_T} {I : z_I} {Q : z_Q} (x0 : Int32) (x1 : Int32) (Qk : Int32 → Prop) (h : wp_J31_inc x0 x1 Qk) : z_GM l G yJ31_inc (ws_ yJ31_inc cJ31_inc 2 (some .int)) 8 120 0 0 [.int x0, .int x1] z_none T I Q (z_pi Qk T I Q) z_no := by
  refine z_body (own := RJ31) (nm := "inc") (by decide +kernel) rfl rfl (Nat.le_of_ble_eq_true rfl) (fun p e R s m below meth c A ls X hB hl => ?_)
  exact ww_J31_inc_0 X hB hl h
/-! J31_nonNullElementAt -/
theorem ww_J31_nonNullElementAt_0 {T : z_T} {I : z_I} {Q : z_Q} {Qk : Option Nat → Prop} (X : z_X l G A p R s m args meth c cJ31_nonNullElementAt 3 RJ31 "nonNullElementAt" (some (.object "java/lang/Object")) 0 0 8 120) {x0 : Option Nat} {x1 : Int32} {H : Heap} {locs : List Loc} {ls : Array Slot} (hB : z_HB G z_none A s.heap T I Q T I Q H locs) (hl : lv_has ls 3 [(0, va_rf x0), (1, .int x1)]) (h : wb_J31_nonNullElementAt_0 T I Q Qk x0 x1) : W p l e R s m args below meth c H locs 0 0 (z_MQ below G z_none A T I Q (z_pr Qk T I Q) z_no args s 0 0) (F0 m 0 ls []) := by
  obtain ⟨hx, hb, -⟩ := id X
  unfold wb_J31_nonNullElementAt_0 at h
  refine z_aload_n (x := x0) hx hb dJ31_nonNullElementAt_0 rfl (lv_at hl 0 rfl) ?_
  refine lv_iload_n hx hb dJ31_nonNullElementAt_1 rfl (lv_at hl 1 rfl) ?_
  obtain ⟨a1, rfl, h⟩ := h
  obtain ⟨hk_a1, h⟩ := h
  obtain ⟨h1, h⟩ := h
  refine z_aald (k := 2) X hB.1 (by decide) hk_a1 h1 dJ31_nonNullElementAt_2 ?_
  obtain ⟨y2, ey2⟩ : ∃ z : Option Nat, z = (Q a1 x1.toNatClampNeg) := ⟨_, rfl⟩
  replace h := h y2 ey2
  refine z_stk (st' := [va_rf y2]) (by rw [ey2]) ?_
  refine z_astore_n (x := y2) (lv' := [(2, va_rf y2), (0, .ref a1), (1, .int x1)]) hx hb dJ31_nonNullElementAt_3 rfl hl (by decide) rfl (fun ls hl9 => ?_)
  replace hl := hl9
  clear hl9
  refine z_aload_n (x := y2) hx hb dJ31_nonNullElementAt_4 rfl (lv_at hl 0 rfl) ?_
  refine z_ifnonnull (tgt := 16) hx hb dJ31_nonNullElementAt_5 (by decide) (fun a4 c3 => ?_) (fun c3 => ?_)
  · replace h := h.2 a4 c3
    subst c3
    refine lv_aload_n (x := a4) hx hb dJ31_nonNullElementAt_16 rfl (lv_at hl 0 rfl) ?_
    exact z_aret (v := (some a4)) X (by first | exact Or.inl ⟨_, rfl⟩ | exact Or.inr ⟨_, rfl⟩) hB ⟨_, rfl, h, rfl, rfl, rfl⟩ (Nat.le_refl 0) (Nat.le_refl 0) dJ31_nonNullElementAt_17
  · replace h := h.1 c3
    subst c3
    exact h.elim
theorem pk_J31_nonNullElementAt : z_PS yJ31_nonNullElementAt cJ31_nonNullElementAt 3 (some (.object "java/lang/Object")) 2 := ⟨q1566, q128, q1567, by decide +kernel⟩
theorem met_J31_nonNullElementAt {l : Launch} {G : z_E} {T : z_T} {I : z_I} {Q : z_Q} (x0 : Option Nat) (x1 : Int32) (Qk : Option Nat → Prop) (h : wp_J31_nonNullElementAt T I Q x0 x1 Qk) : z_GM l G yJ31_nonNullElementAt (ws_ yJ31_nonNullElementAt cJ31_nonNullElementAt 3 (some (.object "java/lang/Object"))) 8 120 0 0 [va_rf x0, .int x1] z_none T I Q (z_pr Qk T I Q) z_no := by
  refine z_body (own := RJ31) (nm := "nonNullElementAt") (by decide +kernel) rfl rfl (by cases x0 <;> exact Nat.le_of_ble_eq_true rfl) (fun p e R s m below meth c A ls X hB hl => ?_)
  replace hl : lv_has ls 3 [(0, va_rf x0), (1, .int x1)] := by cases x0 <;> exact hl
  exact ww_J31_nonNullElementAt_0 X hB hl h
/-! J46_next -/
theorem ww_J46_next_0 {co : Nat} {o : Nat} {Qk : Option Nat → z_T → z_I → z_Q → Prop} (X : z_X l G A p R s m args meth c cJ46_next 3 RJ46 "next" (some (.object "java/lang/Object")) 0 0 9 142) (ho : (T0 o).1 = 18) (hoc : (T0 o).2.2 = co) {T : z_T} {I : z_I} {Q : z_Q} {H : Heap} {locs : List Loc} {ls : Array Slot} (hB : z_HB G (z_co co) A s.heap T0 I0 Q0 T I Q H locs) (hl : lv_has ls 3 [(0, .ref o)]) (h : wb_J46_next_0 co o Qk T I Q) : W p l e R s m args below meth c H locs 0 0 (z_MQ below G (z_co co) A T0 I0 Q0 (z_qr Qk) z_no args s 0 0) (F0 m 0 ls []) := by
  obtain ⟨hx, hb, -⟩ := id X
  unfold wb_J46_next_0 at h
  refine lv_aload_n (x := o) hx hb dJ46_next_0 rfl (lv_at hl 0 rfl) ?_
  refine z_geti X hB.1 kc_J46 in_J46 (j := 1) (Nat.le_of_ble_eq_true rfl) q2206 (fun _ h => h) rfl (by decide) (z_fo hB ho (by decide)) dJ46_next_1 ?_
  refine lv_if_gt (tgt := 15) hx hb dJ46_next_4 (by decide) (fun c1 => ?_) (fun c1 => ?_)
  · replace h := h.1 c1
    refine lv_aload_n (x := o) hx hb dJ46_next_15 rfl (lv_at hl 0 rfl) ?_
    refine z_getq X hB.1 kc_J46 in_J46 (j := 3) (Nat.le_of_ble_eq_true rfl) q2208 (fun _ h => h) rfl (by decide) (z_fo hB ho (by decide)) dJ46_next_16 ?_
    obtain ⟨a2, ea2, h⟩ := h
    refine z_stk (st' := [.ref a2]) (by rw [ea2] <;> rfl) ?_
    obtain ⟨hk_a2, h⟩ := h
    refine z_getq X hB.1 kc_J31 in_J31 (j := 0) (Nat.le_of_ble_eq_true rfl) q1127 (fun _ h => h) rfl (by decide) hk_a2 dJ46_next_19 ?_
    obtain ⟨y3, ey3⟩ : ∃ z : Option Nat, z = (Q a2 0) := ⟨_, rfl⟩
    replace h := h y3 ey3
    refine z_stk (st' := [va_rf y3]) (by rw [ey3]) ?_
    refine z_astore_n (x := y3) (lv' := [(1, va_rf y3), (0, .ref o)]) hx hb dJ46_next_22 rfl hl (by decide) rfl (fun ls hl9 => ?_)
    replace hl := hl9
    clear hl9
    refine z_aload_n (x := y3) hx hb dJ46_next_23 rfl (lv_at hl 0 rfl) ?_
    refine lv_aload_n (x := o) hx hb dJ46_next_24 rfl (lv_at hl 1 rfl) ?_
    refine z_geti X hB.1 kc_J46 in_J46 (j := 0) (Nat.le_of_ble_eq_true rfl) q2205 (fun _ h => h) rfl (by decide) (z_fo hB ho (by decide)) dJ46_next_25 ?_
    refine z_callrp (z_runS (rest := []) [va_rf y3, .int (I o 0)] pk_J31_nonNullElementAt (met_J31_nonNullElementAt y3 (I o 0) _ h) X hB (fun h => h) q1565 rfl hl.1 (Nat.le_of_ble_eq_true rfl) dJ46_next_28 (Nat.le_refl 0) (Nat.le_refl 0) (by decide) (by decide)) hB (fun r4 H locs h9 hB => ?_)
    replace h := h9
    clear h9
    refine z_astore_n (i := 2) (x := r4) (lv' := [(2, va_rf r4), (1, va_rf y3), (0, .ref o)]) hx hb dJ46_next_31 rfl hl (by decide) (by simp [z_cat, z_rfs, z_catq]) (fun ls hl9 => ?_)
    replace hl := hl9
    clear hl9
    refine lv_aload_n (x := o) hx hb dJ46_next_32 rfl (lv_at hl 2 rfl) ?_
    refine lv_aload_n (x := o) hx hb dJ46_next_33 rfl (lv_at hl 2 rfl) ?_
    refine lv_aload_n (x := o) hx hb dJ46_next_34 rfl (lv_at hl 2 rfl) ?_
    refine z_geti X hB.1 kc_J46 in_J46 (j := 0) (Nat.le_of_ble_eq_true rfl) q2205 (fun _ h => h) rfl (by decide) (z_fo hB ho (by decide)) dJ46_next_35 ?_
    refine lv_dup_x1 hx hb dJ46_next_38 rfl rfl ?_
    obtain ⟨I5, eI5⟩ : ∃ z, z = z_up I o 2 (I o 0) := ⟨_, rfl⟩
    replace h := h I5 eI5
    refine z_puti (x := (I o 0)) eI5 tyJ46 X hB kc_J46 in_J46 tyJ46_ok nmJ46 (j := 2) (Nat.le_of_ble_eq_true rfl) q2207 (fun _ h => h) rfl rfl (by decide) (z_fo hB ho (by decide)) (z_foc hB ho (by decide) hoc) rfl (Or.inl rfl) dJ46_next_39 (fun H locs hB => ?_)
    refine z_aload_n (x := y3) hx hb dJ46_next_42 rfl (lv_at hl 1 rfl) ?_
    obtain ⟨a6, rfl, h⟩ := h
    obtain ⟨hk_a6, h⟩ := h
    refine z_alen (k := 2) X hB.1 (by decide) hk_a6 dJ46_next_43 ?_
    refine z_callip (z_runS (rest := [.ref o]) [.int (I o 0), .int (nI (T a6).2.1)] pk_J31_inc (met_J31_inc (I o 0) (nI (T a6).2.1) _ h) X hB (fun h => h) q1568 rfl hl.1 (Nat.le_of_ble_eq_true rfl) dJ46_next_44 (Nat.le_refl 0) (Nat.le_refl 0) (by decide) (by decide)) hB (fun r7 H locs h9 hB => ?_)
    replace h := h9
    clear h9
    obtain ⟨I8, eI8⟩ : ∃ z, z = z_up I5 o 0 r7 := ⟨_, rfl⟩
    replace h := h I8 eI8
    refine z_puti (x := r7) eI8 tyJ46 X hB kc_J46 in_J46 tyJ46_ok nmJ46 (j := 0) (Nat.le_of_ble_eq_true rfl) q2205 (fun _ h => h) rfl rfl (by decide) (z_fo hB ho (by decide)) (z_foc hB ho (by decide) hoc) rfl (Or.inl rfl) dJ46_next_47 (fun H locs hB => ?_)
    refine lv_aload_n (x := o) hx hb dJ46_next_50 rfl (lv_at hl 2 rfl) ?_
    refine lv_dup hx hb dJ46_next_51 rfl ?_
    refine z_geti X hB.1 kc_J46 in_J46 (j := 1) (Nat.le_of_ble_eq_true rfl) q2206 (fun _ h => h) rfl (by decide) (z_fo hB ho (by decide)) dJ46_next_52 ?_
    refine lv_iconst (v := 1) hx hb dJ46_next_55 (by decide) ?_
    refine lv_isub hx hb dJ46_next_56 ?_
    obtain ⟨I9, eI9⟩ : ∃ z, z = z_up I8 o 1 ((I8 o 1) - 1) := ⟨_, rfl⟩
    replace h := h I9 eI9
    refine z_puti (x := ((I8 o 1) - 1)) eI9 tyJ46 X hB kc_J46 in_J46 tyJ46_ok nmJ46 (j := 1) (Nat.le_of_ble_eq_true rfl) q2206 (fun _ h => h) rfl rfl (by decide) (z_fo hB ho (by decide)) (z_foc hB ho (by decide) hoc) rfl (Or.inl rfl) dJ46_next_57 (fun H locs hB => ?_)
    refine z_aload_n (x := r4) hx hb dJ46_next_60 rfl (lv_at hl 0 rfl) ?_
    exact z_aret (v := r4) X (by first | exact Or.inl ⟨_, rfl⟩ | exact Or.inr ⟨_, rfl⟩) hB ⟨_, rfl, h⟩ (Nat.le_refl 0) (Nat.le_refl 0) dJ46_next_61
  · replace h := h.2 c1
    exact h.elim
theorem met_J46_next {l : Launch} {G : z_E} {T : z_T} {I : z_I} {Q : z_Q} (co : Nat) (o : Nat) (Qk : Option Nat → z_T → z_I → z_Q → Prop) (h : wp_J46_next co T I Q o Qk) : z_GM l G yJ46_next (ws_ yJ46_next cJ46_next 3 (some (.object "java/lang/Object"))) 9 142 0 0 [.ref o] (z_co co) T I Q (z_qr Qk) z_no := by
  obtain ⟨ho, hoc, h⟩ := h
  refine z_body (own := RJ46) (nm := "next") (by decide +kernel) rfl rfl (Nat.le_of_ble_eq_true rfl) (fun p e R s m below meth c A ls X hB hl => ?_)
  exact ww_J46_next_0 X ho hoc hB hl h
/-! J46_hasNext -/
theorem ww_J46_hasNext_12 {T : z_T} {I : z_I} {Q : z_Q} {o : Nat} {Qk : Int32 → Prop} (X : z_X l G A p R s m args meth c cJ46_hasNext 1 RJ46 "hasNext" (some .boolean) 0 0 8 120) (ho : (T o).1 = 18) {s0 : Int32} {H : Heap} {locs : List Loc} {ls : Array Slot} (hB : z_HB G z_none A s.heap T I Q T I Q H locs) (hl : lv_has ls 1 []) (h : wb_J46_hasNext_12 T I Q o Qk s0) : W p l e R s m args below meth c H locs 0 0 (z_MQ below G z_none A T I Q (z_pz Qk T I Q) z_no args s 0 0) (F0 m 12 ls [.int s0]) := by
  obtain ⟨hx, hb, -⟩ := id X
  unfold wb_J46_hasNext_12 at h
  obtain ⟨hz, h⟩ := h
  exact z_zret X hB hz ⟨_, rfl, hz, h, rfl, rfl, rfl⟩ (Nat.le_refl 0) (Nat.le_refl 0) dJ46_hasNext_12
theorem ww_J46_hasNext_0 {T : z_T} {I : z_I} {Q : z_Q} {o : Nat} {Qk : Int32 → Prop} (X : z_X l G A p R s m args meth c cJ46_hasNext 1 RJ46 "hasNext" (some .boolean) 0 0 8 120) (ho : (T o).1 = 18) {H : Heap} {locs : List Loc} {ls : Array Slot} (hB : z_HB G z_none A s.heap T I Q T I Q H locs) (hl : lv_has ls 1 [(0, .ref o)]) (h : wb_J46_hasNext_0 T I Q o Qk ) : W p l e R s m args below meth c H locs 0 0 (z_MQ below G z_none A T I Q (z_pz Qk T I Q) z_no args s 0 0) (F0 m 0 ls []) := by
  obtain ⟨hx, hb, -⟩ := id X
  unfold wb_J46_hasNext_0 at h
  refine lv_aload_n (x := o) hx hb dJ46_hasNext_0 rfl (lv_at hl 0 rfl) ?_
  refine z_geti X hB.1 kc_J46 in_J46 (j := 1) (Nat.le_of_ble_eq_true rfl) q2206 (fun _ h => h) rfl (by decide) ho dJ46_hasNext_1 ?_
  refine lv_if_le (tgt := 11) hx hb dJ46_hasNext_4 (by decide) (fun c1 => ?_) (fun c1 => ?_)
  · replace h := h.1 c1
    refine lv_iconst (v := 0) hx hb dJ46_hasNext_11 (by decide) ?_
    exact ww_J46_hasNext_12 X ho  hB (lv_sub hl [] rfl) h
  · replace h := h.2 c1
    refine lv_iconst (v := 1) hx hb dJ46_hasNext_7 (by decide) ?_
    refine lv_goto (tgt := 12) hx hb dJ46_hasNext_8 (by decide) ?_
    exact ww_J46_hasNext_12 X ho  hB (lv_sub hl [] rfl) h
theorem met_J46_hasNext {l : Launch} {G : z_E} {T : z_T} {I : z_I} {Q : z_Q} (o : Nat) (Qk : Int32 → Prop) (h : wp_J46_hasNext T I Q o Qk) : z_GM l G yJ46_hasNext (ws_ yJ46_hasNext cJ46_hasNext 1 (some .boolean)) 8 120 0 0 [.ref o] z_none T I Q (z_pz Qk T I Q) z_no := by
  obtain ⟨ho, h⟩ := h
  refine z_body (own := RJ46) (nm := "hasNext") (by decide +kernel) rfl rfl (Nat.le_of_ble_eq_true rfl) (fun p e R s m below meth c A ls X hB hl => ?_)
  exact ww_J46_hasNext_0 X ho hB hl h
/-! X5_init -/
theorem wv_X5_init_363 {co : Nat} {o : Nat} {Qk : z_T → z_I → z_Q → Prop} (X : z_X l G A p R s m args meth c cX5_init 2 RX5 "<init>" none mc ms 8 120) (ho : (T0 o).1 = 2) (hoc : (T0 o).2.2 = co) : ∀ (n : Nat) {cells slots : Nat} {T : z_T} {I : z_I} {Q : z_Q} {kc : Nat} {ks : Nat} {x1 : Int32} {H : Heap} {locs : List Loc} {ls : Array Slot}, z_HB G (z_co co) A s.heap T0 I0 Q0 T I Q H locs → cells + kc ≤ mc → slots + ks ≤ ms → lv_has ls 2 [(0, .ref o), (1, .int x1)] → wl_X5_init_363 co o Qk n T I Q kc ks x1 → W p l e R s m args below meth c H locs cells slots (z_MQ below G (z_co co) A T0 I0 Q0 (z_qv Qk) z_no args s mc ms) (F0 m 363 ls []) := by
  intro n
  induction n with
  | zero =>
    intro cells slots T I Q kc ks x1 H locs ls hB hK1 hK2 hl h
    exact h.elim
  | succ n ih =>
    intro cells slots T I Q kc ks x1 H locs ls hB hK1 hK2 hl h
    obtain ⟨hx, hb, -⟩ := id X
    unfold wl_X5_init_363 at h
    refine lv_iload_n hx hb dX5_init_363 rfl (lv_at hl 1 rfl) ?_
    refine lv_iconst (v := 3) hx hb dX5_init_364 (by decide) ?_
    refine lv_icmp_ge (tgt := 381) hx hb dX5_init_365 (by decide) (fun c222 => ?_) (fun c222 => ?_)
    · replace h := h.1 c222
      exact z_vret X hB ⟨rfl, h⟩ (z_k3 hK1) (z_k3 hK2) dX5_init_381
    · replace h := h.2 c222
      refine lv_aload_n (x := o) hx hb dX5_init_368 rfl (lv_at hl 0 rfl) ?_
      refine z_getq X hB.1 kc_X5 in_X5 (j := 3) (Nat.le_of_ble_eq_true rfl) q3213 (fun _ h => h) rfl (by decide) (z_fo hB ho (by decide)) dX5_init_369 ?_
      refine lv_iload_n hx hb dX5_init_372 rfl (lv_at hl 1 rfl) ?_
      refine lv_iconst (v := 2) hx hb dX5_init_373 (by decide) ?_
      obtain ⟨a223, ea223, h⟩ := h
      refine z_stk (st' := [.int 2, .int x1, .ref a223]) (by rw [ea223] <;> rfl) ?_
      obtain ⟨hk_a223, h⟩ := h
      obtain ⟨hc_a223, h⟩ := h
      obtain ⟨h1, h⟩ := h
      obtain ⟨I224, eI224⟩ : ∃ z, z = z_up I a223 x1.toNatClampNeg 2 := ⟨_, rfl⟩
      replace h := h I224 eI224
      refine z_iast (x := 2) X hB hk_a223 hc_a223 h1 dX5_init_374 (fun H locs hB => ?_)
      rw [← eI224] at hB
      obtain ⟨y225, ey225⟩ : ∃ z : Int32, z = x1 + 1 := ⟨_, rfl⟩
      replace h := h y225 ey225
      refine lv_iinc (v := y225) (lv' := [(1, .int y225), (0, .ref o)]) hx hb dX5_init_375 hl (k := 1) rfl (by rw [ey225]; rfl) (by decide) rfl (fun ls hl9 => ?_)
      replace hl := hl9
      clear hl9
      refine lv_goto (tgt := 363) hx hb dX5_init_378 (by decide) ?_
      exact ih hB hK1 hK2 (lv_sub hl [1, 0] rfl) h
theorem wv_X5_init_334 {co : Nat} {o : Nat} {Qk : z_T → z_I → z_Q → Prop} (X : z_X l G A p R s m args meth c cX5_init 2 RX5 "<init>" none mc ms 8 120) (ho : (T0 o).1 = 2) (hoc : (T0 o).2.2 = co) : ∀ (n : Nat) {cells slots : Nat} {T : z_T} {I : z_I} {Q : z_Q} {kc : Nat} {ks : Nat} {x1 : Int32} {H : Heap} {locs : List Loc} {ls : Array Slot}, z_HB G (z_co co) A s.heap T0 I0 Q0 T I Q H locs → cells + kc ≤ mc → slots + ks ≤ ms → lv_has ls 2 [(0, .ref o), (1, .int x1)] → wl_X5_init_334 co o Qk n T I Q kc ks x1 → W p l e R s m args below meth c H locs cells slots (z_MQ below G (z_co co) A T0 I0 Q0 (z_qv Qk) z_no args s mc ms) (F0 m 334 ls []) := by
  intro n
  induction n with
  | zero =>
    intro cells slots T I Q kc ks x1 H locs ls hB hK1 hK2 hl h
    exact h.elim
  | succ n ih =>
    intro cells slots T I Q kc ks x1 H locs ls hB hK1 hK2 hl h
    obtain ⟨hx, hb, -⟩ := id X
    unfold wl_X5_init_334 at h
    refine lv_iload_n hx hb dX5_init_334 rfl (lv_at hl 1 rfl) ?_
    refine lv_iconst (v := 3) hx hb dX5_init_335 (by decide) ?_
    refine lv_icmp_ge (tgt := 361) hx hb dX5_init_336 (by decide) (fun c216 => ?_) (fun c216 => ?_)
    · replace h := h.1 c216
      refine lv_iconst (v := 0) hx hb dX5_init_361 (by decide) ?_
      refine lv_istore_n (lv' := [(1, .int 0), (0, .ref o)]) hx hb dX5_init_362 rfl hl (by decide) rfl (fun ls hl9 => ?_)
      replace hl := hl9
      clear hl9
      obtain ⟨w, h⟩ := h
      exact wv_X5_init_363 X ho hoc  w hB hK1 hK2 (lv_sub hl [1, 0] rfl) h
    · replace h := h.2 c216
      refine lv_aload_n (x := o) hx hb dX5_init_339 rfl (lv_at hl 0 rfl) ?_
      refine z_getq X hB.1 kc_X5 in_X5 (j := 10) (Nat.le_of_ble_eq_true rfl) q3220 (fun _ h => h) rfl (by decide) (z_fo hB ho (by decide)) dX5_init_340 ?_
      refine lv_iload_n hx hb dX5_init_343 rfl (lv_at hl 1 rfl) ?_
      refine lv_sipush (v := 255) hx hb dX5_init_344 (by decide) ?_
      obtain ⟨a217, ea217, h⟩ := h
      refine z_stk (st' := [.int 255, .int x1, .ref a217]) (by rw [ea217] <;> rfl) ?_
      obtain ⟨hk_a217, h⟩ := h
      obtain ⟨hc_a217, h⟩ := h
      obtain ⟨h1, h⟩ := h
      obtain ⟨I218, eI218⟩ : ∃ z, z = z_up I a217 x1.toNatClampNeg 255 := ⟨_, rfl⟩
      replace h := h I218 eI218
      refine z_iast (x := 255) X hB hk_a217 hc_a217 h1 dX5_init_347 (fun H locs hB => ?_)
      rw [← eI218] at hB
      refine lv_aload_n (x := o) hx hb dX5_init_348 rfl (lv_at hl 0 rfl) ?_
      refine z_getq X hB.1 kc_X5 in_X5 (j := 13) (Nat.le_of_ble_eq_true rfl) q3223 (fun _ h => h) rfl (by decide) (z_fo hB ho (by decide)) dX5_init_349 ?_
      refine lv_iload_n hx hb dX5_init_352 rfl (lv_at hl 1 rfl) ?_
      refine lv_iconst (v := (-1)) hx hb dX5_init_353 (by decide) ?_
      obtain ⟨a219, ea219, h⟩ := h
      refine z_stk (st' := [.int (-1), .int x1, .ref a219]) (by rw [ea219] <;> rfl) ?_
      obtain ⟨hk_a219, h⟩ := h
      obtain ⟨hc_a219, h⟩ := h
      obtain ⟨h1, h⟩ := h
      obtain ⟨I220, eI220⟩ : ∃ z, z = z_up I218 a219 x1.toNatClampNeg (-1) := ⟨_, rfl⟩
      replace h := h I220 eI220
      refine z_iast (x := (-1)) X hB hk_a219 hc_a219 h1 dX5_init_354 (fun H locs hB => ?_)
      rw [← eI220] at hB
      obtain ⟨y221, ey221⟩ : ∃ z : Int32, z = x1 + 1 := ⟨_, rfl⟩
      replace h := h y221 ey221
      refine lv_iinc (v := y221) (lv' := [(1, .int y221), (0, .ref o)]) hx hb dX5_init_355 hl (k := 1) rfl (by rw [ey221]; rfl) (by decide) rfl (fun ls hl9 => ?_)
      replace hl := hl9
      clear hl9
      refine lv_goto (tgt := 334) hx hb dX5_init_358 (by decide) ?_
      exact ih hB hK1 hK2 (lv_sub hl [1, 0] rfl) h
theorem ww_X5_init_0 {co : Nat} {o : Nat} {Qk : z_T → z_I → z_Q → Prop} (X : z_X l G A p R s m args meth c cX5_init 2 RX5 "<init>" none mc ms 8 120) (ho : (T0 o).1 = 2) (hoc : (T0 o).2.2 = co) {cells slots : Nat} {T : z_T} {I : z_I} {Q : z_Q} {kc : Nat} {ks : Nat} {H : Heap} {locs : List Loc} {ls : Array Slot} (hB : z_HB G (z_co co) A s.heap T0 I0 Q0 T I Q H locs) (hK1 : cells + kc ≤ mc) (hK2 : slots + ks ≤ ms) (hl : lv_has ls 2 [(0, .ref o)]) (h : wb_X5_init_0 co o Qk T I Q kc ks) : W p l e R s m args below meth c H locs cells slots (z_MQ below G (z_co co) A T0 I0 Q0 (z_qv Qk) z_no args s mc ms) (F0 m 0 ls []) := by
  obtain ⟨hx, hb, -⟩ := id X
  unfold wb_X5_init_0 at h
  refine lv_aload_n (x := o) hx hb dX5_init_0 rfl (lv_at hl 0 rfl) ?_
  refine z_objInit (rest := []) X q3209 hl.1 dX5_init_1 (by decide) (Nat.le_of_ble_eq_true rfl) ?_
  refine lv_aload_n (x := o) hx hb dX5_init_4 rfl (lv_at hl 0 rfl) ?_
  refine lv_bipush (v := 8) hx hb dX5_init_5 (by decide) ?_
  obtain ⟨g1, g2, h⟩ := h
  refine z_newa (k := 0) (n := 8) (col := co) (.int) rfl (by decide) X hB q1170 (by decide) rfl (Nat.le_of_ble_eq_true rfl) rfl (z_k1 hK1 g1) (z_k1 hK2 g2) dX5_init_7 (fun a1 H hq hB => ?_)
  obtain ⟨T2, eT2⟩ : ∃ z, z = z_t T a1 (100, 8, co) := ⟨_, rfl⟩
  obtain ⟨I3, eI3⟩ : ∃ z, z = z_row I a1 (fun _ => 0) := ⟨_, rfl⟩
  obtain ⟨Q4, eQ4⟩ : ∃ z, z = z_row Q a1 (fun _ => none) := ⟨_, rfl⟩
  rw [← eT2, ← eI3, ← eQ4] at hB
  replace h := h a1 T2 I3 Q4 hq eT2 eI3 eQ4
  have hk_a1 := z_tq eT2
  have hc_a1 : (T2 a1).2.2 = co := by rw [z_tqc eT2]
  replace hK1 := z_k2 hK1 g1
  replace hK2 := z_k2 hK2 g2
  obtain ⟨Q5, eQ5⟩ : ∃ z, z = z_up Q4 o 1 (some a1) := ⟨_, rfl⟩
  replace h := h Q5 eQ5
  refine z_putqF (x := (some a1)) eQ5 tyX5 X hB kc_X5 in_X5 tyX5_ok nmX5 (j := 1) (Nat.le_of_ble_eq_true rfl) q3211 (fun _ h => h) rfl rfl rfl (by decide) (z_fo hB ho (by decide)) (z_foc hB ho (by decide) hoc) rfl (Or.inr ⟨_, rfl⟩) dX5_init_9 (fun H locs hB => ?_)
  refine lv_aload_n (x := o) hx hb dX5_init_12 rfl (lv_at hl 0 rfl) ?_
  refine lv_bipush (v := 8) hx hb dX5_init_13 (by decide) ?_
  obtain ⟨g1, g2, h⟩ := h
  refine z_newa (k := 0) (n := 8) (col := co) (.int) rfl (by decide) X hB q1170 (by decide) rfl (Nat.le_of_ble_eq_true rfl) rfl (z_k1 hK1 g1) (z_k1 hK2 g2) dX5_init_15 (fun a6 H hq hB => ?_)
  obtain ⟨T7, eT7⟩ : ∃ z, z = z_t T2 a6 (100, 8, co) := ⟨_, rfl⟩
  obtain ⟨I8, eI8⟩ : ∃ z, z = z_row I3 a6 (fun _ => 0) := ⟨_, rfl⟩
  obtain ⟨Q9, eQ9⟩ : ∃ z, z = z_row Q5 a6 (fun _ => none) := ⟨_, rfl⟩
  rw [← eT7, ← eI8, ← eQ9] at hB
  replace h := h a6 T7 I8 Q9 hq eT7 eI8 eQ9
  have hk_a6 := z_tq eT7
  have hc_a6 : (T7 a6).2.2 = co := by rw [z_tqc eT7]
  replace hK1 := z_k2 hK1 g1
  replace hK2 := z_k2 hK2 g2
  obtain ⟨Q10, eQ10⟩ : ∃ z, z = z_up Q9 o 2 (some a6) := ⟨_, rfl⟩
  replace h := h Q10 eQ10
  refine z_putqF (x := (some a6)) eQ10 tyX5 X hB kc_X5 in_X5 tyX5_ok nmX5 (j := 2) (Nat.le_of_ble_eq_true rfl) q3212 (fun _ h => h) rfl rfl rfl (by decide) (z_fo hB ho (by decide)) (z_foc hB ho (by decide) hoc) rfl (Or.inr ⟨_, rfl⟩) dX5_init_17 (fun H locs hB => ?_)
  refine lv_aload_n (x := o) hx hb dX5_init_20 rfl (lv_at hl 0 rfl) ?_
  refine lv_iconst (v := 3) hx hb dX5_init_21 (by decide) ?_
  obtain ⟨g1, g2, h⟩ := h
  refine z_newa (k := 0) (n := 3) (col := co) (.int) rfl (by decide) X hB q1170 (by decide) rfl (Nat.le_of_ble_eq_true rfl) rfl (z_k1 hK1 g1) (z_k1 hK2 g2) dX5_init_22 (fun a11 H hq hB => ?_)
  obtain ⟨T12, eT12⟩ : ∃ z, z = z_t T7 a11 (100, 3, co) := ⟨_, rfl⟩
  obtain ⟨I13, eI13⟩ : ∃ z, z = z_row I8 a11 (fun _ => 0) := ⟨_, rfl⟩
  obtain ⟨Q14, eQ14⟩ : ∃ z, z = z_row Q10 a11 (fun _ => none) := ⟨_, rfl⟩
  rw [← eT12, ← eI13, ← eQ14] at hB
  replace h := h a11 T12 I13 Q14 hq eT12 eI13 eQ14
  have hk_a11 := z_tq eT12
  have hc_a11 : (T12 a11).2.2 = co := by rw [z_tqc eT12]
  replace hK1 := z_k2 hK1 g1
  replace hK2 := z_k2 hK2 g2
  obtain ⟨Q15, eQ15⟩ : ∃ z, z = z_up Q14 o 3 (some a11) := ⟨_, rfl⟩
  replace h := h Q15 eQ15
  refine z_putqF (x := (some a11)) eQ15 tyX5 X hB kc_X5 in_X5 tyX5_ok nmX5 (j := 3) (Nat.le_of_ble_eq_true rfl) q3213 (fun _ h => h) rfl rfl rfl (by decide) (z_fo hB ho (by decide)) (z_foc hB ho (by decide) hoc) rfl (Or.inr ⟨_, rfl⟩) dX5_init_24 (fun H locs hB => ?_)
  refine lv_aload_n (x := o) hx hb dX5_init_27 rfl (lv_at hl 0 rfl) ?_
  refine lv_iconst (v := 3) hx hb dX5_init_28 (by decide) ?_
  obtain ⟨g1, g2, h⟩ := h
  refine z_newa (k := 0) (n := 3) (col := co) (.int) rfl (by decide) X hB q1170 (by decide) rfl (Nat.le_of_ble_eq_true rfl) rfl (z_k1 hK1 g1) (z_k1 hK2 g2) dX5_init_29 (fun a16 H hq hB => ?_)
  obtain ⟨T17, eT17⟩ : ∃ z, z = z_t T12 a16 (100, 3, co) := ⟨_, rfl⟩
  obtain ⟨I18, eI18⟩ : ∃ z, z = z_row I13 a16 (fun _ => 0) := ⟨_, rfl⟩
  obtain ⟨Q19, eQ19⟩ : ∃ z, z = z_row Q15 a16 (fun _ => none) := ⟨_, rfl⟩
  rw [← eT17, ← eI18, ← eQ19] at hB
  replace h := h a16 T17 I18 Q19 hq eT17 eI18 eQ19
  have hk_a16 := z_tq eT17
  have hc_a16 : (T17 a16).2.2 = co := by rw [z_tqc eT17]
  replace hK1 := z_k2 hK1 g1
  replace hK2 := z_k2 hK2 g2
  obtain ⟨Q20, eQ20⟩ : ∃ z, z = z_up Q19 o 4 (some a16) := ⟨_, rfl⟩
  replace h := h Q20 eQ20
  refine z_putqF (x := (some a16)) eQ20 tyX5 X hB kc_X5 in_X5 tyX5_ok nmX5 (j := 4) (Nat.le_of_ble_eq_true rfl) q3214 (fun _ h => h) rfl rfl rfl (by decide) (z_fo hB ho (by decide)) (z_foc hB ho (by decide) hoc) rfl (Or.inr ⟨_, rfl⟩) dX5_init_31 (fun H locs hB => ?_)
  refine lv_aload_n (x := o) hx hb dX5_init_34 rfl (lv_at hl 0 rfl) ?_
  refine lv_bipush (v := 12) hx hb dX5_init_35 (by decide) ?_
  obtain ⟨g1, g2, h⟩ := h
  refine z_newa (k := 0) (n := 12) (col := co) (.int) rfl (by decide) X hB q1170 (by decide) rfl (Nat.le_of_ble_eq_true rfl) rfl (z_k1 hK1 g1) (z_k1 hK2 g2) dX5_init_37 (fun a21 H hq hB => ?_)
  obtain ⟨T22, eT22⟩ : ∃ z, z = z_t T17 a21 (100, 12, co) := ⟨_, rfl⟩
  obtain ⟨I23, eI23⟩ : ∃ z, z = z_row I18 a21 (fun _ => 0) := ⟨_, rfl⟩
  obtain ⟨Q24, eQ24⟩ : ∃ z, z = z_row Q20 a21 (fun _ => none) := ⟨_, rfl⟩
  rw [← eT22, ← eI23, ← eQ24] at hB
  replace h := h a21 T22 I23 Q24 hq eT22 eI23 eQ24
  have hk_a21 := z_tq eT22
  have hc_a21 : (T22 a21).2.2 = co := by rw [z_tqc eT22]
  replace hK1 := z_k2 hK1 g1
  replace hK2 := z_k2 hK2 g2
  obtain ⟨Q25, eQ25⟩ : ∃ z, z = z_up Q24 o 5 (some a21) := ⟨_, rfl⟩
  replace h := h Q25 eQ25
  refine z_putqF (x := (some a21)) eQ25 tyX5 X hB kc_X5 in_X5 tyX5_ok nmX5 (j := 5) (Nat.le_of_ble_eq_true rfl) q3215 (fun _ h => h) rfl rfl rfl (by decide) (z_fo hB ho (by decide)) (z_foc hB ho (by decide) hoc) rfl (Or.inr ⟨_, rfl⟩) dX5_init_39 (fun H locs hB => ?_)
  refine lv_aload_n (x := o) hx hb dX5_init_42 rfl (lv_at hl 0 rfl) ?_
  refine lv_iconst (v := 3) hx hb dX5_init_43 (by decide) ?_
  obtain ⟨g1, g2, h⟩ := h
  refine z_newa (k := 0) (n := 3) (col := co) (.int) rfl (by decide) X hB q1170 (by decide) rfl (Nat.le_of_ble_eq_true rfl) rfl (z_k1 hK1 g1) (z_k1 hK2 g2) dX5_init_44 (fun a26 H hq hB => ?_)
  obtain ⟨T27, eT27⟩ : ∃ z, z = z_t T22 a26 (100, 3, co) := ⟨_, rfl⟩
  obtain ⟨I28, eI28⟩ : ∃ z, z = z_row I23 a26 (fun _ => 0) := ⟨_, rfl⟩
  obtain ⟨Q29, eQ29⟩ : ∃ z, z = z_row Q25 a26 (fun _ => none) := ⟨_, rfl⟩
  rw [← eT27, ← eI28, ← eQ29] at hB
  replace h := h a26 T27 I28 Q29 hq eT27 eI28 eQ29
  have hk_a26 := z_tq eT27
  have hc_a26 : (T27 a26).2.2 = co := by rw [z_tqc eT27]
  replace hK1 := z_k2 hK1 g1
  replace hK2 := z_k2 hK2 g2
  obtain ⟨Q30, eQ30⟩ : ∃ z, z = z_up Q29 o 6 (some a26) := ⟨_, rfl⟩
  replace h := h Q30 eQ30
  refine z_putqF (x := (some a26)) eQ30 tyX5 X hB kc_X5 in_X5 tyX5_ok nmX5 (j := 6) (Nat.le_of_ble_eq_true rfl) q3216 (fun _ h => h) rfl rfl rfl (by decide) (z_fo hB ho (by decide)) (z_foc hB ho (by decide) hoc) rfl (Or.inr ⟨_, rfl⟩) dX5_init_46 (fun H locs hB => ?_)
  refine lv_aload_n (x := o) hx hb dX5_init_49 rfl (lv_at hl 0 rfl) ?_
  refine lv_iconst (v := 3) hx hb dX5_init_50 (by decide) ?_
  obtain ⟨g1, g2, h⟩ := h
  refine z_newa (k := 0) (n := 3) (col := co) (.int) rfl (by decide) X hB q1170 (by decide) rfl (Nat.le_of_ble_eq_true rfl) rfl (z_k1 hK1 g1) (z_k1 hK2 g2) dX5_init_51 (fun a31 H hq hB => ?_)
  obtain ⟨T32, eT32⟩ : ∃ z, z = z_t T27 a31 (100, 3, co) := ⟨_, rfl⟩
  obtain ⟨I33, eI33⟩ : ∃ z, z = z_row I28 a31 (fun _ => 0) := ⟨_, rfl⟩
  obtain ⟨Q34, eQ34⟩ : ∃ z, z = z_row Q30 a31 (fun _ => none) := ⟨_, rfl⟩
  rw [← eT32, ← eI33, ← eQ34] at hB
  replace h := h a31 T32 I33 Q34 hq eT32 eI33 eQ34
  have hk_a31 := z_tq eT32
  have hc_a31 : (T32 a31).2.2 = co := by rw [z_tqc eT32]
  replace hK1 := z_k2 hK1 g1
  replace hK2 := z_k2 hK2 g2
  obtain ⟨Q35, eQ35⟩ : ∃ z, z = z_up Q34 o 7 (some a31) := ⟨_, rfl⟩
  replace h := h Q35 eQ35
  refine z_putqF (x := (some a31)) eQ35 tyX5 X hB kc_X5 in_X5 tyX5_ok nmX5 (j := 7) (Nat.le_of_ble_eq_true rfl) q3217 (fun _ h => h) rfl rfl rfl (by decide) (z_fo hB ho (by decide)) (z_foc hB ho (by decide) hoc) rfl (Or.inr ⟨_, rfl⟩) dX5_init_53 (fun H locs hB => ?_)
  refine lv_aload_n (x := o) hx hb dX5_init_56 rfl (lv_at hl 0 rfl) ?_
  refine lv_iconst (v := 3) hx hb dX5_init_57 (by decide) ?_
  obtain ⟨g1, g2, h⟩ := h
  refine z_newa (k := 0) (n := 3) (col := co) (.int) rfl (by decide) X hB q1170 (by decide) rfl (Nat.le_of_ble_eq_true rfl) rfl (z_k1 hK1 g1) (z_k1 hK2 g2) dX5_init_58 (fun a36 H hq hB => ?_)
  obtain ⟨T37, eT37⟩ : ∃ z, z = z_t T32 a36 (100, 3, co) := ⟨_, rfl⟩
  obtain ⟨I38, eI38⟩ : ∃ z, z = z_row I33 a36 (fun _ => 0) := ⟨_, rfl⟩
  obtain ⟨Q39, eQ39⟩ : ∃ z, z = z_row Q35 a36 (fun _ => none) := ⟨_, rfl⟩
  rw [← eT37, ← eI38, ← eQ39] at hB
  replace h := h a36 T37 I38 Q39 hq eT37 eI38 eQ39
  have hk_a36 := z_tq eT37
  have hc_a36 : (T37 a36).2.2 = co := by rw [z_tqc eT37]
  replace hK1 := z_k2 hK1 g1
  replace hK2 := z_k2 hK2 g2
  obtain ⟨Q40, eQ40⟩ : ∃ z, z = z_up Q39 o 8 (some a36) := ⟨_, rfl⟩
  replace h := h Q40 eQ40
  refine z_putqF (x := (some a36)) eQ40 tyX5 X hB kc_X5 in_X5 tyX5_ok nmX5 (j := 8) (Nat.le_of_ble_eq_true rfl) q3218 (fun _ h => h) rfl rfl rfl (by decide) (z_fo hB ho (by decide)) (z_foc hB ho (by decide) hoc) rfl (Or.inr ⟨_, rfl⟩) dX5_init_60 (fun H locs hB => ?_)
  refine lv_aload_n (x := o) hx hb dX5_init_63 rfl (lv_at hl 0 rfl) ?_
  refine lv_iconst (v := 3) hx hb dX5_init_64 (by decide) ?_
  obtain ⟨g1, g2, h⟩ := h
  refine z_newa (k := 0) (n := 3) (col := co) (.int) rfl (by decide) X hB q1170 (by decide) rfl (Nat.le_of_ble_eq_true rfl) rfl (z_k1 hK1 g1) (z_k1 hK2 g2) dX5_init_65 (fun a41 H hq hB => ?_)
  obtain ⟨T42, eT42⟩ : ∃ z, z = z_t T37 a41 (100, 3, co) := ⟨_, rfl⟩
  obtain ⟨I43, eI43⟩ : ∃ z, z = z_row I38 a41 (fun _ => 0) := ⟨_, rfl⟩
  obtain ⟨Q44, eQ44⟩ : ∃ z, z = z_row Q40 a41 (fun _ => none) := ⟨_, rfl⟩
  rw [← eT42, ← eI43, ← eQ44] at hB
  replace h := h a41 T42 I43 Q44 hq eT42 eI43 eQ44
  have hk_a41 := z_tq eT42
  have hc_a41 : (T42 a41).2.2 = co := by rw [z_tqc eT42]
  replace hK1 := z_k2 hK1 g1
  replace hK2 := z_k2 hK2 g2
  obtain ⟨Q45, eQ45⟩ : ∃ z, z = z_up Q44 o 9 (some a41) := ⟨_, rfl⟩
  replace h := h Q45 eQ45
  refine z_putqF (x := (some a41)) eQ45 tyX5 X hB kc_X5 in_X5 tyX5_ok nmX5 (j := 9) (Nat.le_of_ble_eq_true rfl) q3219 (fun _ h => h) rfl rfl rfl (by decide) (z_fo hB ho (by decide)) (z_foc hB ho (by decide) hoc) rfl (Or.inr ⟨_, rfl⟩) dX5_init_67 (fun H locs hB => ?_)
  refine lv_aload_n (x := o) hx hb dX5_init_70 rfl (lv_at hl 0 rfl) ?_
  refine lv_iconst (v := 3) hx hb dX5_init_71 (by decide) ?_
  obtain ⟨g1, g2, h⟩ := h
  refine z_newa (k := 0) (n := 3) (col := co) (.int) rfl (by decide) X hB q1170 (by decide) rfl (Nat.le_of_ble_eq_true rfl) rfl (z_k1 hK1 g1) (z_k1 hK2 g2) dX5_init_72 (fun a46 H hq hB => ?_)
  obtain ⟨T47, eT47⟩ : ∃ z, z = z_t T42 a46 (100, 3, co) := ⟨_, rfl⟩
  obtain ⟨I48, eI48⟩ : ∃ z, z = z_row I43 a46 (fun _ => 0) := ⟨_, rfl⟩
  obtain ⟨Q49, eQ49⟩ : ∃ z, z = z_row Q45 a46 (fun _ => none) := ⟨_, rfl⟩
  rw [← eT47, ← eI48, ← eQ49] at hB
  replace h := h a46 T47 I48 Q49 hq eT47 eI48 eQ49
  have hk_a46 := z_tq eT47
  have hc_a46 : (T47 a46).2.2 = co := by rw [z_tqc eT47]
  replace hK1 := z_k2 hK1 g1
  replace hK2 := z_k2 hK2 g2
  obtain ⟨Q50, eQ50⟩ : ∃ z, z = z_up Q49 o 10 (some a46) := ⟨_, rfl⟩
  replace h := h Q50 eQ50
  refine z_putqF (x := (some a46)) eQ50 tyX5 X hB kc_X5 in_X5 tyX5_ok nmX5 (j := 10) (Nat.le_of_ble_eq_true rfl) q3220 (fun _ h => h) rfl rfl rfl (by decide) (z_fo hB ho (by decide)) (z_foc hB ho (by decide) hoc) rfl (Or.inr ⟨_, rfl⟩) dX5_init_74 (fun H locs hB => ?_)
  refine lv_aload_n (x := o) hx hb dX5_init_77 rfl (lv_at hl 0 rfl) ?_
  refine lv_iconst (v := 3) hx hb dX5_init_78 (by decide) ?_
  obtain ⟨g1, g2, h⟩ := h
  refine z_newa (k := 0) (n := 3) (col := co) (.int) rfl (by decide) X hB q1170 (by decide) rfl (Nat.le_of_ble_eq_true rfl) rfl (z_k1 hK1 g1) (z_k1 hK2 g2) dX5_init_79 (fun a51 H hq hB => ?_)
  obtain ⟨T52, eT52⟩ : ∃ z, z = z_t T47 a51 (100, 3, co) := ⟨_, rfl⟩
  obtain ⟨I53, eI53⟩ : ∃ z, z = z_row I48 a51 (fun _ => 0) := ⟨_, rfl⟩
  obtain ⟨Q54, eQ54⟩ : ∃ z, z = z_row Q50 a51 (fun _ => none) := ⟨_, rfl⟩
  rw [← eT52, ← eI53, ← eQ54] at hB
  replace h := h a51 T52 I53 Q54 hq eT52 eI53 eQ54
  have hk_a51 := z_tq eT52
  have hc_a51 : (T52 a51).2.2 = co := by rw [z_tqc eT52]
  replace hK1 := z_k2 hK1 g1
  replace hK2 := z_k2 hK2 g2
  obtain ⟨Q55, eQ55⟩ : ∃ z, z = z_up Q54 o 11 (some a51) := ⟨_, rfl⟩
  replace h := h Q55 eQ55
  refine z_putqF (x := (some a51)) eQ55 tyX5 X hB kc_X5 in_X5 tyX5_ok nmX5 (j := 11) (Nat.le_of_ble_eq_true rfl) q3221 (fun _ h => h) rfl rfl rfl (by decide) (z_fo hB ho (by decide)) (z_foc hB ho (by decide) hoc) rfl (Or.inr ⟨_, rfl⟩) dX5_init_81 (fun H locs hB => ?_)
  refine lv_aload_n (x := o) hx hb dX5_init_84 rfl (lv_at hl 0 rfl) ?_
  refine lv_bipush (v := 90) hx hb dX5_init_85 (by decide) ?_
  obtain ⟨g1, g2, h⟩ := h
  refine z_newa (k := 0) (n := 90) (col := co) (.int) rfl (by decide) X hB q1170 (by decide) rfl (Nat.le_of_ble_eq_true rfl) rfl (z_k1 hK1 g1) (z_k1 hK2 g2) dX5_init_87 (fun a56 H hq hB => ?_)
  obtain ⟨T57, eT57⟩ : ∃ z, z = z_t T52 a56 (100, 90, co) := ⟨_, rfl⟩
  obtain ⟨I58, eI58⟩ : ∃ z, z = z_row I53 a56 (fun _ => 0) := ⟨_, rfl⟩
  obtain ⟨Q59, eQ59⟩ : ∃ z, z = z_row Q55 a56 (fun _ => none) := ⟨_, rfl⟩
  rw [← eT57, ← eI58, ← eQ59] at hB
  replace h := h a56 T57 I58 Q59 hq eT57 eI58 eQ59
  have hk_a56 := z_tq eT57
  have hc_a56 : (T57 a56).2.2 = co := by rw [z_tqc eT57]
  replace hK1 := z_k2 hK1 g1
  replace hK2 := z_k2 hK2 g2
  obtain ⟨Q60, eQ60⟩ : ∃ z, z = z_up Q59 o 12 (some a56) := ⟨_, rfl⟩
  replace h := h Q60 eQ60
  refine z_putqF (x := (some a56)) eQ60 tyX5 X hB kc_X5 in_X5 tyX5_ok nmX5 (j := 12) (Nat.le_of_ble_eq_true rfl) q3222 (fun _ h => h) rfl rfl rfl (by decide) (z_fo hB ho (by decide)) (z_foc hB ho (by decide) hoc) rfl (Or.inr ⟨_, rfl⟩) dX5_init_89 (fun H locs hB => ?_)
  refine lv_aload_n (x := o) hx hb dX5_init_92 rfl (lv_at hl 0 rfl) ?_
  refine lv_iconst (v := 3) hx hb dX5_init_93 (by decide) ?_
  obtain ⟨g1, g2, h⟩ := h
  refine z_newa (k := 0) (n := 3) (col := co) (.int) rfl (by decide) X hB q1170 (by decide) rfl (Nat.le_of_ble_eq_true rfl) rfl (z_k1 hK1 g1) (z_k1 hK2 g2) dX5_init_94 (fun a61 H hq hB => ?_)
  obtain ⟨T62, eT62⟩ : ∃ z, z = z_t T57 a61 (100, 3, co) := ⟨_, rfl⟩
  obtain ⟨I63, eI63⟩ : ∃ z, z = z_row I58 a61 (fun _ => 0) := ⟨_, rfl⟩
  obtain ⟨Q64, eQ64⟩ : ∃ z, z = z_row Q60 a61 (fun _ => none) := ⟨_, rfl⟩
  rw [← eT62, ← eI63, ← eQ64] at hB
  replace h := h a61 T62 I63 Q64 hq eT62 eI63 eQ64
  have hk_a61 := z_tq eT62
  have hc_a61 : (T62 a61).2.2 = co := by rw [z_tqc eT62]
  replace hK1 := z_k2 hK1 g1
  replace hK2 := z_k2 hK2 g2
  obtain ⟨Q65, eQ65⟩ : ∃ z, z = z_up Q64 o 13 (some a61) := ⟨_, rfl⟩
  replace h := h Q65 eQ65
  refine z_putqF (x := (some a61)) eQ65 tyX5 X hB kc_X5 in_X5 tyX5_ok nmX5 (j := 13) (Nat.le_of_ble_eq_true rfl) q3223 (fun _ h => h) rfl rfl rfl (by decide) (z_fo hB ho (by decide)) (z_foc hB ho (by decide) hoc) rfl (Or.inr ⟨_, rfl⟩) dX5_init_96 (fun H locs hB => ?_)
  refine lv_aload_n (x := o) hx hb dX5_init_99 rfl (lv_at hl 0 rfl) ?_
  refine lv_iconst (v := 3) hx hb dX5_init_100 (by decide) ?_
  obtain ⟨g1, g2, h⟩ := h
  refine z_newa (k := 0) (n := 3) (col := co) (.int) rfl (by decide) X hB q1170 (by decide) rfl (Nat.le_of_ble_eq_true rfl) rfl (z_k1 hK1 g1) (z_k1 hK2 g2) dX5_init_101 (fun a66 H hq hB => ?_)
  obtain ⟨T67, eT67⟩ : ∃ z, z = z_t T62 a66 (100, 3, co) := ⟨_, rfl⟩
  obtain ⟨I68, eI68⟩ : ∃ z, z = z_row I63 a66 (fun _ => 0) := ⟨_, rfl⟩
  obtain ⟨Q69, eQ69⟩ : ∃ z, z = z_row Q65 a66 (fun _ => none) := ⟨_, rfl⟩
  rw [← eT67, ← eI68, ← eQ69] at hB
  replace h := h a66 T67 I68 Q69 hq eT67 eI68 eQ69
  have hk_a66 := z_tq eT67
  have hc_a66 : (T67 a66).2.2 = co := by rw [z_tqc eT67]
  replace hK1 := z_k2 hK1 g1
  replace hK2 := z_k2 hK2 g2
  obtain ⟨Q70, eQ70⟩ : ∃ z, z = z_up Q69 o 14 (some a66) := ⟨_, rfl⟩
  replace h := h Q70 eQ70
  refine z_putqF (x := (some a66)) eQ70 tyX5 X hB kc_X5 in_X5 tyX5_ok nmX5 (j := 14) (Nat.le_of_ble_eq_true rfl) q3224 (fun _ h => h) rfl rfl rfl (by decide) (z_fo hB ho (by decide)) (z_foc hB ho (by decide) hoc) rfl (Or.inr ⟨_, rfl⟩) dX5_init_103 (fun H locs hB => ?_)
  refine lv_aload_n (x := o) hx hb dX5_init_106 rfl (lv_at hl 0 rfl) ?_
  refine lv_iconst (v := 3) hx hb dX5_init_107 (by decide) ?_
  obtain ⟨g1, g2, h⟩ := h
  refine z_newa (k := 0) (n := 3) (col := co) (.int) rfl (by decide) X hB q1170 (by decide) rfl (Nat.le_of_ble_eq_true rfl) rfl (z_k1 hK1 g1) (z_k1 hK2 g2) dX5_init_108 (fun a71 H hq hB => ?_)
  obtain ⟨T72, eT72⟩ : ∃ z, z = z_t T67 a71 (100, 3, co) := ⟨_, rfl⟩
  obtain ⟨I73, eI73⟩ : ∃ z, z = z_row I68 a71 (fun _ => 0) := ⟨_, rfl⟩
  obtain ⟨Q74, eQ74⟩ : ∃ z, z = z_row Q70 a71 (fun _ => none) := ⟨_, rfl⟩
  rw [← eT72, ← eI73, ← eQ74] at hB
  replace h := h a71 T72 I73 Q74 hq eT72 eI73 eQ74
  have hk_a71 := z_tq eT72
  have hc_a71 : (T72 a71).2.2 = co := by rw [z_tqc eT72]
  replace hK1 := z_k2 hK1 g1
  replace hK2 := z_k2 hK2 g2
  obtain ⟨Q75, eQ75⟩ : ∃ z, z = z_up Q74 o 15 (some a71) := ⟨_, rfl⟩
  replace h := h Q75 eQ75
  refine z_putqF (x := (some a71)) eQ75 tyX5 X hB kc_X5 in_X5 tyX5_ok nmX5 (j := 15) (Nat.le_of_ble_eq_true rfl) q3225 (fun _ h => h) rfl rfl rfl (by decide) (z_fo hB ho (by decide)) (z_foc hB ho (by decide) hoc) rfl (Or.inr ⟨_, rfl⟩) dX5_init_110 (fun H locs hB => ?_)
  refine lv_aload_n (x := o) hx hb dX5_init_113 rfl (lv_at hl 0 rfl) ?_
  refine lv_iconst (v := 3) hx hb dX5_init_114 (by decide) ?_
  obtain ⟨g1, g2, h⟩ := h
  refine z_newa (k := 0) (n := 3) (col := co) (.int) rfl (by decide) X hB q1170 (by decide) rfl (Nat.le_of_ble_eq_true rfl) rfl (z_k1 hK1 g1) (z_k1 hK2 g2) dX5_init_115 (fun a76 H hq hB => ?_)
  obtain ⟨T77, eT77⟩ : ∃ z, z = z_t T72 a76 (100, 3, co) := ⟨_, rfl⟩
  obtain ⟨I78, eI78⟩ : ∃ z, z = z_row I73 a76 (fun _ => 0) := ⟨_, rfl⟩
  obtain ⟨Q79, eQ79⟩ : ∃ z, z = z_row Q75 a76 (fun _ => none) := ⟨_, rfl⟩
  rw [← eT77, ← eI78, ← eQ79] at hB
  replace h := h a76 T77 I78 Q79 hq eT77 eI78 eQ79
  have hk_a76 := z_tq eT77
  have hc_a76 : (T77 a76).2.2 = co := by rw [z_tqc eT77]
  replace hK1 := z_k2 hK1 g1
  replace hK2 := z_k2 hK2 g2
  obtain ⟨Q80, eQ80⟩ : ∃ z, z = z_up Q79 o 16 (some a76) := ⟨_, rfl⟩
  replace h := h Q80 eQ80
  refine z_putqF (x := (some a76)) eQ80 tyX5 X hB kc_X5 in_X5 tyX5_ok nmX5 (j := 16) (Nat.le_of_ble_eq_true rfl) q3226 (fun _ h => h) rfl rfl rfl (by decide) (z_fo hB ho (by decide)) (z_foc hB ho (by decide) hoc) rfl (Or.inr ⟨_, rfl⟩) dX5_init_117 (fun H locs hB => ?_)
  refine lv_aload_n (x := o) hx hb dX5_init_120 rfl (lv_at hl 0 rfl) ?_
  refine lv_iconst (v := 3) hx hb dX5_init_121 (by decide) ?_
  obtain ⟨g1, g2, h⟩ := h
  refine z_newa (k := 0) (n := 3) (col := co) (.int) rfl (by decide) X hB q1170 (by decide) rfl (Nat.le_of_ble_eq_true rfl) rfl (z_k1 hK1 g1) (z_k1 hK2 g2) dX5_init_122 (fun a81 H hq hB => ?_)
  obtain ⟨T82, eT82⟩ : ∃ z, z = z_t T77 a81 (100, 3, co) := ⟨_, rfl⟩
  obtain ⟨I83, eI83⟩ : ∃ z, z = z_row I78 a81 (fun _ => 0) := ⟨_, rfl⟩
  obtain ⟨Q84, eQ84⟩ : ∃ z, z = z_row Q80 a81 (fun _ => none) := ⟨_, rfl⟩
  rw [← eT82, ← eI83, ← eQ84] at hB
  replace h := h a81 T82 I83 Q84 hq eT82 eI83 eQ84
  have hk_a81 := z_tq eT82
  have hc_a81 : (T82 a81).2.2 = co := by rw [z_tqc eT82]
  replace hK1 := z_k2 hK1 g1
  replace hK2 := z_k2 hK2 g2
  obtain ⟨Q85, eQ85⟩ : ∃ z, z = z_up Q84 o 17 (some a81) := ⟨_, rfl⟩
  replace h := h Q85 eQ85
  refine z_putqF (x := (some a81)) eQ85 tyX5 X hB kc_X5 in_X5 tyX5_ok nmX5 (j := 17) (Nat.le_of_ble_eq_true rfl) q3227 (fun _ h => h) rfl rfl rfl (by decide) (z_fo hB ho (by decide)) (z_foc hB ho (by decide) hoc) rfl (Or.inr ⟨_, rfl⟩) dX5_init_124 (fun H locs hB => ?_)
  refine lv_aload_n (x := o) hx hb dX5_init_127 rfl (lv_at hl 0 rfl) ?_
  refine lv_iconst (v := 3) hx hb dX5_init_128 (by decide) ?_
  obtain ⟨g1, g2, h⟩ := h
  refine z_newa (k := 0) (n := 3) (col := co) (.int) rfl (by decide) X hB q1170 (by decide) rfl (Nat.le_of_ble_eq_true rfl) rfl (z_k1 hK1 g1) (z_k1 hK2 g2) dX5_init_129 (fun a86 H hq hB => ?_)
  obtain ⟨T87, eT87⟩ : ∃ z, z = z_t T82 a86 (100, 3, co) := ⟨_, rfl⟩
  obtain ⟨I88, eI88⟩ : ∃ z, z = z_row I83 a86 (fun _ => 0) := ⟨_, rfl⟩
  obtain ⟨Q89, eQ89⟩ : ∃ z, z = z_row Q85 a86 (fun _ => none) := ⟨_, rfl⟩
  rw [← eT87, ← eI88, ← eQ89] at hB
  replace h := h a86 T87 I88 Q89 hq eT87 eI88 eQ89
  have hk_a86 := z_tq eT87
  have hc_a86 : (T87 a86).2.2 = co := by rw [z_tqc eT87]
  replace hK1 := z_k2 hK1 g1
  replace hK2 := z_k2 hK2 g2
  obtain ⟨Q90, eQ90⟩ : ∃ z, z = z_up Q89 o 18 (some a86) := ⟨_, rfl⟩
  replace h := h Q90 eQ90
  refine z_putqF (x := (some a86)) eQ90 tyX5 X hB kc_X5 in_X5 tyX5_ok nmX5 (j := 18) (Nat.le_of_ble_eq_true rfl) q3228 (fun _ h => h) rfl rfl rfl (by decide) (z_fo hB ho (by decide)) (z_foc hB ho (by decide) hoc) rfl (Or.inr ⟨_, rfl⟩) dX5_init_131 (fun H locs hB => ?_)
  refine lv_aload_n (x := o) hx hb dX5_init_134 rfl (lv_at hl 0 rfl) ?_
  refine lv_iconst (v := 3) hx hb dX5_init_135 (by decide) ?_
  obtain ⟨g1, g2, h⟩ := h
  refine z_newa (k := 0) (n := 3) (col := co) (.int) rfl (by decide) X hB q1170 (by decide) rfl (Nat.le_of_ble_eq_true rfl) rfl (z_k1 hK1 g1) (z_k1 hK2 g2) dX5_init_136 (fun a91 H hq hB => ?_)
  obtain ⟨T92, eT92⟩ : ∃ z, z = z_t T87 a91 (100, 3, co) := ⟨_, rfl⟩
  obtain ⟨I93, eI93⟩ : ∃ z, z = z_row I88 a91 (fun _ => 0) := ⟨_, rfl⟩
  obtain ⟨Q94, eQ94⟩ : ∃ z, z = z_row Q90 a91 (fun _ => none) := ⟨_, rfl⟩
  rw [← eT92, ← eI93, ← eQ94] at hB
  replace h := h a91 T92 I93 Q94 hq eT92 eI93 eQ94
  have hk_a91 := z_tq eT92
  have hc_a91 : (T92 a91).2.2 = co := by rw [z_tqc eT92]
  replace hK1 := z_k2 hK1 g1
  replace hK2 := z_k2 hK2 g2
  obtain ⟨Q95, eQ95⟩ : ∃ z, z = z_up Q94 o 19 (some a91) := ⟨_, rfl⟩
  replace h := h Q95 eQ95
  refine z_putqF (x := (some a91)) eQ95 tyX5 X hB kc_X5 in_X5 tyX5_ok nmX5 (j := 19) (Nat.le_of_ble_eq_true rfl) q3229 (fun _ h => h) rfl rfl rfl (by decide) (z_fo hB ho (by decide)) (z_foc hB ho (by decide) hoc) rfl (Or.inr ⟨_, rfl⟩) dX5_init_138 (fun H locs hB => ?_)
  refine lv_aload_n (x := o) hx hb dX5_init_141 rfl (lv_at hl 0 rfl) ?_
  refine lv_iconst (v := 3) hx hb dX5_init_142 (by decide) ?_
  obtain ⟨g1, g2, h⟩ := h
  refine z_newa (k := 0) (n := 3) (col := co) (.int) rfl (by decide) X hB q1170 (by decide) rfl (Nat.le_of_ble_eq_true rfl) rfl (z_k1 hK1 g1) (z_k1 hK2 g2) dX5_init_143 (fun a96 H hq hB => ?_)
  obtain ⟨T97, eT97⟩ : ∃ z, z = z_t T92 a96 (100, 3, co) := ⟨_, rfl⟩
  obtain ⟨I98, eI98⟩ : ∃ z, z = z_row I93 a96 (fun _ => 0) := ⟨_, rfl⟩
  obtain ⟨Q99, eQ99⟩ : ∃ z, z = z_row Q95 a96 (fun _ => none) := ⟨_, rfl⟩
  rw [← eT97, ← eI98, ← eQ99] at hB
  replace h := h a96 T97 I98 Q99 hq eT97 eI98 eQ99
  have hk_a96 := z_tq eT97
  have hc_a96 : (T97 a96).2.2 = co := by rw [z_tqc eT97]
  replace hK1 := z_k2 hK1 g1
  replace hK2 := z_k2 hK2 g2
  obtain ⟨Q100, eQ100⟩ : ∃ z, z = z_up Q99 o 20 (some a96) := ⟨_, rfl⟩
  replace h := h Q100 eQ100
  refine z_putqF (x := (some a96)) eQ100 tyX5 X hB kc_X5 in_X5 tyX5_ok nmX5 (j := 20) (Nat.le_of_ble_eq_true rfl) q3230 (fun _ h => h) rfl rfl rfl (by decide) (z_fo hB ho (by decide)) (z_foc hB ho (by decide) hoc) rfl (Or.inr ⟨_, rfl⟩) dX5_init_145 (fun H locs hB => ?_)
  refine lv_aload_n (x := o) hx hb dX5_init_148 rfl (lv_at hl 0 rfl) ?_
  refine lv_iconst (v := 3) hx hb dX5_init_149 (by decide) ?_
  obtain ⟨g1, g2, h⟩ := h
  refine z_newa (k := 0) (n := 3) (col := co) (.int) rfl (by decide) X hB q1170 (by decide) rfl (Nat.le_of_ble_eq_true rfl) rfl (z_k1 hK1 g1) (z_k1 hK2 g2) dX5_init_150 (fun a101 H hq hB => ?_)
  obtain ⟨T102, eT102⟩ : ∃ z, z = z_t T97 a101 (100, 3, co) := ⟨_, rfl⟩
  obtain ⟨I103, eI103⟩ : ∃ z, z = z_row I98 a101 (fun _ => 0) := ⟨_, rfl⟩
  obtain ⟨Q104, eQ104⟩ : ∃ z, z = z_row Q100 a101 (fun _ => none) := ⟨_, rfl⟩
  rw [← eT102, ← eI103, ← eQ104] at hB
  replace h := h a101 T102 I103 Q104 hq eT102 eI103 eQ104
  have hk_a101 := z_tq eT102
  have hc_a101 : (T102 a101).2.2 = co := by rw [z_tqc eT102]
  replace hK1 := z_k2 hK1 g1
  replace hK2 := z_k2 hK2 g2
  obtain ⟨Q105, eQ105⟩ : ∃ z, z = z_up Q104 o 21 (some a101) := ⟨_, rfl⟩
  replace h := h Q105 eQ105
  refine z_putqF (x := (some a101)) eQ105 tyX5 X hB kc_X5 in_X5 tyX5_ok nmX5 (j := 21) (Nat.le_of_ble_eq_true rfl) q3231 (fun _ h => h) rfl rfl rfl (by decide) (z_fo hB ho (by decide)) (z_foc hB ho (by decide) hoc) rfl (Or.inr ⟨_, rfl⟩) dX5_init_152 (fun H locs hB => ?_)
  refine lv_aload_n (x := o) hx hb dX5_init_155 rfl (lv_at hl 0 rfl) ?_
  refine lv_bipush (v := 30) hx hb dX5_init_156 (by decide) ?_
  obtain ⟨g1, g2, h⟩ := h
  refine z_newa (k := 0) (n := 30) (col := co) (.int) rfl (by decide) X hB q1170 (by decide) rfl (Nat.le_of_ble_eq_true rfl) rfl (z_k1 hK1 g1) (z_k1 hK2 g2) dX5_init_158 (fun a106 H hq hB => ?_)
  obtain ⟨T107, eT107⟩ : ∃ z, z = z_t T102 a106 (100, 30, co) := ⟨_, rfl⟩
  obtain ⟨I108, eI108⟩ : ∃ z, z = z_row I103 a106 (fun _ => 0) := ⟨_, rfl⟩
  obtain ⟨Q109, eQ109⟩ : ∃ z, z = z_row Q105 a106 (fun _ => none) := ⟨_, rfl⟩
  rw [← eT107, ← eI108, ← eQ109] at hB
  replace h := h a106 T107 I108 Q109 hq eT107 eI108 eQ109
  have hk_a106 := z_tq eT107
  have hc_a106 : (T107 a106).2.2 = co := by rw [z_tqc eT107]
  replace hK1 := z_k2 hK1 g1
  replace hK2 := z_k2 hK2 g2
  obtain ⟨Q110, eQ110⟩ : ∃ z, z = z_up Q109 o 22 (some a106) := ⟨_, rfl⟩
  replace h := h Q110 eQ110
  refine z_putqF (x := (some a106)) eQ110 tyX5 X hB kc_X5 in_X5 tyX5_ok nmX5 (j := 22) (Nat.le_of_ble_eq_true rfl) q3232 (fun _ h => h) rfl rfl rfl (by decide) (z_fo hB ho (by decide)) (z_foc hB ho (by decide) hoc) rfl (Or.inr ⟨_, rfl⟩) dX5_init_160 (fun H locs hB => ?_)
  refine lv_aload_n (x := o) hx hb dX5_init_163 rfl (lv_at hl 0 rfl) ?_
  refine lv_bipush (v := 30) hx hb dX5_init_164 (by decide) ?_
  obtain ⟨g1, g2, h⟩ := h
  refine z_newa (k := 0) (n := 30) (col := co) (.int) rfl (by decide) X hB q1170 (by decide) rfl (Nat.le_of_ble_eq_true rfl) rfl (z_k1 hK1 g1) (z_k1 hK2 g2) dX5_init_166 (fun a111 H hq hB => ?_)
  obtain ⟨T112, eT112⟩ : ∃ z, z = z_t T107 a111 (100, 30, co) := ⟨_, rfl⟩
  obtain ⟨I113, eI113⟩ : ∃ z, z = z_row I108 a111 (fun _ => 0) := ⟨_, rfl⟩
  obtain ⟨Q114, eQ114⟩ : ∃ z, z = z_row Q110 a111 (fun _ => none) := ⟨_, rfl⟩
  rw [← eT112, ← eI113, ← eQ114] at hB
  replace h := h a111 T112 I113 Q114 hq eT112 eI113 eQ114
  have hk_a111 := z_tq eT112
  have hc_a111 : (T112 a111).2.2 = co := by rw [z_tqc eT112]
  replace hK1 := z_k2 hK1 g1
  replace hK2 := z_k2 hK2 g2
  obtain ⟨Q115, eQ115⟩ : ∃ z, z = z_up Q114 o 23 (some a111) := ⟨_, rfl⟩
  replace h := h Q115 eQ115
  refine z_putqF (x := (some a111)) eQ115 tyX5 X hB kc_X5 in_X5 tyX5_ok nmX5 (j := 23) (Nat.le_of_ble_eq_true rfl) q3233 (fun _ h => h) rfl rfl rfl (by decide) (z_fo hB ho (by decide)) (z_foc hB ho (by decide) hoc) rfl (Or.inr ⟨_, rfl⟩) dX5_init_168 (fun H locs hB => ?_)
  refine lv_aload_n (x := o) hx hb dX5_init_171 rfl (lv_at hl 0 rfl) ?_
  refine lv_bipush (v := 30) hx hb dX5_init_172 (by decide) ?_
  obtain ⟨g1, g2, h⟩ := h
  refine z_newa (k := 0) (n := 30) (col := co) (.int) rfl (by decide) X hB q1170 (by decide) rfl (Nat.le_of_ble_eq_true rfl) rfl (z_k1 hK1 g1) (z_k1 hK2 g2) dX5_init_174 (fun a116 H hq hB => ?_)
  obtain ⟨T117, eT117⟩ : ∃ z, z = z_t T112 a116 (100, 30, co) := ⟨_, rfl⟩
  obtain ⟨I118, eI118⟩ : ∃ z, z = z_row I113 a116 (fun _ => 0) := ⟨_, rfl⟩
  obtain ⟨Q119, eQ119⟩ : ∃ z, z = z_row Q115 a116 (fun _ => none) := ⟨_, rfl⟩
  rw [← eT117, ← eI118, ← eQ119] at hB
  replace h := h a116 T117 I118 Q119 hq eT117 eI118 eQ119
  have hk_a116 := z_tq eT117
  have hc_a116 : (T117 a116).2.2 = co := by rw [z_tqc eT117]
  replace hK1 := z_k2 hK1 g1
  replace hK2 := z_k2 hK2 g2
  obtain ⟨Q120, eQ120⟩ : ∃ z, z = z_up Q119 o 24 (some a116) := ⟨_, rfl⟩
  replace h := h Q120 eQ120
  refine z_putqF (x := (some a116)) eQ120 tyX5 X hB kc_X5 in_X5 tyX5_ok nmX5 (j := 24) (Nat.le_of_ble_eq_true rfl) q3234 (fun _ h => h) rfl rfl rfl (by decide) (z_fo hB ho (by decide)) (z_foc hB ho (by decide) hoc) rfl (Or.inr ⟨_, rfl⟩) dX5_init_176 (fun H locs hB => ?_)
  refine lv_aload_n (x := o) hx hb dX5_init_179 rfl (lv_at hl 0 rfl) ?_
  refine lv_bipush (v := 30) hx hb dX5_init_180 (by decide) ?_
  obtain ⟨g1, g2, h⟩ := h
  refine z_newa (k := 0) (n := 30) (col := co) (.int) rfl (by decide) X hB q1170 (by decide) rfl (Nat.le_of_ble_eq_true rfl) rfl (z_k1 hK1 g1) (z_k1 hK2 g2) dX5_init_182 (fun a121 H hq hB => ?_)
  obtain ⟨T122, eT122⟩ : ∃ z, z = z_t T117 a121 (100, 30, co) := ⟨_, rfl⟩
  obtain ⟨I123, eI123⟩ : ∃ z, z = z_row I118 a121 (fun _ => 0) := ⟨_, rfl⟩
  obtain ⟨Q124, eQ124⟩ : ∃ z, z = z_row Q120 a121 (fun _ => none) := ⟨_, rfl⟩
  rw [← eT122, ← eI123, ← eQ124] at hB
  replace h := h a121 T122 I123 Q124 hq eT122 eI123 eQ124
  have hk_a121 := z_tq eT122
  have hc_a121 : (T122 a121).2.2 = co := by rw [z_tqc eT122]
  replace hK1 := z_k2 hK1 g1
  replace hK2 := z_k2 hK2 g2
  obtain ⟨Q125, eQ125⟩ : ∃ z, z = z_up Q124 o 25 (some a121) := ⟨_, rfl⟩
  replace h := h Q125 eQ125
  refine z_putqF (x := (some a121)) eQ125 tyX5 X hB kc_X5 in_X5 tyX5_ok nmX5 (j := 25) (Nat.le_of_ble_eq_true rfl) q3235 (fun _ h => h) rfl rfl rfl (by decide) (z_fo hB ho (by decide)) (z_foc hB ho (by decide) hoc) rfl (Or.inr ⟨_, rfl⟩) dX5_init_184 (fun H locs hB => ?_)
  refine lv_aload_n (x := o) hx hb dX5_init_187 rfl (lv_at hl 0 rfl) ?_
  refine lv_bipush (v := 30) hx hb dX5_init_188 (by decide) ?_
  obtain ⟨g1, g2, h⟩ := h
  refine z_newa (k := 0) (n := 30) (col := co) (.int) rfl (by decide) X hB q1170 (by decide) rfl (Nat.le_of_ble_eq_true rfl) rfl (z_k1 hK1 g1) (z_k1 hK2 g2) dX5_init_190 (fun a126 H hq hB => ?_)
  obtain ⟨T127, eT127⟩ : ∃ z, z = z_t T122 a126 (100, 30, co) := ⟨_, rfl⟩
  obtain ⟨I128, eI128⟩ : ∃ z, z = z_row I123 a126 (fun _ => 0) := ⟨_, rfl⟩
  obtain ⟨Q129, eQ129⟩ : ∃ z, z = z_row Q125 a126 (fun _ => none) := ⟨_, rfl⟩
  rw [← eT127, ← eI128, ← eQ129] at hB
  replace h := h a126 T127 I128 Q129 hq eT127 eI128 eQ129
  have hk_a126 := z_tq eT127
  have hc_a126 : (T127 a126).2.2 = co := by rw [z_tqc eT127]
  replace hK1 := z_k2 hK1 g1
  replace hK2 := z_k2 hK2 g2
  obtain ⟨Q130, eQ130⟩ : ∃ z, z = z_up Q129 o 26 (some a126) := ⟨_, rfl⟩
  replace h := h Q130 eQ130
  refine z_putqF (x := (some a126)) eQ130 tyX5 X hB kc_X5 in_X5 tyX5_ok nmX5 (j := 26) (Nat.le_of_ble_eq_true rfl) q3236 (fun _ h => h) rfl rfl rfl (by decide) (z_fo hB ho (by decide)) (z_foc hB ho (by decide) hoc) rfl (Or.inr ⟨_, rfl⟩) dX5_init_192 (fun H locs hB => ?_)
  refine lv_aload_n (x := o) hx hb dX5_init_195 rfl (lv_at hl 0 rfl) ?_
  refine lv_bipush (v := 30) hx hb dX5_init_196 (by decide) ?_
  obtain ⟨g1, g2, h⟩ := h
  refine z_newa (k := 0) (n := 30) (col := co) (.int) rfl (by decide) X hB q1170 (by decide) rfl (Nat.le_of_ble_eq_true rfl) rfl (z_k1 hK1 g1) (z_k1 hK2 g2) dX5_init_198 (fun a131 H hq hB => ?_)
  obtain ⟨T132, eT132⟩ : ∃ z, z = z_t T127 a131 (100, 30, co) := ⟨_, rfl⟩
  obtain ⟨I133, eI133⟩ : ∃ z, z = z_row I128 a131 (fun _ => 0) := ⟨_, rfl⟩
  obtain ⟨Q134, eQ134⟩ : ∃ z, z = z_row Q130 a131 (fun _ => none) := ⟨_, rfl⟩
  rw [← eT132, ← eI133, ← eQ134] at hB
  replace h := h a131 T132 I133 Q134 hq eT132 eI133 eQ134
  have hk_a131 := z_tq eT132
  have hc_a131 : (T132 a131).2.2 = co := by rw [z_tqc eT132]
  replace hK1 := z_k2 hK1 g1
  replace hK2 := z_k2 hK2 g2
  obtain ⟨Q135, eQ135⟩ : ∃ z, z = z_up Q134 o 27 (some a131) := ⟨_, rfl⟩
  replace h := h Q135 eQ135
  refine z_putqF (x := (some a131)) eQ135 tyX5 X hB kc_X5 in_X5 tyX5_ok nmX5 (j := 27) (Nat.le_of_ble_eq_true rfl) q3237 (fun _ h => h) rfl rfl rfl (by decide) (z_fo hB ho (by decide)) (z_foc hB ho (by decide) hoc) rfl (Or.inr ⟨_, rfl⟩) dX5_init_200 (fun H locs hB => ?_)
  refine lv_aload_n (x := o) hx hb dX5_init_203 rfl (lv_at hl 0 rfl) ?_
  refine lv_bipush (v := 30) hx hb dX5_init_204 (by decide) ?_
  obtain ⟨g1, g2, h⟩ := h
  refine z_newa (k := 0) (n := 30) (col := co) (.int) rfl (by decide) X hB q1170 (by decide) rfl (Nat.le_of_ble_eq_true rfl) rfl (z_k1 hK1 g1) (z_k1 hK2 g2) dX5_init_206 (fun a136 H hq hB => ?_)
  obtain ⟨T137, eT137⟩ : ∃ z, z = z_t T132 a136 (100, 30, co) := ⟨_, rfl⟩
  obtain ⟨I138, eI138⟩ : ∃ z, z = z_row I133 a136 (fun _ => 0) := ⟨_, rfl⟩
  obtain ⟨Q139, eQ139⟩ : ∃ z, z = z_row Q135 a136 (fun _ => none) := ⟨_, rfl⟩
  rw [← eT137, ← eI138, ← eQ139] at hB
  replace h := h a136 T137 I138 Q139 hq eT137 eI138 eQ139
  have hk_a136 := z_tq eT137
  have hc_a136 : (T137 a136).2.2 = co := by rw [z_tqc eT137]
  replace hK1 := z_k2 hK1 g1
  replace hK2 := z_k2 hK2 g2
  obtain ⟨Q140, eQ140⟩ : ∃ z, z = z_up Q139 o 28 (some a136) := ⟨_, rfl⟩
  replace h := h Q140 eQ140
  refine z_putqF (x := (some a136)) eQ140 tyX5 X hB kc_X5 in_X5 tyX5_ok nmX5 (j := 28) (Nat.le_of_ble_eq_true rfl) q3238 (fun _ h => h) rfl rfl rfl (by decide) (z_fo hB ho (by decide)) (z_foc hB ho (by decide) hoc) rfl (Or.inr ⟨_, rfl⟩) dX5_init_208 (fun H locs hB => ?_)
  refine lv_aload_n (x := o) hx hb dX5_init_211 rfl (lv_at hl 0 rfl) ?_
  refine lv_bipush (v := 30) hx hb dX5_init_212 (by decide) ?_
  obtain ⟨g1, g2, h⟩ := h
  refine z_newa (k := 0) (n := 30) (col := co) (.int) rfl (by decide) X hB q1170 (by decide) rfl (Nat.le_of_ble_eq_true rfl) rfl (z_k1 hK1 g1) (z_k1 hK2 g2) dX5_init_214 (fun a141 H hq hB => ?_)
  obtain ⟨T142, eT142⟩ : ∃ z, z = z_t T137 a141 (100, 30, co) := ⟨_, rfl⟩
  obtain ⟨I143, eI143⟩ : ∃ z, z = z_row I138 a141 (fun _ => 0) := ⟨_, rfl⟩
  obtain ⟨Q144, eQ144⟩ : ∃ z, z = z_row Q140 a141 (fun _ => none) := ⟨_, rfl⟩
  rw [← eT142, ← eI143, ← eQ144] at hB
  replace h := h a141 T142 I143 Q144 hq eT142 eI143 eQ144
  have hk_a141 := z_tq eT142
  have hc_a141 : (T142 a141).2.2 = co := by rw [z_tqc eT142]
  replace hK1 := z_k2 hK1 g1
  replace hK2 := z_k2 hK2 g2
  obtain ⟨Q145, eQ145⟩ : ∃ z, z = z_up Q144 o 29 (some a141) := ⟨_, rfl⟩
  replace h := h Q145 eQ145
  refine z_putqF (x := (some a141)) eQ145 tyX5 X hB kc_X5 in_X5 tyX5_ok nmX5 (j := 29) (Nat.le_of_ble_eq_true rfl) q3239 (fun _ h => h) rfl rfl rfl (by decide) (z_fo hB ho (by decide)) (z_foc hB ho (by decide) hoc) rfl (Or.inr ⟨_, rfl⟩) dX5_init_216 (fun H locs hB => ?_)
  refine lv_aload_n (x := o) hx hb dX5_init_219 rfl (lv_at hl 0 rfl) ?_
  refine lv_bipush (v := 30) hx hb dX5_init_220 (by decide) ?_
  obtain ⟨g1, g2, h⟩ := h
  refine z_newa (k := 0) (n := 30) (col := co) (.int) rfl (by decide) X hB q1170 (by decide) rfl (Nat.le_of_ble_eq_true rfl) rfl (z_k1 hK1 g1) (z_k1 hK2 g2) dX5_init_222 (fun a146 H hq hB => ?_)
  obtain ⟨T147, eT147⟩ : ∃ z, z = z_t T142 a146 (100, 30, co) := ⟨_, rfl⟩
  obtain ⟨I148, eI148⟩ : ∃ z, z = z_row I143 a146 (fun _ => 0) := ⟨_, rfl⟩
  obtain ⟨Q149, eQ149⟩ : ∃ z, z = z_row Q145 a146 (fun _ => none) := ⟨_, rfl⟩
  rw [← eT147, ← eI148, ← eQ149] at hB
  replace h := h a146 T147 I148 Q149 hq eT147 eI148 eQ149
  have hk_a146 := z_tq eT147
  have hc_a146 : (T147 a146).2.2 = co := by rw [z_tqc eT147]
  replace hK1 := z_k2 hK1 g1
  replace hK2 := z_k2 hK2 g2
  obtain ⟨Q150, eQ150⟩ : ∃ z, z = z_up Q149 o 30 (some a146) := ⟨_, rfl⟩
  replace h := h Q150 eQ150
  refine z_putqF (x := (some a146)) eQ150 tyX5 X hB kc_X5 in_X5 tyX5_ok nmX5 (j := 30) (Nat.le_of_ble_eq_true rfl) q3240 (fun _ h => h) rfl rfl rfl (by decide) (z_fo hB ho (by decide)) (z_foc hB ho (by decide) hoc) rfl (Or.inr ⟨_, rfl⟩) dX5_init_224 (fun H locs hB => ?_)
  refine lv_aload_n (x := o) hx hb dX5_init_227 rfl (lv_at hl 0 rfl) ?_
  refine lv_bipush (v := 30) hx hb dX5_init_228 (by decide) ?_
  obtain ⟨g1, g2, h⟩ := h
  refine z_newa (k := 0) (n := 30) (col := co) (.int) rfl (by decide) X hB q1170 (by decide) rfl (Nat.le_of_ble_eq_true rfl) rfl (z_k1 hK1 g1) (z_k1 hK2 g2) dX5_init_230 (fun a151 H hq hB => ?_)
  obtain ⟨T152, eT152⟩ : ∃ z, z = z_t T147 a151 (100, 30, co) := ⟨_, rfl⟩
  obtain ⟨I153, eI153⟩ : ∃ z, z = z_row I148 a151 (fun _ => 0) := ⟨_, rfl⟩
  obtain ⟨Q154, eQ154⟩ : ∃ z, z = z_row Q150 a151 (fun _ => none) := ⟨_, rfl⟩
  rw [← eT152, ← eI153, ← eQ154] at hB
  replace h := h a151 T152 I153 Q154 hq eT152 eI153 eQ154
  have hk_a151 := z_tq eT152
  have hc_a151 : (T152 a151).2.2 = co := by rw [z_tqc eT152]
  replace hK1 := z_k2 hK1 g1
  replace hK2 := z_k2 hK2 g2
  obtain ⟨Q155, eQ155⟩ : ∃ z, z = z_up Q154 o 31 (some a151) := ⟨_, rfl⟩
  replace h := h Q155 eQ155
  refine z_putqF (x := (some a151)) eQ155 tyX5 X hB kc_X5 in_X5 tyX5_ok nmX5 (j := 31) (Nat.le_of_ble_eq_true rfl) q3241 (fun _ h => h) rfl rfl rfl (by decide) (z_fo hB ho (by decide)) (z_foc hB ho (by decide) hoc) rfl (Or.inr ⟨_, rfl⟩) dX5_init_232 (fun H locs hB => ?_)
  refine lv_aload_n (x := o) hx hb dX5_init_235 rfl (lv_at hl 0 rfl) ?_
  refine lv_bipush (v := 96) hx hb dX5_init_236 (by decide) ?_
  obtain ⟨g1, g2, h⟩ := h
  refine z_newa (k := 0) (n := 96) (col := co) (.int) rfl (by decide) X hB q1170 (by decide) rfl (Nat.le_of_ble_eq_true rfl) rfl (z_k1 hK1 g1) (z_k1 hK2 g2) dX5_init_238 (fun a156 H hq hB => ?_)
  obtain ⟨T157, eT157⟩ : ∃ z, z = z_t T152 a156 (100, 96, co) := ⟨_, rfl⟩
  obtain ⟨I158, eI158⟩ : ∃ z, z = z_row I153 a156 (fun _ => 0) := ⟨_, rfl⟩
  obtain ⟨Q159, eQ159⟩ : ∃ z, z = z_row Q155 a156 (fun _ => none) := ⟨_, rfl⟩
  rw [← eT157, ← eI158, ← eQ159] at hB
  replace h := h a156 T157 I158 Q159 hq eT157 eI158 eQ159
  have hk_a156 := z_tq eT157
  have hc_a156 : (T157 a156).2.2 = co := by rw [z_tqc eT157]
  replace hK1 := z_k2 hK1 g1
  replace hK2 := z_k2 hK2 g2
  obtain ⟨Q160, eQ160⟩ : ∃ z, z = z_up Q159 o 32 (some a156) := ⟨_, rfl⟩
  replace h := h Q160 eQ160
  refine z_putqF (x := (some a156)) eQ160 tyX5 X hB kc_X5 in_X5 tyX5_ok nmX5 (j := 32) (Nat.le_of_ble_eq_true rfl) q3242 (fun _ h => h) rfl rfl rfl (by decide) (z_fo hB ho (by decide)) (z_foc hB ho (by decide) hoc) rfl (Or.inr ⟨_, rfl⟩) dX5_init_240 (fun H locs hB => ?_)
  refine lv_aload_n (x := o) hx hb dX5_init_243 rfl (lv_at hl 0 rfl) ?_
  refine lv_iconst (v := 3) hx hb dX5_init_244 (by decide) ?_
  obtain ⟨g1, g2, h⟩ := h
  refine z_newa (k := 0) (n := 3) (col := co) (.int) rfl (by decide) X hB q1170 (by decide) rfl (Nat.le_of_ble_eq_true rfl) rfl (z_k1 hK1 g1) (z_k1 hK2 g2) dX5_init_245 (fun a161 H hq hB => ?_)
  obtain ⟨T162, eT162⟩ : ∃ z, z = z_t T157 a161 (100, 3, co) := ⟨_, rfl⟩
  obtain ⟨I163, eI163⟩ : ∃ z, z = z_row I158 a161 (fun _ => 0) := ⟨_, rfl⟩
  obtain ⟨Q164, eQ164⟩ : ∃ z, z = z_row Q160 a161 (fun _ => none) := ⟨_, rfl⟩
  rw [← eT162, ← eI163, ← eQ164] at hB
  replace h := h a161 T162 I163 Q164 hq eT162 eI163 eQ164
  have hk_a161 := z_tq eT162
  have hc_a161 : (T162 a161).2.2 = co := by rw [z_tqc eT162]
  replace hK1 := z_k2 hK1 g1
  replace hK2 := z_k2 hK2 g2
  obtain ⟨Q165, eQ165⟩ : ∃ z, z = z_up Q164 o 41 (some a161) := ⟨_, rfl⟩
  replace h := h Q165 eQ165
  refine z_putqF (x := (some a161)) eQ165 tyX5 X hB kc_X5 in_X5 tyX5_ok nmX5 (j := 41) (Nat.le_of_ble_eq_true rfl) q3251 (fun _ h => h) rfl rfl rfl (by decide) (z_fo hB ho (by decide)) (z_foc hB ho (by decide) hoc) rfl (Or.inr ⟨_, rfl⟩) dX5_init_247 (fun H locs hB => ?_)
  refine lv_aload_n (x := o) hx hb dX5_init_250 rfl (lv_at hl 0 rfl) ?_
  refine lv_iconst (v := 3) hx hb dX5_init_251 (by decide) ?_
  obtain ⟨g1, g2, h⟩ := h
  refine z_newa (k := 0) (n := 3) (col := co) (.int) rfl (by decide) X hB q1170 (by decide) rfl (Nat.le_of_ble_eq_true rfl) rfl (z_k1 hK1 g1) (z_k1 hK2 g2) dX5_init_252 (fun a166 H hq hB => ?_)
  obtain ⟨T167, eT167⟩ : ∃ z, z = z_t T162 a166 (100, 3, co) := ⟨_, rfl⟩
  obtain ⟨I168, eI168⟩ : ∃ z, z = z_row I163 a166 (fun _ => 0) := ⟨_, rfl⟩
  obtain ⟨Q169, eQ169⟩ : ∃ z, z = z_row Q165 a166 (fun _ => none) := ⟨_, rfl⟩
  rw [← eT167, ← eI168, ← eQ169] at hB
  replace h := h a166 T167 I168 Q169 hq eT167 eI168 eQ169
  have hk_a166 := z_tq eT167
  have hc_a166 : (T167 a166).2.2 = co := by rw [z_tqc eT167]
  replace hK1 := z_k2 hK1 g1
  replace hK2 := z_k2 hK2 g2
  obtain ⟨Q170, eQ170⟩ : ∃ z, z = z_up Q169 o 42 (some a166) := ⟨_, rfl⟩
  replace h := h Q170 eQ170
  refine z_putqF (x := (some a166)) eQ170 tyX5 X hB kc_X5 in_X5 tyX5_ok nmX5 (j := 42) (Nat.le_of_ble_eq_true rfl) q3252 (fun _ h => h) rfl rfl rfl (by decide) (z_fo hB ho (by decide)) (z_foc hB ho (by decide) hoc) rfl (Or.inr ⟨_, rfl⟩) dX5_init_254 (fun H locs hB => ?_)
  refine lv_aload_n (x := o) hx hb dX5_init_257 rfl (lv_at hl 0 rfl) ?_
  refine lv_iconst (v := 3) hx hb dX5_init_258 (by decide) ?_
  obtain ⟨g1, g2, h⟩ := h
  refine z_newa (k := 0) (n := 3) (col := co) (.int) rfl (by decide) X hB q1170 (by decide) rfl (Nat.le_of_ble_eq_true rfl) rfl (z_k1 hK1 g1) (z_k1 hK2 g2) dX5_init_259 (fun a171 H hq hB => ?_)
  obtain ⟨T172, eT172⟩ : ∃ z, z = z_t T167 a171 (100, 3, co) := ⟨_, rfl⟩
  obtain ⟨I173, eI173⟩ : ∃ z, z = z_row I168 a171 (fun _ => 0) := ⟨_, rfl⟩
  obtain ⟨Q174, eQ174⟩ : ∃ z, z = z_row Q170 a171 (fun _ => none) := ⟨_, rfl⟩
  rw [← eT172, ← eI173, ← eQ174] at hB
  replace h := h a171 T172 I173 Q174 hq eT172 eI173 eQ174
  have hk_a171 := z_tq eT172
  have hc_a171 : (T172 a171).2.2 = co := by rw [z_tqc eT172]
  replace hK1 := z_k2 hK1 g1
  replace hK2 := z_k2 hK2 g2
  obtain ⟨Q175, eQ175⟩ : ∃ z, z = z_up Q174 o 43 (some a171) := ⟨_, rfl⟩
  replace h := h Q175 eQ175
  refine z_putqF (x := (some a171)) eQ175 tyX5 X hB kc_X5 in_X5 tyX5_ok nmX5 (j := 43) (Nat.le_of_ble_eq_true rfl) q3253 (fun _ h => h) rfl rfl rfl (by decide) (z_fo hB ho (by decide)) (z_foc hB ho (by decide) hoc) rfl (Or.inr ⟨_, rfl⟩) dX5_init_261 (fun H locs hB => ?_)
  refine lv_aload_n (x := o) hx hb dX5_init_264 rfl (lv_at hl 0 rfl) ?_
  refine lv_iconst (v := 3) hx hb dX5_init_265 (by decide) ?_
  obtain ⟨g1, g2, h⟩ := h
  refine z_newa (k := 0) (n := 3) (col := co) (.int) rfl (by decide) X hB q1170 (by decide) rfl (Nat.le_of_ble_eq_true rfl) rfl (z_k1 hK1 g1) (z_k1 hK2 g2) dX5_init_266 (fun a176 H hq hB => ?_)
  obtain ⟨T177, eT177⟩ : ∃ z, z = z_t T172 a176 (100, 3, co) := ⟨_, rfl⟩
  obtain ⟨I178, eI178⟩ : ∃ z, z = z_row I173 a176 (fun _ => 0) := ⟨_, rfl⟩
  obtain ⟨Q179, eQ179⟩ : ∃ z, z = z_row Q175 a176 (fun _ => none) := ⟨_, rfl⟩
  rw [← eT177, ← eI178, ← eQ179] at hB
  replace h := h a176 T177 I178 Q179 hq eT177 eI178 eQ179
  have hk_a176 := z_tq eT177
  have hc_a176 : (T177 a176).2.2 = co := by rw [z_tqc eT177]
  replace hK1 := z_k2 hK1 g1
  replace hK2 := z_k2 hK2 g2
  obtain ⟨Q180, eQ180⟩ : ∃ z, z = z_up Q179 o 47 (some a176) := ⟨_, rfl⟩
  replace h := h Q180 eQ180
  refine z_putqF (x := (some a176)) eQ180 tyX5 X hB kc_X5 in_X5 tyX5_ok nmX5 (j := 47) (Nat.le_of_ble_eq_true rfl) q3257 (fun _ h => h) rfl rfl rfl (by decide) (z_fo hB ho (by decide)) (z_foc hB ho (by decide) hoc) rfl (Or.inr ⟨_, rfl⟩) dX5_init_268 (fun H locs hB => ?_)
  refine lv_aload_n (x := o) hx hb dX5_init_271 rfl (lv_at hl 0 rfl) ?_
  refine lv_bipush (v := 80) hx hb dX5_init_272 (by decide) ?_
  obtain ⟨g1, g2, h⟩ := h
  refine z_newa (k := 0) (n := 80) (col := co) (.int) rfl (by decide) X hB q1170 (by decide) rfl (Nat.le_of_ble_eq_true rfl) rfl (z_k1 hK1 g1) (z_k1 hK2 g2) dX5_init_274 (fun a181 H hq hB => ?_)
  obtain ⟨T182, eT182⟩ : ∃ z, z = z_t T177 a181 (100, 80, co) := ⟨_, rfl⟩
  obtain ⟨I183, eI183⟩ : ∃ z, z = z_row I178 a181 (fun _ => 0) := ⟨_, rfl⟩
  obtain ⟨Q184, eQ184⟩ : ∃ z, z = z_row Q180 a181 (fun _ => none) := ⟨_, rfl⟩
  rw [← eT182, ← eI183, ← eQ184] at hB
  replace h := h a181 T182 I183 Q184 hq eT182 eI183 eQ184
  have hk_a181 := z_tq eT182
  have hc_a181 : (T182 a181).2.2 = co := by rw [z_tqc eT182]
  replace hK1 := z_k2 hK1 g1
  replace hK2 := z_k2 hK2 g2
  obtain ⟨Q185, eQ185⟩ : ∃ z, z = z_up Q184 o 48 (some a181) := ⟨_, rfl⟩
  replace h := h Q185 eQ185
  refine z_putqF (x := (some a181)) eQ185 tyX5 X hB kc_X5 in_X5 tyX5_ok nmX5 (j := 48) (Nat.le_of_ble_eq_true rfl) q3258 (fun _ h => h) rfl rfl rfl (by decide) (z_fo hB ho (by decide)) (z_foc hB ho (by decide) hoc) rfl (Or.inr ⟨_, rfl⟩) dX5_init_276 (fun H locs hB => ?_)
  refine lv_aload_n (x := o) hx hb dX5_init_279 rfl (lv_at hl 0 rfl) ?_
  refine lv_bipush (v := 40) hx hb dX5_init_280 (by decide) ?_
  obtain ⟨g1, g2, h⟩ := h
  refine z_newa (k := 0) (n := 40) (col := co) (.int) rfl (by decide) X hB q1170 (by decide) rfl (Nat.le_of_ble_eq_true rfl) rfl (z_k1 hK1 g1) (z_k1 hK2 g2) dX5_init_282 (fun a186 H hq hB => ?_)
  obtain ⟨T187, eT187⟩ : ∃ z, z = z_t T182 a186 (100, 40, co) := ⟨_, rfl⟩
  obtain ⟨I188, eI188⟩ : ∃ z, z = z_row I183 a186 (fun _ => 0) := ⟨_, rfl⟩
  obtain ⟨Q189, eQ189⟩ : ∃ z, z = z_row Q185 a186 (fun _ => none) := ⟨_, rfl⟩
  rw [← eT187, ← eI188, ← eQ189] at hB
  replace h := h a186 T187 I188 Q189 hq eT187 eI188 eQ189
  have hk_a186 := z_tq eT187
  have hc_a186 : (T187 a186).2.2 = co := by rw [z_tqc eT187]
  replace hK1 := z_k2 hK1 g1
  replace hK2 := z_k2 hK2 g2
  obtain ⟨Q190, eQ190⟩ : ∃ z, z = z_up Q189 o 49 (some a186) := ⟨_, rfl⟩
  replace h := h Q190 eQ190
  refine z_putqF (x := (some a186)) eQ190 tyX5 X hB kc_X5 in_X5 tyX5_ok nmX5 (j := 49) (Nat.le_of_ble_eq_true rfl) q3259 (fun _ h => h) rfl rfl rfl (by decide) (z_fo hB ho (by decide)) (z_foc hB ho (by decide) hoc) rfl (Or.inr ⟨_, rfl⟩) dX5_init_284 (fun H locs hB => ?_)
  refine lv_aload_n (x := o) hx hb dX5_init_287 rfl (lv_at hl 0 rfl) ?_
  refine lv_sipush (v := 240) hx hb dX5_init_288 (by decide) ?_
  obtain ⟨g1, g2, h⟩ := h
  refine z_newa (k := 0) (n := 240) (col := co) (.int) rfl (by decide) X hB q1170 (by decide) rfl (Nat.le_of_ble_eq_true rfl) rfl (z_k1 hK1 g1) (z_k1 hK2 g2) dX5_init_291 (fun a191 H hq hB => ?_)
  obtain ⟨T192, eT192⟩ : ∃ z, z = z_t T187 a191 (100, 240, co) := ⟨_, rfl⟩
  obtain ⟨I193, eI193⟩ : ∃ z, z = z_row I188 a191 (fun _ => 0) := ⟨_, rfl⟩
  obtain ⟨Q194, eQ194⟩ : ∃ z, z = z_row Q190 a191 (fun _ => none) := ⟨_, rfl⟩
  rw [← eT192, ← eI193, ← eQ194] at hB
  replace h := h a191 T192 I193 Q194 hq eT192 eI193 eQ194
  have hk_a191 := z_tq eT192
  have hc_a191 : (T192 a191).2.2 = co := by rw [z_tqc eT192]
  replace hK1 := z_k2 hK1 g1
  replace hK2 := z_k2 hK2 g2
  obtain ⟨Q195, eQ195⟩ : ∃ z, z = z_up Q194 o 50 (some a191) := ⟨_, rfl⟩
  replace h := h Q195 eQ195
  refine z_putqF (x := (some a191)) eQ195 tyX5 X hB kc_X5 in_X5 tyX5_ok nmX5 (j := 50) (Nat.le_of_ble_eq_true rfl) q3260 (fun _ h => h) rfl rfl rfl (by decide) (z_fo hB ho (by decide)) (z_foc hB ho (by decide) hoc) rfl (Or.inr ⟨_, rfl⟩) dX5_init_293 (fun H locs hB => ?_)
  refine lv_aload_n (x := o) hx hb dX5_init_296 rfl (lv_at hl 0 rfl) ?_
  refine lv_sipush (v := 3438) hx hb dX5_init_297 (by decide) ?_
  obtain ⟨g1, g2, h⟩ := h
  refine z_newa (k := 0) (n := 3438) (col := co) (.int) rfl (by decide) X hB q1170 (by decide) rfl (Nat.le_of_ble_eq_true rfl) rfl (z_k1 hK1 g1) (z_k1 hK2 g2) dX5_init_300 (fun a196 H hq hB => ?_)
  obtain ⟨T197, eT197⟩ : ∃ z, z = z_t T192 a196 (100, 3438, co) := ⟨_, rfl⟩
  obtain ⟨I198, eI198⟩ : ∃ z, z = z_row I193 a196 (fun _ => 0) := ⟨_, rfl⟩
  obtain ⟨Q199, eQ199⟩ : ∃ z, z = z_row Q195 a196 (fun _ => none) := ⟨_, rfl⟩
  rw [← eT197, ← eI198, ← eQ199] at hB
  replace h := h a196 T197 I198 Q199 hq eT197 eI198 eQ199
  have hk_a196 := z_tq eT197
  have hc_a196 : (T197 a196).2.2 = co := by rw [z_tqc eT197]
  replace hK1 := z_k2 hK1 g1
  replace hK2 := z_k2 hK2 g2
  obtain ⟨Q200, eQ200⟩ : ∃ z, z = z_up Q199 o 55 (some a196) := ⟨_, rfl⟩
  replace h := h Q200 eQ200
  refine z_putqF (x := (some a196)) eQ200 tyX5 X hB kc_X5 in_X5 tyX5_ok nmX5 (j := 55) (Nat.le_of_ble_eq_true rfl) q3265 (fun _ h => h) rfl rfl rfl (by decide) (z_fo hB ho (by decide)) (z_foc hB ho (by decide) hoc) rfl (Or.inr ⟨_, rfl⟩) dX5_init_302 (fun H locs hB => ?_)
  refine lv_aload_n (x := o) hx hb dX5_init_305 rfl (lv_at hl 0 rfl) ?_
  refine lv_sipush (v := 573) hx hb dX5_init_306 (by decide) ?_
  obtain ⟨g1, g2, h⟩ := h
  refine z_newa (k := 0) (n := 573) (col := co) (.int) rfl (by decide) X hB q1170 (by decide) rfl (Nat.le_of_ble_eq_true rfl) rfl (z_k1 hK1 g1) (z_k1 hK2 g2) dX5_init_309 (fun a201 H hq hB => ?_)
  obtain ⟨T202, eT202⟩ : ∃ z, z = z_t T197 a201 (100, 573, co) := ⟨_, rfl⟩
  obtain ⟨I203, eI203⟩ : ∃ z, z = z_row I198 a201 (fun _ => 0) := ⟨_, rfl⟩
  obtain ⟨Q204, eQ204⟩ : ∃ z, z = z_row Q200 a201 (fun _ => none) := ⟨_, rfl⟩
  rw [← eT202, ← eI203, ← eQ204] at hB
  replace h := h a201 T202 I203 Q204 hq eT202 eI203 eQ204
  have hk_a201 := z_tq eT202
  have hc_a201 : (T202 a201).2.2 = co := by rw [z_tqc eT202]
  replace hK1 := z_k2 hK1 g1
  replace hK2 := z_k2 hK2 g2
  obtain ⟨Q205, eQ205⟩ : ∃ z, z = z_up Q204 o 56 (some a201) := ⟨_, rfl⟩
  replace h := h Q205 eQ205
  refine z_putqF (x := (some a201)) eQ205 tyX5 X hB kc_X5 in_X5 tyX5_ok nmX5 (j := 56) (Nat.le_of_ble_eq_true rfl) q3266 (fun _ h => h) rfl rfl rfl (by decide) (z_fo hB ho (by decide)) (z_foc hB ho (by decide) hoc) rfl (Or.inr ⟨_, rfl⟩) dX5_init_311 (fun H locs hB => ?_)
  refine lv_aload_n (x := o) hx hb dX5_init_314 rfl (lv_at hl 0 rfl) ?_
  refine lv_sipush (v := 573) hx hb dX5_init_315 (by decide) ?_
  obtain ⟨g1, g2, h⟩ := h
  refine z_newa (k := 0) (n := 573) (col := co) (.int) rfl (by decide) X hB q1170 (by decide) rfl (Nat.le_of_ble_eq_true rfl) rfl (z_k1 hK1 g1) (z_k1 hK2 g2) dX5_init_318 (fun a206 H hq hB => ?_)
  obtain ⟨T207, eT207⟩ : ∃ z, z = z_t T202 a206 (100, 573, co) := ⟨_, rfl⟩
  obtain ⟨I208, eI208⟩ : ∃ z, z = z_row I203 a206 (fun _ => 0) := ⟨_, rfl⟩
  obtain ⟨Q209, eQ209⟩ : ∃ z, z = z_row Q205 a206 (fun _ => none) := ⟨_, rfl⟩
  rw [← eT207, ← eI208, ← eQ209] at hB
  replace h := h a206 T207 I208 Q209 hq eT207 eI208 eQ209
  have hk_a206 := z_tq eT207
  have hc_a206 : (T207 a206).2.2 = co := by rw [z_tqc eT207]
  replace hK1 := z_k2 hK1 g1
  replace hK2 := z_k2 hK2 g2
  obtain ⟨Q210, eQ210⟩ : ∃ z, z = z_up Q209 o 57 (some a206) := ⟨_, rfl⟩
  replace h := h Q210 eQ210
  refine z_putqF (x := (some a206)) eQ210 tyX5 X hB kc_X5 in_X5 tyX5_ok nmX5 (j := 57) (Nat.le_of_ble_eq_true rfl) q3267 (fun _ h => h) rfl rfl rfl (by decide) (z_fo hB ho (by decide)) (z_foc hB ho (by decide) hoc) rfl (Or.inr ⟨_, rfl⟩) dX5_init_320 (fun H locs hB => ?_)
  refine lv_aload_n (x := o) hx hb dX5_init_323 rfl (lv_at hl 0 rfl) ?_
  refine lv_sipush (v := 573) hx hb dX5_init_324 (by decide) ?_
  obtain ⟨g1, g2, h⟩ := h
  refine z_newa (k := 0) (n := 573) (col := co) (.int) rfl (by decide) X hB q1170 (by decide) rfl (Nat.le_of_ble_eq_true rfl) rfl (z_k1 hK1 g1) (z_k1 hK2 g2) dX5_init_327 (fun a211 H hq hB => ?_)
  obtain ⟨T212, eT212⟩ : ∃ z, z = z_t T207 a211 (100, 573, co) := ⟨_, rfl⟩
  obtain ⟨I213, eI213⟩ : ∃ z, z = z_row I208 a211 (fun _ => 0) := ⟨_, rfl⟩
  obtain ⟨Q214, eQ214⟩ : ∃ z, z = z_row Q210 a211 (fun _ => none) := ⟨_, rfl⟩
  rw [← eT212, ← eI213, ← eQ214] at hB
  replace h := h a211 T212 I213 Q214 hq eT212 eI213 eQ214
  have hk_a211 := z_tq eT212
  have hc_a211 : (T212 a211).2.2 = co := by rw [z_tqc eT212]
  replace hK1 := z_k2 hK1 g1
  replace hK2 := z_k2 hK2 g2
  obtain ⟨Q215, eQ215⟩ : ∃ z, z = z_up Q214 o 58 (some a211) := ⟨_, rfl⟩
  replace h := h Q215 eQ215
  refine z_putqF (x := (some a211)) eQ215 tyX5 X hB kc_X5 in_X5 tyX5_ok nmX5 (j := 58) (Nat.le_of_ble_eq_true rfl) q3268 (fun _ h => h) rfl rfl rfl (by decide) (z_fo hB ho (by decide)) (z_foc hB ho (by decide) hoc) rfl (Or.inr ⟨_, rfl⟩) dX5_init_329 (fun H locs hB => ?_)
  refine lv_iconst (v := 0) hx hb dX5_init_332 (by decide) ?_
  refine lv_istore_n (lv' := [(1, .int 0), (0, .ref o)]) hx hb dX5_init_333 rfl hl (by decide) rfl (fun ls hl9 => ?_)
  replace hl := hl9
  clear hl9
  obtain ⟨w, h⟩ := h
  exact wv_X5_init_334 X ho hoc  w hB hK1 hK2 (lv_sub hl [1, 0] rfl) h
theorem pk_X5_init : z_PI yX5_init cX5_init 2 0 := ⟨q3207, q131, q3208, rfl, by decide +kernel⟩
theorem met_X5_init {l : Launch} {G : z_E} {T : z_T} {I : z_I} {Q : z_Q} (co : Nat) (o : Nat) (kc : Nat) (ks : Nat) (Qk : z_T → z_I → z_Q → Prop) (h : wp_X5_init co T I Q o kc ks Qk) : z_GM l G yX5_init (ws_ yX5_init cX5_init 2 none) 8 120 kc ks [.ref o] (z_co co) T I Q (z_qv Qk) z_no := by
  obtain ⟨ho, hoc, h⟩ := h
  refine z_body (own := RX5) (nm := "<init>") (by decide +kernel) rfl rfl (Nat.le_of_ble_eq_true rfl) (fun p e R s m below meth c A ls X hB hl => ?_)
  exact ww_X5_init_0 X ho hoc hB z_k0 z_k0 hl h
/-! X7_hashCode -/
theorem ww_X7_hashCode_0 {T : z_T} {I : z_I} {Q : z_Q} {o : Nat} {Qk : Int32 → Prop} (X : z_X l G A p R s m args meth c cX7_hashCode 1 RX7 "hashCode" (some .int) 0 0 8 120) (ho : (T o).1 = 9) {H : Heap} {locs : List Loc} {ls : Array Slot} (hB : z_HB G z_none A s.heap T I Q T I Q H locs) (hl : lv_has ls 1 [(0, .ref o)]) (h : wb_X7_hashCode_0 T I Q o Qk ) : W p l e R s m args below meth c H locs 0 0 (z_MQ below G z_none A T I Q (z_pi Qk T I Q) z_no args s 0 0) (F0 m 0 ls []) := by
  obtain ⟨hx, hb, -⟩ := id X
  unfold wb_X7_hashCode_0 at h
  refine lv_bipush (v := 8) hx hb dX7_hashCode_0 (by decide) ?_
  refine lv_aload_n (x := o) hx hb dX7_hashCode_2 rfl (lv_at hl 0 rfl) ?_
  refine z_geti X hB.1 kc_X7 in_X7 (j := 0) (Nat.le_of_ble_eq_true rfl) q2424 (fun _ h => h) rfl (by decide) ho dX7_hashCode_3 ?_
  refine lv_imul hx hb dX7_hashCode_6 ?_
  refine lv_aload_n (x := o) hx hb dX7_hashCode_7 rfl (lv_at hl 0 rfl) ?_
  refine z_geti X hB.1 kc_X7 in_X7 (j := 1) (Nat.le_of_ble_eq_true rfl) q2425 (fun _ h => h) rfl (by decide) ho dX7_hashCode_8 ?_
  refine lv_iadd hx hb dX7_hashCode_11 ?_
  exact z_iret X hB ⟨_, rfl, h, rfl, rfl, rfl⟩ (Nat.le_refl 0) (Nat.le_refl 0) dX7_hashCode_12
theorem met_X7_hashCode {l : Launch} {G : z_E} {T : z_T} {I : z_I} {Q : z_Q} (o : Nat) (Qk : Int32 → Prop) (h : wp_X7_hashCode T I Q o Qk) : z_GM l G yX7_hashCode (ws_ yX7_hashCode cX7_hashCode 1 (some .int)) 8 120 0 0 [.ref o] z_none T I Q (z_pi Qk T I Q) z_no := by
  obtain ⟨ho, h⟩ := h
  refine z_body (own := RX7) (nm := "hashCode") (by decide +kernel) rfl rfl (Nat.le_of_ble_eq_true rfl) (fun p e R s m below meth c A ls X hB hl => ?_)
  exact ww_X7_hashCode_0 X ho hB hl h
/-! J5_hash -/
theorem pu_X7_X7_hashCode_Object : z_PU "RobotCell$Interlock" "java/lang/Object" ⟨"java/lang/Object", "hashCode", "()I"⟩ yX7_hashCode cX7_hashCode 1 (some .int) 0 := ⟨q1649, q1657, q1658, q150, q1659, by decide +kernel⟩
theorem ww_J5_hash_19 {T : z_T} {I : z_I} {Q : z_Q} {Qk : Int32 → Prop} (X : z_X l G A p R s m args meth c cJ5_hash 2 RJ5 "hash" (some .int) 0 0 9 140) {s0 : Int32} {H : Heap} {locs : List Loc} {ls : Array Slot} (hB : z_HB G z_none A s.heap T I Q T I Q H locs) (hl : lv_has ls 2 []) (h : wb_J5_hash_19 T I Q Qk s0) : W p l e R s m args below meth c H locs 0 0 (z_MQ below G z_none A T I Q (z_pi Qk T I Q) z_no args s 0 0) (F0 m 19 ls [.int s0]) := by
  obtain ⟨hx, hb, -⟩ := id X
  unfold wb_J5_hash_19 at h
  exact z_iret X hB ⟨_, rfl, h, rfl, rfl, rfl⟩ (Nat.le_refl 0) (Nat.le_refl 0) dJ5_hash_19
theorem ww_J5_hash_0 {T : z_T} {I : z_I} {Q : z_Q} {Qk : Int32 → Prop} (X : z_X l G A p R s m args meth c cJ5_hash 2 RJ5 "hash" (some .int) 0 0 9 140) {x0 : Option Nat} {H : Heap} {locs : List Loc} {ls : Array Slot} (hB : z_HB G z_none A s.heap T I Q T I Q H locs) (hl : lv_has ls 2 [(0, va_rf x0)]) (h : wb_J5_hash_0 T I Q Qk x0) : W p l e R s m args below meth c H locs 0 0 (z_MQ below G z_none A T I Q (z_pi Qk T I Q) z_no args s 0 0) (F0 m 0 ls []) := by
  obtain ⟨hx, hb, -⟩ := id X
  unfold wb_J5_hash_0 at h
  refine z_aload_n (x := x0) hx hb dJ5_hash_0 rfl (lv_at hl 0 rfl) ?_
  refine z_ifnonnull (tgt := 8) hx hb dJ5_hash_1 (by decide) (fun a2 c1 => ?_) (fun c1 => ?_)
  · replace h := h.2 a2 c1
    subst c1
    refine lv_aload_n (x := a2) hx hb dJ5_hash_8 rfl (lv_at hl 0 rfl) ?_
    obtain ⟨hk_a2, h⟩ := h
    refine z_callip (z_runA (rest := []) [] pu_X7_X7_hashCode_Object q1646 (met_X7_hashCode a2 _ h) X hB (fun h => h) q1647 kc_X7 (by decide) hk_a2 rfl hl.1 (Nat.le_of_ble_eq_true rfl) dJ5_hash_9 (Nat.le_refl 0) (Nat.le_refl 0) (by decide) (by decide)) hB (fun r3 H locs h9 hB => ?_)
    replace h := h9
    clear h9
    refine lv_dup hx hb dJ5_hash_12 rfl ?_
    refine lv_istore_n (lv' := [(1, .int r3), (0, .ref a2)]) hx hb dJ5_hash_13 rfl hl (by decide) rfl (fun ls hl9 => ?_)
    replace hl := hl9
    clear hl9
    refine lv_iload_n hx hb dJ5_hash_14 rfl (lv_at hl 0 rfl) ?_
    refine lv_bipush (v := 16) hx hb dJ5_hash_15 (by decide) ?_
    refine lv_iushr hx hb dJ5_hash_17 rfl ?_
    refine lv_ixor hx hb dJ5_hash_18 ?_
    exact ww_J5_hash_19 X  hB (lv_sub hl [] rfl) h
  · replace h := h.1 c1
    subst c1
    refine lv_iconst (v := 0) hx hb dJ5_hash_4 (by decide) ?_
    refine lv_goto (tgt := 19) hx hb dJ5_hash_5 (by decide) ?_
    exact ww_J5_hash_19 X  hB (lv_sub hl [] rfl) h
theorem pk_J5_hash : z_PS yJ5_hash cJ5_hash 2 (some .int) 1 := ⟨q1644, q101, q1645, by decide +kernel⟩
theorem met_J5_hash {l : Launch} {G : z_E} {T : z_T} {I : z_I} {Q : z_Q} (x0 : Option Nat) (Qk : Int32 → Prop) (h : wp_J5_hash T I Q x0 Qk) : z_GM l G yJ5_hash (ws_ yJ5_hash cJ5_hash 2 (some .int)) 9 140 0 0 [va_rf x0] z_none T I Q (z_pi Qk T I Q) z_no := by
  refine z_body (own := RJ5) (nm := "hash") (by decide +kernel) rfl rfl (by cases x0 <;> exact Nat.le_of_ble_eq_true rfl) (fun p e R s m below meth c A ls X hB hl => ?_)
  replace hl : lv_has ls 2 [(0, va_rf x0)] := by cases x0 <;> exact hl
  exact ww_J5_hash_0 X hB hl h
/-! X7_equals -/
theorem ww_X7_equals_40 {T : z_T} {I : z_I} {Q : z_Q} {o : Nat} {Qk : Int32 → Prop} (X : z_X l G A p R s m args meth c cX7_equals 2 RX7 "equals" (some .boolean) 0 0 8 120) (ho : (T o).1 = 9) {s0 : Int32} {H : Heap} {locs : List Loc} {ls : Array Slot} (hB : z_HB G z_none A s.heap T I Q T I Q H locs) (hl : lv_has ls 2 []) (h : wb_X7_equals_40 T I Q o Qk s0) : W p l e R s m args below meth c H locs 0 0 (z_MQ below G z_none A T I Q (z_pz Qk T I Q) z_no args s 0 0) (F0 m 40 ls [.int s0]) := by
  obtain ⟨hx, hb, -⟩ := id X
  unfold wb_X7_equals_40 at h
  obtain ⟨hz, h⟩ := h
  exact z_zret X hB hz ⟨_, rfl, hz, h, rfl, rfl, rfl⟩ (Nat.le_refl 0) (Nat.le_refl 0) dX7_equals_40
theorem ww_X7_equals_39 {T : z_T} {I : z_I} {Q : z_Q} {o : Nat} {Qk : Int32 → Prop} (X : z_X l G A p R s m args meth c cX7_equals 2 RX7 "equals" (some .boolean) 0 0 8 120) (ho : (T o).1 = 9) {H : Heap} {locs : List Loc} {ls : Array Slot} (hB : z_HB G z_none A s.heap T I Q T I Q H locs) (hl : lv_has ls 2 []) (h : wb_X7_equals_39 T I Q o Qk ) : W p l e R s m args below meth c H locs 0 0 (z_MQ below G z_none A T I Q (z_pz Qk T I Q) z_no args s 0 0) (F0 m 39 ls []) := by
  obtain ⟨hx, hb, -⟩ := id X
  unfold wb_X7_equals_39 at h
  refine lv_iconst (v := 0) hx hb dX7_equals_39 (by decide) ?_
  exact ww_X7_equals_40 X ho  hB (lv_sub hl [] rfl) h
theorem ww_X7_equals_0 {T : z_T} {I : z_I} {Q : z_Q} {o : Nat} {Qk : Int32 → Prop} (X : z_X l G A p R s m args meth c cX7_equals 2 RX7 "equals" (some .boolean) 0 0 8 120) (ho : (T o).1 = 9) {x1 : Option Nat} {H : Heap} {locs : List Loc} {ls : Array Slot} (hB : z_HB G z_none A s.heap T I Q T I Q H locs) (hl : lv_has ls 2 [(0, .ref o), (1, va_rf x1)]) (h : wb_X7_equals_0 T I Q o Qk x1) : W p l e R s m args below meth c H locs 0 0 (z_MQ below G z_none A T I Q (z_pz Qk T I Q) z_no args s 0 0) (F0 m 0 ls []) := by
  obtain ⟨hx, hb, -⟩ := id X
  unfold wb_X7_equals_0 at h
  refine z_aload_n (x := x1) hx hb dX7_equals_0 rfl (lv_at hl 1 rfl) ?_
  obtain ⟨a1, rfl, h⟩ := h
  obtain ⟨hk_a1, h⟩ := h
  refine z_instY X hB.1 kc_X7 (by decide) hk_a1 q2071 (Or.inl rfl) dX7_equals_1 ?_
  refine lv_if_eq (tgt := 39) hx hb dX7_equals_4 (by decide) (fun c => absurd c (by decide)) (fun _ => ?_)
  refine lv_aload_n (x := a1) hx hb dX7_equals_7 rfl (lv_at hl 1 rfl) ?_
  refine z_castY X hB.1 kc_X7 (by decide) hk_a1 q2071 (Or.inl rfl) dX7_equals_8 ?_
  refine z_geti X hB.1 kc_X7 in_X7 (j := 0) (Nat.le_of_ble_eq_true rfl) q2424 (fun _ h => h) rfl (by decide) hk_a1 dX7_equals_11 ?_
  refine lv_aload_n (x := o) hx hb dX7_equals_14 rfl (lv_at hl 0 rfl) ?_
  refine z_geti X hB.1 kc_X7 in_X7 (j := 0) (Nat.le_of_ble_eq_true rfl) q2424 (fun _ h => h) rfl (by decide) ho dX7_equals_15 ?_
  refine lv_icmp_ne (tgt := 39) hx hb dX7_equals_18 (by decide) (fun c2 => ?_) (fun c2 => ?_)
  · replace h := h.1 c2
    exact ww_X7_equals_39 X ho  hB (lv_sub hl [] rfl) h
  · replace h := h.2 c2
    refine lv_aload_n (x := a1) hx hb dX7_equals_21 rfl (lv_at hl 1 rfl) ?_
    refine z_castY X hB.1 kc_X7 (by decide) hk_a1 q2071 (Or.inl rfl) dX7_equals_22 ?_
    refine z_geti X hB.1 kc_X7 in_X7 (j := 1) (Nat.le_of_ble_eq_true rfl) q2425 (fun _ h => h) rfl (by decide) hk_a1 dX7_equals_25 ?_
    refine lv_aload_n (x := o) hx hb dX7_equals_28 rfl (lv_at hl 0 rfl) ?_
    refine z_geti X hB.1 kc_X7 in_X7 (j := 1) (Nat.le_of_ble_eq_true rfl) q2425 (fun _ h => h) rfl (by decide) ho dX7_equals_29 ?_
    refine lv_icmp_ne (tgt := 39) hx hb dX7_equals_32 (by decide) (fun c3 => ?_) (fun c3 => ?_)
    · replace h := h.1 c3
      exact ww_X7_equals_39 X ho  hB (lv_sub hl [] rfl) h
    · replace h := h.2 c3
      refine lv_iconst (v := 1) hx hb dX7_equals_35 (by decide) ?_
      refine lv_goto (tgt := 40) hx hb dX7_equals_36 (by decide) ?_
      exact ww_X7_equals_40 X ho  hB (lv_sub hl [] rfl) h
theorem met_X7_equals {l : Launch} {G : z_E} {T : z_T} {I : z_I} {Q : z_Q} (o : Nat) (x1 : Option Nat) (Qk : Int32 → Prop) (h : wp_X7_equals T I Q o x1 Qk) : z_GM l G yX7_equals (ws_ yX7_equals cX7_equals 2 (some .boolean)) 8 120 0 0 [.ref o, va_rf x1] z_none T I Q (z_pz Qk T I Q) z_no := by
  obtain ⟨ho, h⟩ := h
  refine z_body (own := RX7) (nm := "equals") (by decide +kernel) rfl rfl (by cases x1 <;> exact Nat.le_of_ble_eq_true rfl) (fun p e R s m below meth c A ls X hB hl => ?_)
  replace hl : lv_has ls 2 [(0, .ref o), (1, va_rf x1)] := by cases x1 <;> exact hl
  exact ww_X7_equals_0 X ho hB hl h
/-! J5_getNode -/
theorem pu_X7_X7_equals_Object : z_PU "RobotCell$Interlock" "java/lang/Object" ⟨"java/lang/Object", "equals", "(Ljava/lang/Object;)Z"⟩ yX7_equals cX7_equals 2 (some .boolean) 1 := ⟨q2060, q2068, q2069, q150, q2070, by decide +kernel⟩
theorem ww_J5_getNode_69 {T : z_T} {I : z_I} {Q : z_Q} {o : Nat} {Qk : Option Nat → Prop} (X : z_X l G A p R s m args meth c cJ5_getNode 8 RJ5 "getNode" (some (.object "java/util/HashMap$Node")) 0 0 10 161) (ho : (T o).1 = 22) {x3 : Option Nat} {H : Heap} {locs : List Loc} {ls : Array Slot} (hB : z_HB G z_none A s.heap T I Q T I Q H locs) (hl : lv_has ls 8 [(3, va_rf x3)]) (h : wb_J5_getNode_69 T I Q o Qk x3) : W p l e R s m args below meth c H locs 0 0 (z_MQ below G z_none A T I Q (z_pr Qk T I Q) z_no args s 0 0) (F0 m 69 ls []) := by
  obtain ⟨hx, hb, -⟩ := id X
  unfold wb_J5_getNode_69 at h
  refine z_aload_n (x := x3) hx hb dJ5_getNode_69 rfl (lv_at hl 0 rfl) ?_
  exact z_aret (v := x3) X (by first | exact Or.inl ⟨_, rfl⟩ | exact Or.inr ⟨_, rfl⟩) hB ⟨_, rfl, h, rfl, rfl, rfl⟩ (Nat.le_refl 0) (Nat.le_refl 0) dJ5_getNode_70
theorem ww_J5_getNode_134 {T : z_T} {I : z_I} {Q : z_Q} {o : Nat} {Qk : Option Nat → Prop} (X : z_X l G A p R s m args meth c cJ5_getNode 8 RJ5 "getNode" (some (.object "java/util/HashMap$Node")) 0 0 10 161) (ho : (T o).1 = 22) {x4 : Option Nat} {H : Heap} {locs : List Loc} {ls : Array Slot} (hB : z_HB G z_none A s.heap T I Q T I Q H locs) (hl : lv_has ls 8 [(4, va_rf x4)]) (h : wb_J5_getNode_134 T I Q o Qk x4) : W p l e R s m args below meth c H locs 0 0 (z_MQ below G z_none A T I Q (z_pr Qk T I Q) z_no args s 0 0) (F0 m 134 ls []) := by
  obtain ⟨hx, hb, -⟩ := id X
  unfold wb_J5_getNode_134 at h
  refine z_aload (x := x4) hx hb dJ5_getNode_134 (lv_at hl 0 rfl) ?_
  exact z_aret (v := x4) X (by first | exact Or.inl ⟨_, rfl⟩ | exact Or.inr ⟨_, rfl⟩) hB ⟨_, rfl, h, rfl, rfl, rfl⟩ (Nat.le_refl 0) (Nat.le_refl 0) dJ5_getNode_136
theorem ww_J5_getNode_148 {T : z_T} {I : z_I} {Q : z_Q} {o : Nat} {Qk : Option Nat → Prop} (X : z_X l G A p R s m args meth c cJ5_getNode 8 RJ5 "getNode" (some (.object "java/util/HashMap$Node")) 0 0 10 161) (ho : (T o).1 = 22) {H : Heap} {locs : List Loc} {ls : Array Slot} (hB : z_HB G z_none A s.heap T I Q T I Q H locs) (hl : lv_has ls 8 []) (h : wb_J5_getNode_148 T I Q o Qk ) : W p l e R s m args below meth c H locs 0 0 (z_MQ below G z_none A T I Q (z_pr Qk T I Q) z_no args s 0 0) (F0 m 148 ls []) := by
  obtain ⟨hx, hb, -⟩ := id X
  unfold wb_J5_getNode_148 at h
  refine lv_null hx hb dJ5_getNode_148 ?_
  refine z_stk (st' := [va_rf none]) rfl ?_
  exact z_aret (v := none) X (by first | exact Or.inl ⟨_, rfl⟩ | exact Or.inr ⟨_, rfl⟩) hB ⟨_, rfl, h, rfl, rfl, rfl⟩ (Nat.le_refl 0) (Nat.le_refl 0) dJ5_getNode_149
theorem ww_J5_getNode_137 {T : z_T} {I : z_I} {Q : z_Q} {o : Nat} {k99 : Option Nat → Option Nat → Int32 → Prop} {Qk : Option Nat → Prop} (X : z_X l G A p R s m args meth c cJ5_getNode 8 RJ5 "getNode" (some (.object "java/util/HashMap$Node")) 0 0 10 161) (ho : (T o).1 = 22) (hk99 : ∀ {x1 : Option Nat} {x4 : Option Nat} {x6 : Int32} {H : Heap} {locs : List Loc} {ls : Array Slot}, z_HB G z_none A s.heap T I Q T I Q H locs → lv_has ls 8 [(1, va_rf x1), (4, va_rf x4), (6, .int x6)] → k99 x1 x4 x6 → W p l e R s m args below meth c H locs 0 0 (z_MQ below G z_none A T I Q (z_pr Qk T I Q) z_no args s 0 0) (F0 m 99 ls [])) {x1 : Option Nat} {x4 : Option Nat} {x6 : Int32} {H : Heap} {locs : List Loc} {ls : Array Slot} (hB : z_HB G z_none A s.heap T I Q T I Q H locs) (hl : lv_has ls 8 [(1, va_rf x1), (4, va_rf x4), (6, .int x6)]) (h : wb_J5_getNode_137 T I Q o k99 Qk x1 x4 x6) : W p l e R s m args below meth c H locs 0 0 (z_MQ below G z_none A T I Q (z_pr Qk T I Q) z_no args s 0 0) (F0 m 137 ls []) := by
  obtain ⟨hx, hb, -⟩ := id X
  unfold wb_J5_getNode_137 at h
  refine z_aload (x := x4) hx hb dJ5_getNode_137 (lv_at hl 1 rfl) ?_
  obtain ⟨a29, rfl, h⟩ := h
  obtain ⟨hk_a29, h⟩ := h
  refine z_getq X hB.1 kc_J42 in_J42 (j := 3) (Nat.le_of_ble_eq_true rfl) q1807 (fun _ h => h) rfl (by decide) hk_a29 dJ5_getNode_139 ?_
  refine lv_dup hx hb dJ5_getNode_142 z_cat ?_
  obtain ⟨y30, ey30⟩ : ∃ z : Option Nat, z = (Q a29 3) := ⟨_, rfl⟩
  replace h := h y30 ey30
  refine z_stk (st' := [va_rf y30, va_rf y30]) (by rw [ey30]) ?_
  refine z_astore (x := y30) (lv' := [(4, va_rf y30), (1, va_rf x1), (6, .int x6)]) hx hb dJ5_getNode_143 hl (by decide) rfl (fun ls hl9 => ?_)
  replace hl := hl9
  clear hl9
  refine z_ifnonnull (tgt := 99) hx hb dJ5_getNode_145 (by decide) (fun a32 c31 => ?_) (fun c31 => ?_)
  · replace h := h.2 a32 c31
    subst c31
    exact hk99 hB (lv_sub hl [1, 0, 2] rfl) h
  · replace h := h.1 c31
    subst c31
    exact ww_J5_getNode_148 X ho  hB (lv_sub hl [] rfl) h
theorem wv_J5_getNode_99 {T : z_T} {I : z_I} {Q : z_Q} {o : Nat} {Qk : Option Nat → Prop} (X : z_X l G A p R s m args meth c cJ5_getNode 8 RJ5 "getNode" (some (.object "java/util/HashMap$Node")) 0 0 10 161) (ho : (T o).1 = 22) : ∀ (n : Nat) {x1 : Option Nat} {x4 : Option Nat} {x6 : Int32} {H : Heap} {locs : List Loc} {ls : Array Slot}, z_HB G z_none A s.heap T I Q T I Q H locs → lv_has ls 8 [(1, va_rf x1), (4, va_rf x4), (6, .int x6)] → wl_J5_getNode_99 T I Q o Qk n x1 x4 x6 → W p l e R s m args below meth c H locs 0 0 (z_MQ below G z_none A T I Q (z_pr Qk T I Q) z_no args s 0 0) (F0 m 99 ls []) := by
  intro n
  induction n with
  | zero =>
    intro x1 x4 x6 H locs ls hB hl h
    exact h.elim
  | succ n ih =>
    intro x1 x4 x6 H locs ls hB hl h
    obtain ⟨hx, hb, -⟩ := id X
    unfold wl_J5_getNode_99 at h
    refine z_aload (x := x4) hx hb dJ5_getNode_99 (lv_at hl 1 rfl) ?_
    obtain ⟨a21, rfl, h⟩ := h
    obtain ⟨hk_a21, h⟩ := h
    refine z_geti X hB.1 kc_J42 in_J42 (j := 0) (Nat.le_of_ble_eq_true rfl) q1790 (fun _ h => h) rfl (by decide) hk_a21 dJ5_getNode_101 ?_
    refine lv_iload hx hb dJ5_getNode_104 (lv_at hl 2 rfl) ?_
    refine lv_icmp_ne (tgt := 137) hx hb dJ5_getNode_106 (by decide) (fun c22 => ?_) (fun c22 => ?_)
    · replace h := h.1 c22
      exact ww_J5_getNode_137 X ho (fun hB hl h => ih hB hl h) hB (lv_sub hl [0, 1, 2] rfl) h
    · replace h := h.2 c22
      refine lv_aload (x := a21) hx hb dJ5_getNode_109 (lv_at hl 1 rfl) ?_
      refine z_getq X hB.1 kc_J42 in_J42 (j := 1) (Nat.le_of_ble_eq_true rfl) q1797 (fun _ h => h) rfl (by decide) hk_a21 dJ5_getNode_111 ?_
      refine lv_dup hx hb dJ5_getNode_114 z_cat ?_
      obtain ⟨y23, ey23⟩ : ∃ z : Option Nat, z = (Q a21 1) := ⟨_, rfl⟩
      replace h := h y23 ey23
      refine z_stk (st' := [va_rf y23, va_rf y23]) (by rw [ey23]) ?_
      refine z_astore (x := y23) (lv' := [(7, va_rf y23), (1, va_rf x1), (4, .ref a21), (6, .int x6)]) hx hb dJ5_getNode_115 hl (by decide) rfl (fun ls hl9 => ?_)
      replace hl := hl9
      clear hl9
      refine z_aload_n (x := x1) hx hb dJ5_getNode_117 rfl (lv_at hl 1 rfl) ?_
      refine lv_acmp_eq (rx := y23) (ry := x1) (tgt := 134) hx hb dJ5_getNode_118 (by decide) (fun c24 => ?_) (fun c24 => ?_)
      · replace h := h.1 c24
        exact ww_J5_getNode_134 X ho  hB (lv_sub hl [2] rfl) h
      · replace h := h.2 c24
        refine z_aload_n (x := x1) hx hb dJ5_getNode_121 rfl (lv_at hl 1 rfl) ?_
        refine z_ifnull (tgt := 137) hx hb dJ5_getNode_122 (by decide) (fun c25 => ?_) (fun a26 c25 => ?_)
        · replace h := h.1 c25
          subst c25
          exact ww_J5_getNode_137 X ho (fun hB hl h => ih hB hl h) hB (lv_sub hl [1, 2, 3] rfl) h
        · replace h := h.2 a26 c25
          subst c25
          refine lv_aload_n (x := a26) hx hb dJ5_getNode_125 rfl (lv_at hl 1 rfl) ?_
          refine z_aload (x := y23) hx hb dJ5_getNode_126 (lv_at hl 0 rfl) ?_
          obtain ⟨hk_a26, h⟩ := h
          refine z_callzp (z_runO (rest := []) [va_rf y23] pu_X7_X7_equals_Object q2059 q2104 (met_X7_equals a26 y23 _ h) X hB (fun h => h) q2058 kc_X7 (by decide) hk_a26 rfl hl.1 (Nat.le_of_ble_eq_true rfl) dJ5_getNode_128 (Nat.le_refl 0) (Nat.le_refl 0) (by decide) (by decide)) hB (fun r27 H locs hz h9 hB => ?_)
          replace h := h9
          clear h9
          replace h := h hz
          refine lv_if_eq (tgt := 137) hx hb dJ5_getNode_131 (by decide) (fun c28 => ?_) (fun c28 => ?_)
          · replace h := h.1 c28
            exact ww_J5_getNode_137 X ho (fun hB hl h => ih hB hl h) hB (lv_sub hl [1, 2, 3] rfl) h
          · replace h := h.2 c28
            exact ww_J5_getNode_134 X ho  hB (lv_sub hl [2] rfl) h
theorem ww_J5_getNode_71 {T : z_T} {I : z_I} {Q : z_Q} {o : Nat} {Qk : Option Nat → Prop} (X : z_X l G A p R s m args meth c cJ5_getNode 8 RJ5 "getNode" (some (.object "java/util/HashMap$Node")) 0 0 10 161) (ho : (T o).1 = 22) {x1 : Option Nat} {x3 : Option Nat} {x6 : Int32} {H : Heap} {locs : List Loc} {ls : Array Slot} (hB : z_HB G z_none A s.heap T I Q T I Q H locs) (hl : lv_has ls 8 [(1, va_rf x1), (3, va_rf x3), (6, .int x6)]) (h : wb_J5_getNode_71 T I Q o Qk x1 x3 x6) : W p l e R s m args below meth c H locs 0 0 (z_MQ below G z_none A T I Q (z_pr Qk T I Q) z_no args s 0 0) (F0 m 71 ls []) := by
  obtain ⟨hx, hb, -⟩ := id X
  unfold wb_J5_getNode_71 at h
  refine z_aload_n (x := x3) hx hb dJ5_getNode_71 rfl (lv_at hl 1 rfl) ?_
  obtain ⟨a17, rfl, h⟩ := h
  obtain ⟨hk_a17, h⟩ := h
  refine z_getq X hB.1 kc_J42 in_J42 (j := 3) (Nat.le_of_ble_eq_true rfl) q1807 (fun _ h => h) rfl (by decide) hk_a17 dJ5_getNode_72 ?_
  refine lv_dup hx hb dJ5_getNode_75 z_cat ?_
  obtain ⟨y18, ey18⟩ : ∃ z : Option Nat, z = (Q a17 3) := ⟨_, rfl⟩
  replace h := h y18 ey18
  refine z_stk (st' := [va_rf y18, va_rf y18]) (by rw [ey18]) ?_
  refine z_astore (x := y18) (lv' := [(4, va_rf y18), (1, va_rf x1), (3, .ref a17), (6, .int x6)]) hx hb dJ5_getNode_76 hl (by decide) rfl (fun ls hl9 => ?_)
  replace hl := hl9
  clear hl9
  refine z_ifnull (tgt := 148) hx hb dJ5_getNode_78 (by decide) (fun c19 => ?_) (fun a20 c19 => ?_)
  · replace h := h.1 c19
    subst c19
    exact ww_J5_getNode_148 X ho  hB (lv_sub hl [] rfl) h
  · replace h := h.2 a20 c19
    subst c19
    refine lv_aload_n (x := a17) hx hb dJ5_getNode_81 rfl (lv_at hl 2 rfl) ?_
    refine z_instT X hB.1 hk_a17 q1756 dJ5_getNode_82 ?_
    refine lv_if_eq (tgt := 99) hx hb dJ5_getNode_85 (by decide) (fun _ => ?_) (fun c => absurd c (by decide))
    obtain ⟨w, h⟩ := h
    exact wv_J5_getNode_99 X ho  w hB (lv_sub hl [1, 0, 3] rfl) h
theorem ww_J5_getNode_0 {T : z_T} {I : z_I} {Q : z_Q} {o : Nat} {Qk : Option Nat → Prop} (X : z_X l G A p R s m args meth c cJ5_getNode 8 RJ5 "getNode" (some (.object "java/util/HashMap$Node")) 0 0 10 161) (ho : (T o).1 = 22) {x1 : Option Nat} {H : Heap} {locs : List Loc} {ls : Array Slot} (hB : z_HB G z_none A s.heap T I Q T I Q H locs) (hl : lv_has ls 8 [(0, .ref o), (1, va_rf x1)]) (h : wb_J5_getNode_0 T I Q o Qk x1) : W p l e R s m args below meth c H locs 0 0 (z_MQ below G z_none A T I Q (z_pr Qk T I Q) z_no args s 0 0) (F0 m 0 ls []) := by
  obtain ⟨hx, hb, -⟩ := id X
  unfold wb_J5_getNode_0 at h
  refine lv_aload_n (x := o) hx hb dJ5_getNode_0 rfl (lv_at hl 0 rfl) ?_
  refine z_getq X hB.1 kc_J6 in_J6 (j := 0) (Nat.le_of_ble_eq_true rfl) q1045 (fun _ h => h) rfl (by decide) ho dJ5_getNode_1 ?_
  refine lv_dup hx hb dJ5_getNode_4 z_cat ?_
  obtain ⟨y1, ey1⟩ : ∃ z : Option Nat, z = (Q o 0) := ⟨_, rfl⟩
  replace h := h y1 ey1
  refine z_stk (st' := [va_rf y1, va_rf y1]) (by rw [ey1]) ?_
  refine z_astore_n (i := 2) (x := y1) (lv' := [(2, va_rf y1), (0, .ref o), (1, va_rf x1)]) hx hb dJ5_getNode_5 rfl hl (by decide) (by simp [z_cat, z_rfs, z_catq]) (fun ls hl9 => ?_)
  replace hl := hl9
  clear hl9
  refine z_ifnull (tgt := 148) hx hb dJ5_getNode_6 (by decide) (fun c2 => ?_) (fun a3 c2 => ?_)
  · replace h := h.1 c2
    subst c2
    exact ww_J5_getNode_148 X ho  hB (lv_sub hl [] rfl) h
  · replace h := h.2 a3 c2
    subst c2
    refine lv_aload_n (x := a3) hx hb dJ5_getNode_9 rfl (lv_at hl 0 rfl) ?_
    obtain ⟨hk_a3, h⟩ := h
    refine z_alen (k := 5) X hB.1 (by decide) hk_a3 dJ5_getNode_10 ?_
    refine lv_dup hx hb dJ5_getNode_11 rfl ?_
    refine lv_topi (fun y4 ey4 => ?_)
    replace h := h y4 ey4
    refine lv_istore (lv' := [(5, .int y4), (2, .ref a3), (0, .ref o), (1, va_rf x1)]) hx hb dJ5_getNode_12 hl (by decide) rfl (fun ls hl9 => ?_)
    replace hl := hl9
    clear hl9
    refine lv_if_le (tgt := 148) hx hb dJ5_getNode_14 (by decide) (fun c5 => ?_) (fun c5 => ?_)
    · replace h := h.1 c5
      exact ww_J5_getNode_148 X ho  hB (lv_sub hl [] rfl) h
    · replace h := h.2 c5
      refine lv_aload_n (x := a3) hx hb dJ5_getNode_17 rfl (lv_at hl 1 rfl) ?_
      refine lv_iload hx hb dJ5_getNode_18 (lv_at hl 0 rfl) ?_
      refine lv_iconst (v := 1) hx hb dJ5_getNode_20 (by decide) ?_
      refine lv_isub hx hb dJ5_getNode_21 ?_
      refine z_aload_n (x := x1) hx hb dJ5_getNode_22 rfl (lv_at hl 3 rfl) ?_
      refine z_callip (z_runS (rest := [.int (y4 - 1), .ref a3]) [va_rf x1] pk_J5_hash (met_J5_hash x1 _ h) X hB (fun h => h) q1643 rfl hl.1 (Nat.le_of_ble_eq_true rfl) dJ5_getNode_23 (Nat.le_refl 0) (Nat.le_refl 0) (by decide) (by decide)) hB (fun r6 H locs h9 hB => ?_)
      replace h := h9
      clear h9
      refine lv_dup hx hb dJ5_getNode_26 rfl ?_
      refine lv_istore (lv' := [(6, .int r6), (5, .int y4), (2, .ref a3), (0, .ref o), (1, va_rf x1)]) hx hb dJ5_getNode_27 hl (by decide) rfl (fun ls hl9 => ?_)
      replace hl := hl9
      clear hl9
      refine lv_iand hx hb dJ5_getNode_29 ?_
      obtain ⟨h1, h⟩ := h
      refine z_aald (k := 5) X hB.1 (by decide) hk_a3 h1 dJ5_getNode_30 ?_
      refine lv_dup hx hb dJ5_getNode_31 z_cat ?_
      obtain ⟨y7, ey7⟩ : ∃ z : Option Nat, z = (Q a3 ((y4 - 1) &&& r6).toNatClampNeg) := ⟨_, rfl⟩
      replace h := h y7 ey7
      refine z_stk (st' := [va_rf y7, va_rf y7]) (by rw [ey7]) ?_
      refine z_astore_n (x := y7) (lv' := [(3, va_rf y7), (6, .int r6), (5, .int y4), (2, .ref a3), (0, .ref o), (1, va_rf x1)]) hx hb dJ5_getNode_32 rfl hl (by decide) rfl (fun ls hl9 => ?_)
      replace hl := hl9
      clear hl9
      refine z_ifnull (tgt := 148) hx hb dJ5_getNode_33 (by decide) (fun c8 => ?_) (fun a9 c8 => ?_)
      · replace h := h.1 c8
        subst c8
        exact ww_J5_getNode_148 X ho  hB (lv_sub hl [] rfl) h
      · replace h := h.2 a9 c8
        subst c8
        refine lv_aload_n (x := a9) hx hb dJ5_getNode_36 rfl (lv_at hl 0 rfl) ?_
        obtain ⟨hk_a9, h⟩ := h
        refine z_geti X hB.1 kc_J42 in_J42 (j := 0) (Nat.le_of_ble_eq_true rfl) q1790 (fun _ h => h) rfl (by decide) hk_a9 dJ5_getNode_37 ?_
        refine lv_iload hx hb dJ5_getNode_40 (lv_at hl 1 rfl) ?_
        refine lv_icmp_ne (tgt := 71) hx hb dJ5_getNode_42 (by decide) (fun c10 => ?_) (fun c10 => ?_)
        · replace h := h.1 c10
          exact ww_J5_getNode_71 X ho  hB (lv_sub hl [5, 0, 1] rfl) h
        · replace h := h.2 c10
          refine lv_aload_n (x := a9) hx hb dJ5_getNode_45 rfl (lv_at hl 0 rfl) ?_
          refine z_getq X hB.1 kc_J42 in_J42 (j := 1) (Nat.le_of_ble_eq_true rfl) q1797 (fun _ h => h) rfl (by decide) hk_a9 dJ5_getNode_46 ?_
          refine lv_dup hx hb dJ5_getNode_49 z_cat ?_
          obtain ⟨y11, ey11⟩ : ∃ z : Option Nat, z = (Q a9 1) := ⟨_, rfl⟩
          replace h := h y11 ey11
          refine z_stk (st' := [va_rf y11, va_rf y11]) (by rw [ey11]) ?_
          refine z_astore (x := y11) (lv' := [(7, va_rf y11), (3, .ref a9), (6, .int r6), (5, .int y4), (2, .ref a3), (0, .ref o), (1, va_rf x1)]) hx hb dJ5_getNode_50 hl (by decide) rfl (fun ls hl9 => ?_)
          replace hl := hl9
          clear hl9
          refine z_aload_n (x := x1) hx hb dJ5_getNode_52 rfl (lv_at hl 6 rfl) ?_
          refine lv_acmp_eq (rx := y11) (ry := x1) (tgt := 69) hx hb dJ5_getNode_53 (by decide) (fun c12 => ?_) (fun c12 => ?_)
          · replace h := h.1 c12
            exact ww_J5_getNode_69 X ho  hB (lv_sub hl [1] rfl) h
          · replace h := h.2 c12
            refine z_aload_n (x := x1) hx hb dJ5_getNode_56 rfl (lv_at hl 6 rfl) ?_
            refine z_ifnull (tgt := 71) hx hb dJ5_getNode_57 (by decide) (fun c13 => ?_) (fun a14 c13 => ?_)
            · replace h := h.1 c13
              subst c13
              exact ww_J5_getNode_71 X ho  hB (lv_sub hl [6, 1, 2] rfl) h
            · replace h := h.2 a14 c13
              subst c13
              refine lv_aload_n (x := a14) hx hb dJ5_getNode_60 rfl (lv_at hl 6 rfl) ?_
              refine z_aload (x := y11) hx hb dJ5_getNode_61 (lv_at hl 0 rfl) ?_
              obtain ⟨hk_a14, h⟩ := h
              refine z_callzp (z_runO (rest := []) [va_rf y11] pu_X7_X7_equals_Object q2059 q2104 (met_X7_equals a14 y11 _ h) X hB (fun h => h) q2058 kc_X7 (by decide) hk_a14 rfl hl.1 (Nat.le_of_ble_eq_true rfl) dJ5_getNode_63 (Nat.le_refl 0) (Nat.le_refl 0) (by decide) (by decide)) hB (fun r15 H locs hz h9 hB => ?_)
              replace h := h9
              clear h9
              replace h := h hz
              refine lv_if_eq (tgt := 71) hx hb dJ5_getNode_66 (by decide) (fun c16 => ?_) (fun c16 => ?_)
              · replace h := h.1 c16
                exact ww_J5_getNode_71 X ho  hB (lv_sub hl [6, 1, 2] rfl) h
              · replace h := h.2 c16
                exact ww_J5_getNode_69 X ho  hB (lv_sub hl [1] rfl) h
theorem met_J5_getNode {l : Launch} {G : z_E} {T : z_T} {I : z_I} {Q : z_Q} (o : Nat) (x1 : Option Nat) (Qk : Option Nat → Prop) (h : wp_J5_getNode T I Q o x1 Qk) : z_GM l G yJ5_getNode (ws_ yJ5_getNode cJ5_getNode 8 (some (.object "java/util/HashMap$Node"))) 10 161 0 0 [.ref o, va_rf x1] z_none T I Q (z_pr Qk T I Q) z_no := by
  obtain ⟨ho, h⟩ := h
  refine z_body (own := RJ5) (nm := "getNode") (by decide +kernel) rfl rfl (by cases x1 <;> exact Nat.le_of_ble_eq_true rfl) (fun p e R s m below meth c A ls X hB hl => ?_)
  replace hl : lv_has ls 8 [(0, .ref o), (1, va_rf x1)] := by cases x1 <;> exact hl
  exact ww_J5_getNode_0 X ho hB hl h
/-! J5_containsKey -/
theorem pu_J6_J5_getNode : z_PU "java/util/LinkedHashMap" "java/util/HashMap" ⟨"java/util/HashMap", "getNode", "(Ljava/lang/Object;)Ljava/util/HashMap$Node;"⟩ yJ5_getNode cJ5_getNode 8 (some (.object "java/util/HashMap$Node")) 1 := ⟨q2444, q2445, q2443, q101, q2446, by decide +kernel⟩
theorem ww_J5_containsKey_13 {T : z_T} {I : z_I} {Q : z_Q} {o : Nat} {Qk : Int32 → Prop} (X : z_X l G A p R s m args meth c cJ5_containsKey 2 RJ5 "containsKey" (some .boolean) 0 0 11 188) (ho : (T o).1 = 22) {s0 : Int32} {H : Heap} {locs : List Loc} {ls : Array Slot} (hB : z_HB G z_none A s.heap T I Q T I Q H locs) (hl : lv_has ls 2 []) (h : wb_J5_containsKey_13 T I Q o Qk s0) : W p l e R s m args below meth c H locs 0 0 (z_MQ below G z_none A T I Q (z_pz Qk T I Q) z_no args s 0 0) (F0 m 13 ls [.int s0]) := by
  obtain ⟨hx, hb, -⟩ := id X
  unfold wb_J5_containsKey_13 at h
  obtain ⟨hz, h⟩ := h
  exact z_zret X hB hz ⟨_, rfl, hz, h, rfl, rfl, rfl⟩ (Nat.le_refl 0) (Nat.le_refl 0) dJ5_containsKey_13
theorem ww_J5_containsKey_0 {T : z_T} {I : z_I} {Q : z_Q} {o : Nat} {Qk : Int32 → Prop} (X : z_X l G A p R s m args meth c cJ5_containsKey 2 RJ5 "containsKey" (some .boolean) 0 0 11 188) (ho : (T o).1 = 22) {x1 : Option Nat} {H : Heap} {locs : List Loc} {ls : Array Slot} (hB : z_HB G z_none A s.heap T I Q T I Q H locs) (hl : lv_has ls 2 [(0, .ref o), (1, va_rf x1)]) (h : wb_J5_containsKey_0 T I Q o Qk x1) : W p l e R s m args below meth c H locs 0 0 (z_MQ below G z_none A T I Q (z_pz Qk T I Q) z_no args s 0 0) (F0 m 0 ls []) := by
  obtain ⟨hx, hb, -⟩ := id X
  unfold wb_J5_containsKey_0 at h
  refine lv_aload_n (x := o) hx hb dJ5_containsKey_0 rfl (lv_at hl 0 rfl) ?_
  refine z_aload_n (x := x1) hx hb dJ5_containsKey_1 rfl (lv_at hl 1 rfl) ?_
  refine z_callrp (z_runU (rest := []) [va_rf x1] pu_J6_J5_getNode rfl (met_J5_getNode o x1 _ h) X hB (fun h => h) q2442 kc_J6 (by decide) ho rfl hl.1 (Nat.le_of_ble_eq_true rfl) dJ5_containsKey_2 (Nat.le_refl 0) (Nat.le_refl 0) (by decide) (by decide)) hB (fun r1 H locs h9 hB => ?_)
  replace h := h9
  clear h9
  refine z_ifnull (tgt := 12) hx hb dJ5_containsKey_5 (by decide) (fun c2 => ?_) (fun a3 c2 => ?_)
  · replace h := h.1 c2
    subst c2
    refine lv_iconst (v := 0) hx hb dJ5_containsKey_12 (by decide) ?_
    exact ww_J5_containsKey_13 X ho  hB (lv_sub hl [] rfl) h
  · replace h := h.2 a3 c2
    subst c2
    refine lv_iconst (v := 1) hx hb dJ5_containsKey_8 (by decide) ?_
    refine lv_goto (tgt := 13) hx hb dJ5_containsKey_9 (by decide) ?_
    exact ww_J5_containsKey_13 X ho  hB (lv_sub hl [] rfl) h
theorem met_J5_containsKey {l : Launch} {G : z_E} {T : z_T} {I : z_I} {Q : z_Q} (o : Nat) (x1 : Option Nat) (Qk : Int32 → Prop) (h : wp_J5_containsKey T I Q o x1 Qk) : z_GM l G yJ5_containsKey (ws_ yJ5_containsKey cJ5_containsKey 2 (some .boolean)) 11 188 0 0 [.ref o, va_rf x1] z_none T I Q (z_pz Qk T I Q) z_no := by
  obtain ⟨ho, h⟩ := h
  refine z_body (own := RJ5) (nm := "containsKey") (by decide +kernel) rfl rfl (by cases x1 <;> exact Nat.le_of_ble_eq_true rfl) (fun p e R s m below meth c A ls X hB hl => ?_)
  replace hl : lv_has ls 2 [(0, .ref o), (1, va_rf x1)] := by cases x1 <;> exact hl
  exact ww_J5_containsKey_0 X ho hB hl h
/-! J2_contains -/
theorem pu_J6_J5_containsKey : z_PU "java/util/LinkedHashMap" "java/util/HashMap" ⟨"java/util/HashMap", "containsKey", "(Ljava/lang/Object;)Z"⟩ yJ5_containsKey cJ5_containsKey 2 (some .boolean) 1 := ⟨q2439, q2440, q2438, q101, q2441, by decide +kernel⟩
theorem ww_J2_contains_0 {T : z_T} {I : z_I} {Q : z_Q} {o : Nat} {Qk : Int32 → Prop} (X : z_X l G A p R s m args meth c cJ2_contains 2 RJ2 "contains" (some .boolean) 0 0 12 209) (ho : (T o).1 = 21) {x1 : Option Nat} {H : Heap} {locs : List Loc} {ls : Array Slot} (hB : z_HB G z_none A s.heap T I Q T I Q H locs) (hl : lv_has ls 2 [(0, .ref o), (1, va_rf x1)]) (h : wb_J2_contains_0 T I Q o Qk x1) : W p l e R s m args below meth c H locs 0 0 (z_MQ below G z_none A T I Q (z_pz Qk T I Q) z_no args s 0 0) (F0 m 0 ls []) := by
  obtain ⟨hx, hb, -⟩ := id X
  unfold wb_J2_contains_0 at h
  refine lv_aload_n (x := o) hx hb dJ2_contains_0 rfl (lv_at hl 0 rfl) ?_
  refine z_getq X hB.1 kc_J3 in_J3 (j := 0) (Nat.le_of_ble_eq_true rfl) q1084 (fun _ h => h) rfl (by decide) ho dJ2_contains_1 ?_
  refine z_aload_n (x := x1) hx hb dJ2_contains_4 rfl (lv_at hl 1 rfl) ?_
  obtain ⟨a1, ea1, h⟩ := h
  refine z_stk (st' := [va_rf x1, .ref a1]) (by rw [ea1] <;> rfl) ?_
  obtain ⟨hk_a1, h⟩ := h
  refine z_callzp (z_runU (rest := []) [va_rf x1] pu_J6_J5_containsKey rfl (met_J5_containsKey a1 x1 _ h) X hB (fun h => h) q2437 kc_J6 (by decide) hk_a1 rfl hl.1 (Nat.le_of_ble_eq_true rfl) dJ2_contains_5 (Nat.le_refl 0) (Nat.le_refl 0) (by decide) (by decide)) hB (fun r2 H locs hz h9 hB => ?_)
  replace h := h9
  clear h9
  replace h := h hz
  obtain ⟨hz, h⟩ := h
  exact z_zret X hB hz ⟨_, rfl, hz, h, rfl, rfl, rfl⟩ (Nat.le_refl 0) (Nat.le_refl 0) dJ2_contains_8
theorem met_J2_contains {l : Launch} {G : z_E} {T : z_T} {I : z_I} {Q : z_Q} (o : Nat) (x1 : Option Nat) (Qk : Int32 → Prop) (h : wp_J2_contains T I Q o x1 Qk) : z_GM l G yJ2_contains (ws_ yJ2_contains cJ2_contains 2 (some .boolean)) 12 209 0 0 [.ref o, va_rf x1] z_none T I Q (z_pz Qk T I Q) z_no := by
  obtain ⟨ho, h⟩ := h
  refine z_body (own := RJ2) (nm := "contains") (by decide +kernel) rfl rfl (by cases x1 <;> exact Nat.le_of_ble_eq_true rfl) (fun p e R s m below meth c A ls X hB hl => ?_)
  replace hl : lv_has ls 2 [(0, .ref o), (1, va_rf x1)] := by cases x1 <;> exact hl
  exact ww_J2_contains_0 X ho hB hl h
/-! J5_resize -/
theorem ww_J5_resize_347 {co : Nat} {o : Nat} {k151 : z_T → z_I → z_Q → Nat → Nat → Option Nat → Int32 → Int32 → Option Nat → Int32 → Prop} {Qk : Option Nat → z_T → z_I → z_Q → Prop} (X : z_X l G A p R s m args meth c cJ5_resize 14 RJ5 "resize" (some (.array (.object "java/util/HashMap$Node"))) mc ms 8 120) (ho : (T0 o).1 = 22) (hoc : (T0 o).2.2 = co) (hk151 : ∀ {cells slots : Nat} {T : z_T} {I : z_I} {Q : z_Q} {kc : Nat} {ks : Nat} {x1 : Option Nat} {x2 : Int32} {x4 : Int32} {x6 : Option Nat} {x7 : Int32} {H : Heap} {locs : List Loc} {ls : Array Slot}, z_HB G (z_co co) A s.heap T0 I0 Q0 T I Q H locs → cells + kc ≤ mc → slots + ks ≤ ms → lv_has ls 14 [(0, .ref o), (1, va_rf x1), (2, .int x2), (4, .int x4), (6, va_rf x6), (7, .int x7)] → k151 T I Q kc ks x1 x2 x4 x6 x7 → W p l e R s m args below meth c H locs cells slots (z_MQ below G (z_co co) A T0 I0 Q0 (z_qr Qk) z_no args s mc ms) (F0 m 151 ls [])) {cells slots : Nat} {T : z_T} {I : z_I} {Q : z_Q} {kc : Nat} {ks : Nat} {x1 : Option Nat} {x2 : Int32} {x4 : Int32} {x6 : Option Nat} {x7 : Int32} {H : Heap} {locs : List Loc} {ls : Array Slot} (hB : z_HB G (z_co co) A s.heap T0 I0 Q0 T I Q H locs) (hK1 : cells + kc ≤ mc) (hK2 : slots + ks ≤ ms) (hl : lv_has ls 14 [(0, .ref o), (1, va_rf x1), (2, .int x2), (4, .int x4), (6, va_rf x6), (7, .int x7)]) (h : wb_J5_resize_347 co o k151 Qk T I Q kc ks x1 x2 x4 x6 x7) : W p l e R s m args below meth c H locs cells slots (z_MQ below G (z_co co) A T0 I0 Q0 (z_qr Qk) z_no args s mc ms) (F0 m 347 ls []) := by
  obtain ⟨hx, hb, -⟩ := id X
  unfold wb_J5_resize_347 at h
  obtain ⟨y55, ey55⟩ : ∃ z : Int32, z = x7 + 1 := ⟨_, rfl⟩
  replace h := h y55 ey55
  refine lv_iinc (v := y55) (lv' := [(7, .int y55), (0, .ref o), (1, va_rf x1), (2, .int x2), (4, .int x4), (6, va_rf x6)]) hx hb dJ5_resize_347 hl (k := 5) rfl (by rw [ey55]; rfl) (by decide) (by simp [z_cat, z_rfs, z_catq]) (fun ls hl9 => ?_)
  replace hl := hl9
  clear hl9
  refine lv_goto (tgt := 151) hx hb dJ5_resize_350 (by decide) ?_
  exact hk151 hB hK1 hK2 (lv_sub hl [1, 2, 3, 4, 5, 0] rfl) h
theorem ww_J5_resize_327 {co : Nat} {o : Nat} {k151 : z_T → z_I → z_Q → Nat → Nat → Option Nat → Int32 → Int32 → Option Nat → Int32 → Prop} {Qk : Option Nat → z_T → z_I → z_Q → Prop} (X : z_X l G A p R s m args meth c cJ5_resize 14 RJ5 "resize" (some (.array (.object "java/util/HashMap$Node"))) mc ms 8 120) (ho : (T0 o).1 = 22) (hoc : (T0 o).2.2 = co) (hk151 : ∀ {cells slots : Nat} {T : z_T} {I : z_I} {Q : z_Q} {kc : Nat} {ks : Nat} {x1 : Option Nat} {x2 : Int32} {x4 : Int32} {x6 : Option Nat} {x7 : Int32} {H : Heap} {locs : List Loc} {ls : Array Slot}, z_HB G (z_co co) A s.heap T0 I0 Q0 T I Q H locs → cells + kc ≤ mc → slots + ks ≤ ms → lv_has ls 14 [(0, .ref o), (1, va_rf x1), (2, .int x2), (4, .int x4), (6, va_rf x6), (7, .int x7)] → k151 T I Q kc ks x1 x2 x4 x6 x7 → W p l e R s m args below meth c H locs cells slots (z_MQ below G (z_co co) A T0 I0 Q0 (z_qr Qk) z_no args s mc ms) (F0 m 151 ls [])) {cells slots : Nat} {T : z_T} {I : z_I} {Q : z_Q} {kc : Nat} {ks : Nat} {x1 : Option Nat} {x2 : Int32} {x4 : Int32} {x6 : Option Nat} {x7 : Int32} {x11 : Option Nat} {x12 : Option Nat} {H : Heap} {locs : List Loc} {ls : Array Slot} (hB : z_HB G (z_co co) A s.heap T0 I0 Q0 T I Q H locs) (hK1 : cells + kc ≤ mc) (hK2 : slots + ks ≤ ms) (hl : lv_has ls 14 [(0, .ref o), (1, va_rf x1), (2, .int x2), (4, .int x4), (6, va_rf x6), (7, .int x7), (11, va_rf x11), (12, va_rf x12)]) (h : wb_J5_resize_327 co o k151 Qk T I Q kc ks x1 x2 x4 x6 x7 x11 x12) : W p l e R s m args below meth c H locs cells slots (z_MQ below G (z_co co) A T0 I0 Q0 (z_qr Qk) z_no args s mc ms) (F0 m 327 ls []) := by
  obtain ⟨hx, hb, -⟩ := id X
  unfold wb_J5_resize_327 at h
  refine z_aload (x := x12) hx hb dJ5_resize_327 (lv_at hl 7 rfl) ?_
  refine z_ifnull (tgt := 347) hx hb dJ5_resize_329 (by decide) (fun c50 => ?_) (fun a51 c50 => ?_)
  · replace h := h.1 c50
    subst c50
    exact ww_J5_resize_347 X ho hoc hk151 hB hK1 hK2 (lv_sub hl [0, 1, 2, 3, 4, 5] rfl) h
  · replace h := h.2 a51 c50
    subst c50
    refine lv_aload (x := a51) hx hb dJ5_resize_332 (lv_at hl 7 rfl) ?_
    refine lv_null hx hb dJ5_resize_334 ?_
    refine z_stk (st' := [va_rf none, .ref a51]) rfl ?_
    obtain ⟨hk_a51, h⟩ := h
    obtain ⟨hc_a51, h⟩ := h
    obtain ⟨Q52, eQ52⟩ : ∃ z, z = z_up Q a51 3 none := ⟨_, rfl⟩
    replace h := h Q52 eQ52
    refine z_putq (x := none) eQ52 tyJ42 X hB kc_J42 in_J42 tyJ42_ok nmJ42 (j := 3) (Nat.le_of_ble_eq_true rfl) q1807 (fun _ h => h) rfl rfl (by decide) hk_a51 hc_a51 rfl (Or.inl ⟨_, rfl⟩) dJ5_resize_335 (fun H locs hB => ?_)
    refine z_aload (x := x6) hx hb dJ5_resize_338 (lv_at hl 4 rfl) ?_
    refine lv_iload hx hb dJ5_resize_340 (lv_at hl 5 rfl) ?_
    refine lv_iload_n hx hb dJ5_resize_342 rfl (lv_at hl 2 rfl) ?_
    refine lv_iadd hx hb dJ5_resize_343 ?_
    refine z_aload (x := x11) hx hb dJ5_resize_344 (lv_at hl 6 rfl) ?_
    obtain ⟨a53, rfl, h⟩ := h
    obtain ⟨hk_a53, h⟩ := h
    obtain ⟨hc_a53, h⟩ := h
    obtain ⟨h1, h⟩ := h
    obtain ⟨h2, h⟩ := h
    obtain ⟨Q54, eQ54⟩ : ∃ z, z = z_up Q52 a53 (x7 + x2).toNatClampNeg x11 := ⟨_, rfl⟩
    replace h := h Q54 eQ54
    refine z_aastX (k := 5) (x := x11) X hB (by decide) hk_a53 hc_a53 h1 h2 dJ5_resize_346 (fun H locs hB => ?_)
    rw [← eQ54] at hB
    exact ww_J5_resize_347 X ho hoc hk151 hB hK1 hK2 (lv_sub hl [0, 1, 2, 3, 4, 5] rfl) h
theorem ww_J5_resize_301 {co : Nat} {o : Nat} {k151 : z_T → z_I → z_Q → Nat → Nat → Option Nat → Int32 → Int32 → Option Nat → Int32 → Prop} {k235 : z_T → z_I → z_Q → Nat → Nat → Option Nat → Int32 → Int32 → Option Nat → Int32 → Option Nat → Option Nat → Option Nat → Option Nat → Option Nat → Prop} {Qk : Option Nat → z_T → z_I → z_Q → Prop} (X : z_X l G A p R s m args meth c cJ5_resize 14 RJ5 "resize" (some (.array (.object "java/util/HashMap$Node"))) mc ms 8 120) (ho : (T0 o).1 = 22) (hoc : (T0 o).2.2 = co) (hk151 : ∀ {cells slots : Nat} {T : z_T} {I : z_I} {Q : z_Q} {kc : Nat} {ks : Nat} {x1 : Option Nat} {x2 : Int32} {x4 : Int32} {x6 : Option Nat} {x7 : Int32} {H : Heap} {locs : List Loc} {ls : Array Slot}, z_HB G (z_co co) A s.heap T0 I0 Q0 T I Q H locs → cells + kc ≤ mc → slots + ks ≤ ms → lv_has ls 14 [(0, .ref o), (1, va_rf x1), (2, .int x2), (4, .int x4), (6, va_rf x6), (7, .int x7)] → k151 T I Q kc ks x1 x2 x4 x6 x7 → W p l e R s m args below meth c H locs cells slots (z_MQ below G (z_co co) A T0 I0 Q0 (z_qr Qk) z_no args s mc ms) (F0 m 151 ls [])) (hk235 : ∀ {cells slots : Nat} {T : z_T} {I : z_I} {Q : z_Q} {kc : Nat} {ks : Nat} {x1 : Option Nat} {x2 : Int32} {x4 : Int32} {x6 : Option Nat} {x7 : Int32} {x8 : Option Nat} {x9 : Option Nat} {x10 : Option Nat} {x11 : Option Nat} {x12 : Option Nat} {H : Heap} {locs : List Loc} {ls : Array Slot}, z_HB G (z_co co) A s.heap T0 I0 Q0 T I Q H locs → cells + kc ≤ mc → slots + ks ≤ ms → lv_has ls 14 [(0, .ref o), (1, va_rf x1), (2, .int x2), (4, .int x4), (6, va_rf x6), (7, .int x7), (8, va_rf x8), (9, va_rf x9), (10, va_rf x10), (11, va_rf x11), (12, va_rf x12)] → k235 T I Q kc ks x1 x2 x4 x6 x7 x8 x9 x10 x11 x12 → W p l e R s m args below meth c H locs cells slots (z_MQ below G (z_co co) A T0 I0 Q0 (z_qr Qk) z_no args s mc ms) (F0 m 235 ls [])) {cells slots : Nat} {T : z_T} {I : z_I} {Q : z_Q} {kc : Nat} {ks : Nat} {x1 : Option Nat} {x2 : Int32} {x4 : Int32} {x6 : Option Nat} {x7 : Int32} {x9 : Option Nat} {x10 : Option Nat} {x11 : Option Nat} {x12 : Option Nat} {x13 : Option Nat} {H : Heap} {locs : List Loc} {ls : Array Slot} (hB : z_HB G (z_co co) A s.heap T0 I0 Q0 T I Q H locs) (hK1 : cells + kc ≤ mc) (hK2 : slots + ks ≤ ms) (hl : lv_has ls 14 [(0, .ref o), (1, va_rf x1), (2, .int x2), (4, .int x4), (6, va_rf x6), (7, .int x7), (9, va_rf x9), (10, va_rf x10), (11, va_rf x11), (12, va_rf x12), (13, va_rf x13)]) (h : wb_J5_resize_301 co o k151 k235 Qk T I Q kc ks x1 x2 x4 x6 x7 x9 x10 x11 x12 x13) : W p l e R s m args below meth c H locs cells slots (z_MQ below G (z_co co) A T0 I0 Q0 (z_qr Qk) z_no args s mc ms) (F0 m 301 ls []) := by
  obtain ⟨hx, hb, -⟩ := id X
  unfold wb_J5_resize_301 at h
  refine z_aload (x := x13) hx hb dJ5_resize_301 (lv_at hl 10 rfl) ?_
  refine lv_dup hx hb dJ5_resize_303 z_cat ?_
  refine z_astore (x := x13) (lv' := [(8, va_rf x13), (0, .ref o), (1, va_rf x1), (2, .int x2), (4, .int x4), (6, va_rf x6), (7, .int x7), (9, va_rf x9), (10, va_rf x10), (11, va_rf x11), (12, va_rf x12), (13, va_rf x13)]) hx hb dJ5_resize_304 hl (by decide) rfl (fun ls hl9 => ?_)
  replace hl := hl9
  clear hl9
  refine z_ifnonnull (tgt := 235) hx hb dJ5_resize_306 (by decide) (fun a44 c43 => ?_) (fun c43 => ?_)
  · replace h := h.2 a44 c43
    subst c43
    exact hk235 hB hK1 hK2 (lv_sub hl [1, 2, 3, 4, 5, 6, 0, 7, 8, 9, 10] rfl) h
  · replace h := h.1 c43
    subst c43
    refine z_aload (x := x10) hx hb dJ5_resize_309 (lv_at hl 8 rfl) ?_
    refine z_ifnull (tgt := 327) hx hb dJ5_resize_311 (by decide) (fun c45 => ?_) (fun a46 c45 => ?_)
    · replace h := h.1 c45
      subst c45
      exact ww_J5_resize_327 X ho hoc hk151 hB hK1 hK2 (lv_sub hl [1, 2, 3, 4, 5, 6, 9, 10] rfl) h
    · replace h := h.2 a46 c45
      subst c45
      refine lv_aload (x := a46) hx hb dJ5_resize_314 (lv_at hl 8 rfl) ?_
      refine lv_null hx hb dJ5_resize_316 ?_
      refine z_stk (st' := [va_rf none, .ref a46]) rfl ?_
      obtain ⟨hk_a46, h⟩ := h
      obtain ⟨hc_a46, h⟩ := h
      obtain ⟨Q47, eQ47⟩ : ∃ z, z = z_up Q a46 3 none := ⟨_, rfl⟩
      replace h := h Q47 eQ47
      refine z_putq (x := none) eQ47 tyJ42 X hB kc_J42 in_J42 tyJ42_ok nmJ42 (j := 3) (Nat.le_of_ble_eq_true rfl) q1807 (fun _ h => h) rfl rfl (by decide) hk_a46 hc_a46 rfl (Or.inl ⟨_, rfl⟩) dJ5_resize_317 (fun H locs hB => ?_)
      refine z_aload (x := x6) hx hb dJ5_resize_320 (lv_at hl 5 rfl) ?_
      refine lv_iload hx hb dJ5_resize_322 (lv_at hl 6 rfl) ?_
      refine z_aload (x := x9) hx hb dJ5_resize_324 (lv_at hl 7 rfl) ?_
      obtain ⟨a48, rfl, h⟩ := h
      obtain ⟨hk_a48, h⟩ := h
      obtain ⟨hc_a48, h⟩ := h
      obtain ⟨h1, h⟩ := h
      obtain ⟨h2, h⟩ := h
      obtain ⟨Q49, eQ49⟩ : ∃ z, z = z_up Q47 a48 x7.toNatClampNeg x9 := ⟨_, rfl⟩
      replace h := h Q49 eQ49
      refine z_aastX (k := 5) (x := x9) X hB (by decide) hk_a48 hc_a48 h1 h2 dJ5_resize_326 (fun H locs hB => ?_)
      rw [← eQ49] at hB
      exact ww_J5_resize_327 X ho hoc hk151 hB hK1 hK2 (lv_sub hl [1, 2, 3, 4, 5, 6, 9, 10] rfl) h
theorem ww_J5_resize_271 {co : Nat} {o : Nat} {k151 : z_T → z_I → z_Q → Nat → Nat → Option Nat → Int32 → Int32 → Option Nat → Int32 → Prop} {k235 : z_T → z_I → z_Q → Nat → Nat → Option Nat → Int32 → Int32 → Option Nat → Int32 → Option Nat → Option Nat → Option Nat → Option Nat → Option Nat → Prop} {Qk : Option Nat → z_T → z_I → z_Q → Prop} (X : z_X l G A p R s m args meth c cJ5_resize 14 RJ5 "resize" (some (.array (.object "java/util/HashMap$Node"))) mc ms 8 120) (ho : (T0 o).1 = 22) (hoc : (T0 o).2.2 = co) (hk151 : ∀ {cells slots : Nat} {T : z_T} {I : z_I} {Q : z_Q} {kc : Nat} {ks : Nat} {x1 : Option Nat} {x2 : Int32} {x4 : Int32} {x6 : Option Nat} {x7 : Int32} {H : Heap} {locs : List Loc} {ls : Array Slot}, z_HB G (z_co co) A s.heap T0 I0 Q0 T I Q H locs → cells + kc ≤ mc → slots + ks ≤ ms → lv_has ls 14 [(0, .ref o), (1, va_rf x1), (2, .int x2), (4, .int x4), (6, va_rf x6), (7, .int x7)] → k151 T I Q kc ks x1 x2 x4 x6 x7 → W p l e R s m args below meth c H locs cells slots (z_MQ below G (z_co co) A T0 I0 Q0 (z_qr Qk) z_no args s mc ms) (F0 m 151 ls [])) (hk235 : ∀ {cells slots : Nat} {T : z_T} {I : z_I} {Q : z_Q} {kc : Nat} {ks : Nat} {x1 : Option Nat} {x2 : Int32} {x4 : Int32} {x6 : Option Nat} {x7 : Int32} {x8 : Option Nat} {x9 : Option Nat} {x10 : Option Nat} {x11 : Option Nat} {x12 : Option Nat} {H : Heap} {locs : List Loc} {ls : Array Slot}, z_HB G (z_co co) A s.heap T0 I0 Q0 T I Q H locs → cells + kc ≤ mc → slots + ks ≤ ms → lv_has ls 14 [(0, .ref o), (1, va_rf x1), (2, .int x2), (4, .int x4), (6, va_rf x6), (7, .int x7), (8, va_rf x8), (9, va_rf x9), (10, va_rf x10), (11, va_rf x11), (12, va_rf x12)] → k235 T I Q kc ks x1 x2 x4 x6 x7 x8 x9 x10 x11 x12 → W p l e R s m args below meth c H locs cells slots (z_MQ below G (z_co co) A T0 I0 Q0 (z_qr Qk) z_no args s mc ms) (F0 m 235 ls [])) {cells slots : Nat} {T : z_T} {I : z_I} {Q : z_Q} {kc : Nat} {ks : Nat} {x1 : Option Nat} {x2 : Int32} {x4 : Int32} {x6 : Option Nat} {x7 : Int32} {x8 : Option Nat} {x9 : Option Nat} {x11 : Option Nat} {x12 : Option Nat} {x13 : Option Nat} {H : Heap} {locs : List Loc} {ls : Array Slot} (hB : z_HB G (z_co co) A s.heap T0 I0 Q0 T I Q H locs) (hK1 : cells + kc ≤ mc) (hK2 : slots + ks ≤ ms) (hl : lv_has ls 14 [(0, .ref o), (1, va_rf x1), (2, .int x2), (4, .int x4), (6, va_rf x6), (7, .int x7), (8, va_rf x8), (9, va_rf x9), (11, va_rf x11), (12, va_rf x12), (13, va_rf x13)]) (h : wb_J5_resize_271 co o k151 k235 Qk T I Q kc ks x1 x2 x4 x6 x7 x8 x9 x11 x12 x13) : W p l e R s m args below meth c H locs cells slots (z_MQ below G (z_co co) A T0 I0 Q0 (z_qr Qk) z_no args s mc ms) (F0 m 271 ls []) := by
  obtain ⟨hx, hb, -⟩ := id X
  unfold wb_J5_resize_271 at h
  refine z_aload (x := x8) hx hb dJ5_resize_271 (lv_at hl 6 rfl) ?_
  refine z_astore (x := x8) (lv' := [(10, va_rf x8), (0, .ref o), (1, va_rf x1), (2, .int x2), (4, .int x4), (6, va_rf x6), (7, .int x7), (8, va_rf x8), (9, va_rf x9), (11, va_rf x11), (12, va_rf x12), (13, va_rf x13)]) hx hb dJ5_resize_273 hl (by decide) (by simp [z_cat, z_rfs, z_catq]) (fun ls hl9 => ?_)
  replace hl := hl9
  clear hl9
  refine lv_goto (tgt := 301) hx hb dJ5_resize_275 (by decide) ?_
  exact ww_J5_resize_301 X ho hoc hk151 hk235 hB hK1 hK2 (lv_sub hl [1, 2, 3, 4, 5, 6, 8, 0, 9, 10, 11] rfl) h
theorem ww_J5_resize_297 {co : Nat} {o : Nat} {k151 : z_T → z_I → z_Q → Nat → Nat → Option Nat → Int32 → Int32 → Option Nat → Int32 → Prop} {k235 : z_T → z_I → z_Q → Nat → Nat → Option Nat → Int32 → Int32 → Option Nat → Int32 → Option Nat → Option Nat → Option Nat → Option Nat → Option Nat → Prop} {Qk : Option Nat → z_T → z_I → z_Q → Prop} (X : z_X l G A p R s m args meth c cJ5_resize 14 RJ5 "resize" (some (.array (.object "java/util/HashMap$Node"))) mc ms 8 120) (ho : (T0 o).1 = 22) (hoc : (T0 o).2.2 = co) (hk151 : ∀ {cells slots : Nat} {T : z_T} {I : z_I} {Q : z_Q} {kc : Nat} {ks : Nat} {x1 : Option Nat} {x2 : Int32} {x4 : Int32} {x6 : Option Nat} {x7 : Int32} {H : Heap} {locs : List Loc} {ls : Array Slot}, z_HB G (z_co co) A s.heap T0 I0 Q0 T I Q H locs → cells + kc ≤ mc → slots + ks ≤ ms → lv_has ls 14 [(0, .ref o), (1, va_rf x1), (2, .int x2), (4, .int x4), (6, va_rf x6), (7, .int x7)] → k151 T I Q kc ks x1 x2 x4 x6 x7 → W p l e R s m args below meth c H locs cells slots (z_MQ below G (z_co co) A T0 I0 Q0 (z_qr Qk) z_no args s mc ms) (F0 m 151 ls [])) (hk235 : ∀ {cells slots : Nat} {T : z_T} {I : z_I} {Q : z_Q} {kc : Nat} {ks : Nat} {x1 : Option Nat} {x2 : Int32} {x4 : Int32} {x6 : Option Nat} {x7 : Int32} {x8 : Option Nat} {x9 : Option Nat} {x10 : Option Nat} {x11 : Option Nat} {x12 : Option Nat} {H : Heap} {locs : List Loc} {ls : Array Slot}, z_HB G (z_co co) A s.heap T0 I0 Q0 T I Q H locs → cells + kc ≤ mc → slots + ks ≤ ms → lv_has ls 14 [(0, .ref o), (1, va_rf x1), (2, .int x2), (4, .int x4), (6, va_rf x6), (7, .int x7), (8, va_rf x8), (9, va_rf x9), (10, va_rf x10), (11, va_rf x11), (12, va_rf x12)] → k235 T I Q kc ks x1 x2 x4 x6 x7 x8 x9 x10 x11 x12 → W p l e R s m args below meth c H locs cells slots (z_MQ below G (z_co co) A T0 I0 Q0 (z_qr Qk) z_no args s mc ms) (F0 m 235 ls [])) {cells slots : Nat} {T : z_T} {I : z_I} {Q : z_Q} {kc : Nat} {ks : Nat} {x1 : Option Nat} {x2 : Int32} {x4 : Int32} {x6 : Option Nat} {x7 : Int32} {x8 : Option Nat} {x9 : Option Nat} {x10 : Option Nat} {x11 : Option Nat} {x13 : Option Nat} {H : Heap} {locs : List Loc} {ls : Array Slot} (hB : z_HB G (z_co co) A s.heap T0 I0 Q0 T I Q H locs) (hK1 : cells + kc ≤ mc) (hK2 : slots + ks ≤ ms) (hl : lv_has ls 14 [(0, .ref o), (1, va_rf x1), (2, .int x2), (4, .int x4), (6, va_rf x6), (7, .int x7), (8, va_rf x8), (9, va_rf x9), (10, va_rf x10), (11, va_rf x11), (13, va_rf x13)]) (h : wb_J5_resize_297 co o k151 k235 Qk T I Q kc ks x1 x2 x4 x6 x7 x8 x9 x10 x11 x13) : W p l e R s m args below meth c H locs cells slots (z_MQ below G (z_co co) A T0 I0 Q0 (z_qr Qk) z_no args s mc ms) (F0 m 297 ls []) := by
  obtain ⟨hx, hb, -⟩ := id X
  unfold wb_J5_resize_297 at h
  refine z_aload (x := x8) hx hb dJ5_resize_297 (lv_at hl 6 rfl) ?_
  refine z_astore (x := x8) (lv' := [(12, va_rf x8), (0, .ref o), (1, va_rf x1), (2, .int x2), (4, .int x4), (6, va_rf x6), (7, .int x7), (8, va_rf x8), (9, va_rf x9), (10, va_rf x10), (11, va_rf x11), (13, va_rf x13)]) hx hb dJ5_resize_299 hl (by decide) (by simp [z_cat, z_rfs, z_catq]) (fun ls hl9 => ?_)
  replace hl := hl9
  clear hl9
  exact ww_J5_resize_301 X ho hoc hk151 hk235 hB hK1 hK2 (lv_sub hl [1, 2, 3, 4, 5, 6, 8, 9, 10, 0, 11] rfl) h
theorem wv_J5_resize_235 {co : Nat} {o : Nat} {k151 : z_T → z_I → z_Q → Nat → Nat → Option Nat → Int32 → Int32 → Option Nat → Int32 → Prop} {Qk : Option Nat → z_T → z_I → z_Q → Prop} (X : z_X l G A p R s m args meth c cJ5_resize 14 RJ5 "resize" (some (.array (.object "java/util/HashMap$Node"))) mc ms 8 120) (ho : (T0 o).1 = 22) (hoc : (T0 o).2.2 = co) (hk151 : ∀ {cells slots : Nat} {T : z_T} {I : z_I} {Q : z_Q} {kc : Nat} {ks : Nat} {x1 : Option Nat} {x2 : Int32} {x4 : Int32} {x6 : Option Nat} {x7 : Int32} {H : Heap} {locs : List Loc} {ls : Array Slot}, z_HB G (z_co co) A s.heap T0 I0 Q0 T I Q H locs → cells + kc ≤ mc → slots + ks ≤ ms → lv_has ls 14 [(0, .ref o), (1, va_rf x1), (2, .int x2), (4, .int x4), (6, va_rf x6), (7, .int x7)] → k151 T I Q kc ks x1 x2 x4 x6 x7 → W p l e R s m args below meth c H locs cells slots (z_MQ below G (z_co co) A T0 I0 Q0 (z_qr Qk) z_no args s mc ms) (F0 m 151 ls [])) : ∀ (n : Nat) {cells slots : Nat} {T : z_T} {I : z_I} {Q : z_Q} {kc : Nat} {ks : Nat} {x1 : Option Nat} {x2 : Int32} {x4 : Int32} {x6 : Option Nat} {x7 : Int32} {x8 : Option Nat} {x9 : Option Nat} {x10 : Option Nat} {x11 : Option Nat} {x12 : Option Nat} {H : Heap} {locs : List Loc} {ls : Array Slot}, z_HB G (z_co co) A s.heap T0 I0 Q0 T I Q H locs → cells + kc ≤ mc → slots + ks ≤ ms → lv_has ls 14 [(0, .ref o), (1, va_rf x1), (2, .int x2), (4, .int x4), (6, va_rf x6), (7, .int x7), (8, va_rf x8), (9, va_rf x9), (10, va_rf x10), (11, va_rf x11), (12, va_rf x12)] → wl_J5_resize_235 co o k151 Qk n T I Q kc ks x1 x2 x4 x6 x7 x8 x9 x10 x11 x12 → W p l e R s m args below meth c H locs cells slots (z_MQ below G (z_co co) A T0 I0 Q0 (z_qr Qk) z_no args s mc ms) (F0 m 235 ls []) := by
  intro n
  induction n with
  | zero =>
    intro cells slots T I Q kc ks x1 x2 x4 x6 x7 x8 x9 x10 x11 x12 H locs ls hB hK1 hK2 hl h
    exact h.elim
  | succ n ih =>
    intro cells slots T I Q kc ks x1 x2 x4 x6 x7 x8 x9 x10 x11 x12 H locs ls hB hK1 hK2 hl h
    obtain ⟨hx, hb, -⟩ := id X
    unfold wl_J5_resize_235 at h
    refine z_aload (x := x8) hx hb dJ5_resize_235 (lv_at hl 6 rfl) ?_
    obtain ⟨a34, rfl, h⟩ := h
    obtain ⟨hk_a34, h⟩ := h
    refine z_getq X hB.1 kc_J42 in_J42 (j := 3) (Nat.le_of_ble_eq_true rfl) q1807 (fun _ h => h) rfl (by decide) hk_a34 dJ5_resize_237 ?_
    obtain ⟨y35, ey35⟩ : ∃ z : Option Nat, z = (Q a34 3) := ⟨_, rfl⟩
    replace h := h y35 ey35
    refine z_stk (st' := [va_rf y35]) (by rw [ey35]) ?_
    refine z_astore (x := y35) (lv' := [(13, va_rf y35), (0, .ref o), (1, va_rf x1), (2, .int x2), (4, .int x4), (6, va_rf x6), (7, .int x7), (8, .ref a34), (9, va_rf x9), (10, va_rf x10), (11, va_rf x11), (12, va_rf x12)]) hx hb dJ5_resize_240 hl (by decide) (by simp [z_cat, z_rfs, z_catq]) (fun ls hl9 => ?_)
    replace hl := hl9
    clear hl9
    refine lv_aload (x := a34) hx hb dJ5_resize_242 (lv_at hl 7 rfl) ?_
    refine z_geti X hB.1 kc_J42 in_J42 (j := 0) (Nat.le_of_ble_eq_true rfl) q1790 (fun _ h => h) rfl (by decide) hk_a34 dJ5_resize_244 ?_
    refine lv_iload_n hx hb dJ5_resize_247 rfl (lv_at hl 3 rfl) ?_
    refine lv_iand hx hb dJ5_resize_248 ?_
    refine lv_if_ne (tgt := 278) hx hb dJ5_resize_249 (by decide) (fun c36 => ?_) (fun c36 => ?_)
    · replace h := h.1 c36
      refine z_aload (x := x12) hx hb dJ5_resize_278 (lv_at hl 11 rfl) ?_
      refine z_ifnonnull (tgt := 290) hx hb dJ5_resize_280 (by decide) (fun a38 c37 => ?_) (fun c37 => ?_)
      · replace h := h.2 a38 c37
        subst c37
        refine lv_aload (x := a38) hx hb dJ5_resize_290 (lv_at hl 11 rfl) ?_
        refine lv_aload (x := a34) hx hb dJ5_resize_292 (lv_at hl 7 rfl) ?_
        obtain ⟨hk_a38, h⟩ := h
        obtain ⟨hc_a38, h⟩ := h
        obtain ⟨Q39, eQ39⟩ : ∃ z, z = z_up Q a38 3 (some a34) := ⟨_, rfl⟩
        replace h := h Q39 eQ39
        refine z_putq (x := (some a34)) eQ39 tyJ42 X hB kc_J42 in_J42 tyJ42_ok nmJ42 (j := 3) (Nat.le_of_ble_eq_true rfl) q1807 (fun _ h => h) rfl rfl (by decide) hk_a38 hc_a38 rfl (Or.inl ⟨_, rfl⟩) dJ5_resize_294 (fun H locs hB => ?_)
        exact ww_J5_resize_297 X ho hoc hk151 (fun hB hK1 hK2 hl h => ih hB hK1 hK2 hl h) hB hK1 hK2 (lv_sub hl [1, 2, 3, 4, 5, 6, 7, 8, 9, 10, 0] rfl) h
      · replace h := h.1 c37
        subst c37
        refine lv_aload (x := a34) hx hb dJ5_resize_283 (lv_at hl 7 rfl) ?_
        refine lv_astore (x := a34) (lv' := [(11, .ref a34), (13, va_rf y35), (0, .ref o), (1, va_rf x1), (2, .int x2), (4, .int x4), (6, va_rf x6), (7, .int x7), (8, .ref a34), (9, va_rf x9), (10, va_rf x10), (12, va_rf none)]) hx hb dJ5_resize_285 hl (by decide) (by simp [z_cat, z_rfs, z_catq]) (fun ls hl9 => ?_)
        replace hl := hl9
        clear hl9
        refine lv_goto (tgt := 297) hx hb dJ5_resize_287 (by decide) ?_
        exact ww_J5_resize_297 X ho hoc hk151 (fun hB hK1 hK2 hl h => ih hB hK1 hK2 hl h) hB hK1 hK2 (lv_sub hl [2, 3, 4, 5, 6, 7, 8, 9, 10, 0, 1] rfl) h
    · replace h := h.2 c36
      refine z_aload (x := x10) hx hb dJ5_resize_252 (lv_at hl 9 rfl) ?_
      refine z_ifnonnull (tgt := 264) hx hb dJ5_resize_254 (by decide) (fun a41 c40 => ?_) (fun c40 => ?_)
      · replace h := h.2 a41 c40
        subst c40
        refine lv_aload (x := a41) hx hb dJ5_resize_264 (lv_at hl 9 rfl) ?_
        refine lv_aload (x := a34) hx hb dJ5_resize_266 (lv_at hl 7 rfl) ?_
        obtain ⟨hk_a41, h⟩ := h
        obtain ⟨hc_a41, h⟩ := h
        obtain ⟨Q42, eQ42⟩ : ∃ z, z = z_up Q a41 3 (some a34) := ⟨_, rfl⟩
        replace h := h Q42 eQ42
        refine z_putq (x := (some a34)) eQ42 tyJ42 X hB kc_J42 in_J42 tyJ42_ok nmJ42 (j := 3) (Nat.le_of_ble_eq_true rfl) q1807 (fun _ h => h) rfl rfl (by decide) hk_a41 hc_a41 rfl (Or.inl ⟨_, rfl⟩) dJ5_resize_268 (fun H locs hB => ?_)
        exact ww_J5_resize_271 X ho hoc hk151 (fun hB hK1 hK2 hl h => ih hB hK1 hK2 hl h) hB hK1 hK2 (lv_sub hl [1, 2, 3, 4, 5, 6, 7, 8, 10, 11, 0] rfl) h
      · replace h := h.1 c40
        subst c40
        refine lv_aload (x := a34) hx hb dJ5_resize_257 (lv_at hl 7 rfl) ?_
        refine lv_astore (x := a34) (lv' := [(9, .ref a34), (13, va_rf y35), (0, .ref o), (1, va_rf x1), (2, .int x2), (4, .int x4), (6, va_rf x6), (7, .int x7), (8, .ref a34), (10, va_rf none), (11, va_rf x11), (12, va_rf x12)]) hx hb dJ5_resize_259 hl (by decide) rfl (fun ls hl9 => ?_)
        replace hl := hl9
        clear hl9
        refine lv_goto (tgt := 271) hx hb dJ5_resize_261 (by decide) ?_
        exact ww_J5_resize_271 X ho hoc hk151 (fun hB hK1 hK2 hl h => ih hB hK1 hK2 hl h) hB hK1 hK2 (lv_sub hl [2, 3, 4, 5, 6, 7, 8, 0, 10, 11, 1] rfl) h
theorem ww_J5_resize_353 {co : Nat} {o : Nat} {Qk : Option Nat → z_T → z_I → z_Q → Prop} (X : z_X l G A p R s m args meth c cJ5_resize 14 RJ5 "resize" (some (.array (.object "java/util/HashMap$Node"))) mc ms 8 120) (ho : (T0 o).1 = 22) (hoc : (T0 o).2.2 = co) {cells slots : Nat} {T : z_T} {I : z_I} {Q : z_Q} {kc : Nat} {ks : Nat} {x6 : Option Nat} {H : Heap} {locs : List Loc} {ls : Array Slot} (hB : z_HB G (z_co co) A s.heap T0 I0 Q0 T I Q H locs) (hK1 : cells + kc ≤ mc) (hK2 : slots + ks ≤ ms) (hl : lv_has ls 14 [(6, va_rf x6)]) (h : wb_J5_resize_353 co o Qk T I Q kc ks x6) : W p l e R s m args below meth c H locs cells slots (z_MQ below G (z_co co) A T0 I0 Q0 (z_qr Qk) z_no args s mc ms) (F0 m 353 ls []) := by
  obtain ⟨hx, hb, -⟩ := id X
  unfold wb_J5_resize_353 at h
  refine z_aload (x := x6) hx hb dJ5_resize_353 (lv_at hl 0 rfl) ?_
  exact z_aret (v := x6) X (by first | exact Or.inl ⟨_, rfl⟩ | exact Or.inr ⟨_, rfl⟩) hB ⟨_, rfl, h⟩ (z_k3 hK1) (z_k3 hK2) dJ5_resize_355
theorem wv_J5_resize_151 {co : Nat} {o : Nat} {Qk : Option Nat → z_T → z_I → z_Q → Prop} (X : z_X l G A p R s m args meth c cJ5_resize 14 RJ5 "resize" (some (.array (.object "java/util/HashMap$Node"))) mc ms 8 120) (ho : (T0 o).1 = 22) (hoc : (T0 o).2.2 = co) : ∀ (n : Nat) {cells slots : Nat} {T : z_T} {I : z_I} {Q : z_Q} {kc : Nat} {ks : Nat} {x1 : Option Nat} {x2 : Int32} {x4 : Int32} {x6 : Option Nat} {x7 : Int32} {H : Heap} {locs : List Loc} {ls : Array Slot}, z_HB G (z_co co) A s.heap T0 I0 Q0 T I Q H locs → cells + kc ≤ mc → slots + ks ≤ ms → lv_has ls 14 [(0, .ref o), (1, va_rf x1), (2, .int x2), (4, .int x4), (6, va_rf x6), (7, .int x7)] → wl_J5_resize_151 co o Qk n T I Q kc ks x1 x2 x4 x6 x7 → W p l e R s m args below meth c H locs cells slots (z_MQ below G (z_co co) A T0 I0 Q0 (z_qr Qk) z_no args s mc ms) (F0 m 151 ls []) := by
  intro n
  induction n with
  | zero =>
    intro cells slots T I Q kc ks x1 x2 x4 x6 x7 H locs ls hB hK1 hK2 hl h
    exact h.elim
  | succ n ih =>
    intro cells slots T I Q kc ks x1 x2 x4 x6 x7 H locs ls hB hK1 hK2 hl h
    obtain ⟨hx, hb, -⟩ := id X
    unfold wl_J5_resize_151 at h
    refine lv_iload hx hb dJ5_resize_151 (lv_at hl 5 rfl) ?_
    refine lv_iload_n hx hb dJ5_resize_153 rfl (lv_at hl 2 rfl) ?_
    refine lv_icmp_ge (tgt := 353) hx hb dJ5_resize_154 (by decide) (fun c24 => ?_) (fun c24 => ?_)
    · replace h := h.1 c24
      exact ww_J5_resize_353 X ho hoc  hB hK1 hK2 (lv_sub hl [4] rfl) h
    · replace h := h.2 c24
      refine z_aload_n (x := x1) hx hb dJ5_resize_157 rfl (lv_at hl 1 rfl) ?_
      refine lv_iload hx hb dJ5_resize_158 (lv_at hl 5 rfl) ?_
      obtain ⟨a25, rfl, h⟩ := h
      obtain ⟨hk_a25, h⟩ := h
      obtain ⟨h1, h⟩ := h
      refine z_aald (k := 5) X hB.1 (by decide) hk_a25 h1 dJ5_resize_160 ?_
      refine lv_dup hx hb dJ5_resize_161 z_cat ?_
      obtain ⟨y26, ey26⟩ : ∃ z : Option Nat, z = (Q a25 x7.toNatClampNeg) := ⟨_, rfl⟩
      replace h := h y26 ey26
      refine z_stk (st' := [va_rf y26, va_rf y26]) (by rw [ey26]) ?_
      refine z_astore (x := y26) (lv' := [(8, va_rf y26), (0, .ref o), (1, .ref a25), (2, .int x2), (4, .int x4), (6, va_rf x6), (7, .int x7)]) hx hb dJ5_resize_162 hl (by decide) rfl (fun ls hl9 => ?_)
      replace hl := hl9
      clear hl9
      refine z_ifnull (tgt := 347) hx hb dJ5_resize_164 (by decide) (fun c27 => ?_) (fun a28 c27 => ?_)
      · replace h := h.1 c27
        subst c27
        exact ww_J5_resize_347 X ho hoc (fun hB hK1 hK2 hl h => ih hB hK1 hK2 hl h) hB hK1 hK2 (lv_sub hl [1, 2, 3, 4, 5, 6] rfl) h
      · replace h := h.2 a28 c27
        subst c27
        refine lv_aload_n (x := a25) hx hb dJ5_resize_167 rfl (lv_at hl 2 rfl) ?_
        refine lv_iload hx hb dJ5_resize_168 (lv_at hl 6 rfl) ?_
        refine lv_null hx hb dJ5_resize_170 ?_
        refine z_stk (st' := [va_rf none, .int x7, .ref a25]) rfl ?_
        obtain ⟨hc_a25, h⟩ := h
        obtain ⟨h1, h⟩ := h
        obtain ⟨Q29, eQ29⟩ : ∃ z, z = z_up Q a25 x7.toNatClampNeg none := ⟨_, rfl⟩
        replace h := h Q29 eQ29
        refine z_aastX (k := 5) (x := none) X hB (by decide) hk_a25 hc_a25 h1 (fun _ h => by cases h) dJ5_resize_171 (fun H locs hB => ?_)
        rw [← eQ29] at hB
        refine lv_aload (x := a28) hx hb dJ5_resize_172 (lv_at hl 0 rfl) ?_
        obtain ⟨hk_a28, h⟩ := h
        refine z_getq X hB.1 kc_J42 in_J42 (j := 3) (Nat.le_of_ble_eq_true rfl) q1807 (fun _ h => h) rfl (by decide) hk_a28 dJ5_resize_174 ?_
        refine z_ifnonnull (tgt := 198) hx hb dJ5_resize_177 (by decide) (fun a31 c30 => ?_) (fun c30 => ?_)
        · replace h := h.2 a31 c30
          refine lv_aload (x := a28) hx hb dJ5_resize_198 (lv_at hl 0 rfl) ?_
          refine z_instT X hB.1 hk_a28 q1756 dJ5_resize_200 ?_
          refine lv_if_eq (tgt := 223) hx hb dJ5_resize_203 (by decide) (fun _ => ?_) (fun c => absurd c (by decide))
          refine lv_null hx hb dJ5_resize_223 ?_
          refine z_stk (st' := [va_rf none]) rfl ?_
          refine z_astore (x := none) (lv' := [(9, va_rf none), (8, .ref a28), (0, .ref o), (1, .ref a25), (2, .int x2), (4, .int x4), (6, va_rf x6), (7, .int x7)]) hx hb dJ5_resize_224 hl (by decide) rfl (fun ls hl9 => ?_)
          replace hl := hl9
          clear hl9
          refine lv_null hx hb dJ5_resize_226 ?_
          refine z_stk (st' := [va_rf none]) rfl ?_
          refine z_astore (x := none) (lv' := [(10, va_rf none), (9, va_rf none), (8, .ref a28), (0, .ref o), (1, .ref a25), (2, .int x2), (4, .int x4), (6, va_rf x6), (7, .int x7)]) hx hb dJ5_resize_227 hl (by decide) rfl (fun ls hl9 => ?_)
          replace hl := hl9
          clear hl9
          refine lv_null hx hb dJ5_resize_229 ?_
          refine z_stk (st' := [va_rf none]) rfl ?_
          refine z_astore (x := none) (lv' := [(11, va_rf none), (10, va_rf none), (9, va_rf none), (8, .ref a28), (0, .ref o), (1, .ref a25), (2, .int x2), (4, .int x4), (6, va_rf x6), (7, .int x7)]) hx hb dJ5_resize_230 hl (by decide) rfl (fun ls hl9 => ?_)
          replace hl := hl9
          clear hl9
          refine lv_null hx hb dJ5_resize_232 ?_
          refine z_stk (st' := [va_rf none]) rfl ?_
          refine z_astore (x := none) (lv' := [(12, va_rf none), (11, va_rf none), (10, va_rf none), (9, va_rf none), (8, .ref a28), (0, .ref o), (1, .ref a25), (2, .int x2), (4, .int x4), (6, va_rf x6), (7, .int x7)]) hx hb dJ5_resize_233 hl (by decide) rfl (fun ls hl9 => ?_)
          replace hl := hl9
          clear hl9
          obtain ⟨w, h⟩ := h
          exact wv_J5_resize_235 X ho hoc (fun hB hK1 hK2 hl h => ih hB hK1 hK2 hl h) w hB hK1 hK2 (lv_sub hl [5, 6, 7, 8, 9, 10, 4, 3, 2, 1, 0] rfl) h
        · replace h := h.1 c30
          refine z_aload (x := x6) hx hb dJ5_resize_180 (lv_at hl 5 rfl) ?_
          refine lv_aload (x := a28) hx hb dJ5_resize_182 (lv_at hl 0 rfl) ?_
          refine z_geti X hB.1 kc_J42 in_J42 (j := 0) (Nat.le_of_ble_eq_true rfl) q1790 (fun _ h => h) rfl (by decide) hk_a28 dJ5_resize_184 ?_
          refine lv_iload hx hb dJ5_resize_187 (lv_at hl 4 rfl) ?_
          refine lv_iconst (v := 1) hx hb dJ5_resize_189 (by decide) ?_
          refine lv_isub hx hb dJ5_resize_190 ?_
          refine lv_iand hx hb dJ5_resize_191 ?_
          refine lv_aload (x := a28) hx hb dJ5_resize_192 (lv_at hl 0 rfl) ?_
          obtain ⟨a32, rfl, h⟩ := h
          obtain ⟨hk_a32, h⟩ := h
          obtain ⟨hc_a32, h⟩ := h
          obtain ⟨h1, h⟩ := h
          obtain ⟨h2, h⟩ := h
          obtain ⟨Q33, eQ33⟩ : ∃ z, z = z_up Q29 a32 ((I a28 0) &&& (x4 - 1)).toNatClampNeg (some a28) := ⟨_, rfl⟩
          replace h := h Q33 eQ33
          refine z_aastX (k := 5) (x := (some a28)) X hB (by decide) hk_a32 hc_a32 h1 h2 dJ5_resize_194 (fun H locs hB => ?_)
          rw [← eQ33] at hB
          refine lv_goto (tgt := 347) hx hb dJ5_resize_195 (by decide) ?_
          exact ww_J5_resize_347 X ho hoc (fun hB hK1 hK2 hl h => ih hB hK1 hK2 hl h) hB hK1 hK2 (lv_sub hl [1, 2, 3, 4, 5, 6] rfl) h
theorem ww_J5_resize_125 {co : Nat} {o : Nat} {Qk : Option Nat → z_T → z_I → z_Q → Prop} (X : z_X l G A p R s m args meth c cJ5_resize 14 RJ5 "resize" (some (.array (.object "java/util/HashMap$Node"))) mc ms 8 120) (ho : (T0 o).1 = 22) (hoc : (T0 o).2.2 = co) {cells slots : Nat} {T : z_T} {I : z_I} {Q : z_Q} {kc : Nat} {ks : Nat} {x1 : Option Nat} {x2 : Int32} {x4 : Int32} {x5 : Int32} {H : Heap} {locs : List Loc} {ls : Array Slot} (hB : z_HB G (z_co co) A s.heap T0 I0 Q0 T I Q H locs) (hK1 : cells + kc ≤ mc) (hK2 : slots + ks ≤ ms) (hl : lv_has ls 14 [(0, .ref o), (1, va_rf x1), (2, .int x2), (4, .int x4), (5, .int x5)]) (h : wb_J5_resize_125 co o Qk T I Q kc ks x1 x2 x4 x5) : W p l e R s m args below meth c H locs cells slots (z_MQ below G (z_co co) A T0 I0 Q0 (z_qr Qk) z_no args s mc ms) (F0 m 125 ls []) := by
  obtain ⟨hx, hb, -⟩ := id X
  unfold wb_J5_resize_125 at h
  refine lv_aload_n (x := o) hx hb dJ5_resize_125 rfl (lv_at hl 0 rfl) ?_
  refine lv_iload hx hb dJ5_resize_126 (lv_at hl 4 rfl) ?_
  obtain ⟨I16, eI16⟩ : ∃ z, z = z_up I o 4 x5 := ⟨_, rfl⟩
  replace h := h I16 eI16
  refine z_puti (x := x5) eI16 tyJ6 X hB kc_J6 in_J6 tyJ6_ok nmJ6 (j := 4) (Nat.le_of_ble_eq_true rfl) q1053 (fun _ h => h) rfl rfl (by decide) (z_fo hB ho (by decide)) (z_foc hB ho (by decide) hoc) rfl (Or.inl rfl) dJ5_resize_128 (fun H locs hB => ?_)
  refine lv_iload hx hb dJ5_resize_131 (lv_at hl 3 rfl) ?_
  obtain ⟨g3, g4, h⟩ := h
  obtain ⟨g1, g2, h⟩ := h
  refine z_newq (k := 5) (n := x4.toNatClampNeg) (col := co) X hB (by decide) q1754 g3 rfl g4 rfl (z_k1 hK1 g1) (z_k1 hK2 g2) dJ5_resize_133 (fun a17 H hq hB => ?_)
  obtain ⟨T18, eT18⟩ : ∃ z, z = z_t T a17 (105, x4.toNatClampNeg, co) := ⟨_, rfl⟩
  obtain ⟨I19, eI19⟩ : ∃ z, z = z_row I16 a17 (fun _ => 0) := ⟨_, rfl⟩
  obtain ⟨Q20, eQ20⟩ : ∃ z, z = z_row Q a17 (fun _ => none) := ⟨_, rfl⟩
  rw [← eT18, ← eI19, ← eQ20] at hB
  replace h := h a17 T18 I19 Q20 hq eT18 eI19 eQ20
  have hk_a17 := z_tq eT18
  have hc_a17 : (T18 a17).2.2 = co := by rw [z_tqc eT18]
  replace hK1 := z_k2 hK1 g1
  replace hK2 := z_k2 hK2 g2
  refine lv_astore (x := a17) (lv' := [(6, .ref a17), (0, .ref o), (1, va_rf x1), (2, .int x2), (4, .int x4), (5, .int x5)]) hx hb dJ5_resize_136 hl (by decide) rfl (fun ls hl9 => ?_)
  replace hl := hl9
  clear hl9
  refine lv_aload_n (x := o) hx hb dJ5_resize_138 rfl (lv_at hl 1 rfl) ?_
  refine lv_aload (x := a17) hx hb dJ5_resize_139 (lv_at hl 0 rfl) ?_
  obtain ⟨Q21, eQ21⟩ : ∃ z, z = z_up Q20 o 0 (some a17) := ⟨_, rfl⟩
  replace h := h Q21 eQ21
  refine z_putq (x := (some a17)) eQ21 tyJ6 X hB kc_J6 in_J6 tyJ6_ok nmJ6 (j := 0) (Nat.le_of_ble_eq_true rfl) q1045 (fun _ h => h) rfl rfl (by decide) (z_fo hB ho (by decide)) (z_foc hB ho (by decide) hoc) rfl (Or.inr ⟨_, rfl⟩) dJ5_resize_141 (fun H locs hB => ?_)
  refine z_aload_n (x := x1) hx hb dJ5_resize_144 rfl (lv_at hl 2 rfl) ?_
  refine z_ifnull (tgt := 353) hx hb dJ5_resize_145 (by decide) (fun c22 => ?_) (fun a23 c22 => ?_)
  · replace h := h.1 c22
    subst c22
    exact ww_J5_resize_353 X ho hoc  hB hK1 hK2 (lv_sub hl [0] rfl) h
  · replace h := h.2 a23 c22
    subst c22
    refine lv_iconst (v := 0) hx hb dJ5_resize_148 (by decide) ?_
    refine lv_istore (lv' := [(7, .int 0), (6, .ref a17), (0, .ref o), (1, .ref a23), (2, .int x2), (4, .int x4), (5, .int x5)]) hx hb dJ5_resize_149 hl (by decide) rfl (fun ls hl9 => ?_)
    replace hl := hl9
    clear hl9
    obtain ⟨w, h⟩ := h
    exact wv_J5_resize_151 X ho hoc  w hB hK1 hK2 (lv_sub hl [2, 3, 4, 5, 1, 0] rfl) h
theorem ww_J5_resize_123 {co : Nat} {o : Nat} {Qk : Option Nat → z_T → z_I → z_Q → Prop} (X : z_X l G A p R s m args meth c cJ5_resize 14 RJ5 "resize" (some (.array (.object "java/util/HashMap$Node"))) mc ms 8 120) (ho : (T0 o).1 = 22) (hoc : (T0 o).2.2 = co) {cells slots : Nat} {T : z_T} {I : z_I} {Q : z_Q} {kc : Nat} {ks : Nat} {x1 : Option Nat} {x2 : Int32} {x4 : Int32} {s0 : Int32} {H : Heap} {locs : List Loc} {ls : Array Slot} (hB : z_HB G (z_co co) A s.heap T0 I0 Q0 T I Q H locs) (hK1 : cells + kc ≤ mc) (hK2 : slots + ks ≤ ms) (hl : lv_has ls 14 [(0, .ref o), (1, va_rf x1), (2, .int x2), (4, .int x4)]) (h : wb_J5_resize_123 co o Qk T I Q kc ks x1 x2 x4 s0) : W p l e R s m args below meth c H locs cells slots (z_MQ below G (z_co co) A T0 I0 Q0 (z_qr Qk) z_no args s mc ms) (F0 m 123 ls [.int s0]) := by
  obtain ⟨hx, hb, -⟩ := id X
  unfold wb_J5_resize_123 at h
  refine lv_istore (lv' := [(5, .int s0), (0, .ref o), (1, va_rf x1), (2, .int x2), (4, .int x4)]) hx hb dJ5_resize_123 hl (by decide) rfl (fun ls hl9 => ?_)
  replace hl := hl9
  clear hl9
  exact ww_J5_resize_125 X ho hoc  hB hK1 hK2 (lv_sub hl [1, 2, 3, 4, 0] rfl) h
theorem ww_J5_resize_121 {co : Nat} {o : Nat} {Qk : Option Nat → z_T → z_I → z_Q → Prop} (X : z_X l G A p R s m args meth c cJ5_resize 14 RJ5 "resize" (some (.array (.object "java/util/HashMap$Node"))) mc ms 8 120) (ho : (T0 o).1 = 22) (hoc : (T0 o).2.2 = co) {cells slots : Nat} {T : z_T} {I : z_I} {Q : z_Q} {kc : Nat} {ks : Nat} {x1 : Option Nat} {x2 : Int32} {x4 : Int32} {H : Heap} {locs : List Loc} {ls : Array Slot} (hB : z_HB G (z_co co) A s.heap T0 I0 Q0 T I Q H locs) (hK1 : cells + kc ≤ mc) (hK2 : slots + ks ≤ ms) (hl : lv_has ls 14 [(0, .ref o), (1, va_rf x1), (2, .int x2), (4, .int x4)]) (h : wb_J5_resize_121 co o Qk T I Q kc ks x1 x2 x4) : W p l e R s m args below meth c H locs cells slots (z_MQ below G (z_co co) A T0 I0 Q0 (z_qr Qk) z_no args s mc ms) (F0 m 121 ls []) := by
  obtain ⟨hx, hb, -⟩ := id X
  unfold wb_J5_resize_121 at h
  refine lv_ldc hx hb X.2.2.2.1 (X.2.2.2.2.1 _ q1752) dJ5_resize_121 ?_
  exact ww_J5_resize_123 X ho hoc  hB hK1 hK2 (lv_sub hl [0, 1, 2, 3] rfl) h
theorem ww_J5_resize_85 {co : Nat} {o : Nat} {Qk : Option Nat → z_T → z_I → z_Q → Prop} (X : z_X l G A p R s m args meth c cJ5_resize 14 RJ5 "resize" (some (.array (.object "java/util/HashMap$Node"))) mc ms 8 120) (ho : (T0 o).1 = 22) (hoc : (T0 o).2.2 = co) {cells slots : Nat} {T : z_T} {I : z_I} {Q : z_Q} {kc : Nat} {ks : Nat} {x1 : Option Nat} {x2 : Int32} {x4 : Int32} {x5 : Int32} {H : Heap} {locs : List Loc} {ls : Array Slot} (hB : z_HB G (z_co co) A s.heap T0 I0 Q0 T I Q H locs) (hK1 : cells + kc ≤ mc) (hK2 : slots + ks ≤ ms) (hl : lv_has ls 14 [(0, .ref o), (1, va_rf x1), (2, .int x2), (4, .int x4), (5, .int x5)]) (h : wb_J5_resize_85 co o Qk T I Q kc ks x1 x2 x4 x5) : W p l e R s m args below meth c H locs cells slots (z_MQ below G (z_co co) A T0 I0 Q0 (z_qr Qk) z_no args s mc ms) (F0 m 85 ls []) := by
  obtain ⟨hx, hb, -⟩ := id X
  unfold wb_J5_resize_85 at h
  refine lv_iload hx hb dJ5_resize_85 (lv_at hl 4 rfl) ?_
  refine lv_if_ne (tgt := 125) hx hb dJ5_resize_87 (by decide) (fun c13 => ?_) (fun c13 => ?_)
  · replace h := h.1 c13
    exact ww_J5_resize_125 X ho hoc  hB hK1 hK2 (lv_sub hl [0, 1, 2, 3, 4] rfl) h
  · replace h := h.2 c13
    refine lv_iload hx hb dJ5_resize_90 (lv_at hl 3 rfl) ?_
    refine lv_i2f hx hb dJ5_resize_92 ?_
    refine lv_aload_n (x := o) hx hb dJ5_resize_93 rfl (lv_at hl 0 rfl) ?_
    refine z_getf X hB.1 kc_J6 in_J6 (j := 5) (Nat.le_of_ble_eq_true rfl) q1054 (fun _ h => h) rfl (by decide) (z_fo hB ho (by decide)) dJ5_resize_94 ?_
    obtain ⟨hn, h⟩ := h
    refine lv_fmul hx hb dJ5_resize_97 hn ?_
    refine lv_fstore (lv' := [(6, .float (FP.fmul (FP.i2f x4) ((I o 5).toUInt32))), (0, .ref o), (1, va_rf x1), (2, .int x2), (4, .int x4), (5, .int x5)]) hx hb dJ5_resize_98 hl (by decide) rfl (fun ls hl9 => ?_)
    replace hl := hl9
    clear hl9
    refine lv_iload hx hb dJ5_resize_100 (lv_at hl 4 rfl) ?_
    refine lv_ldc hx hb X.2.2.2.1 (X.2.2.2.2.1 _ q527) dJ5_resize_102 ?_
    refine lv_icmp_ge (tgt := 121) hx hb dJ5_resize_104 (by decide) (fun c14 => ?_) (fun c14 => ?_)
    · replace h := h.1 c14
      exact ww_J5_resize_121 X ho hoc  hB hK1 hK2 (lv_sub hl [1, 2, 3, 4] rfl) h
    · replace h := h.2 c14
      refine lv_fload hx hb dJ5_resize_107 (lv_at hl 0 rfl) ?_
      refine lv_ldcf hx hb X.2.2.2.1 (X.2.2.2.2.1 _ q1753) dJ5_resize_109 ?_
      refine lv_fcmp hx hb dJ5_resize_111 ?_
      refine lv_if_ge (tgt := 121) hx hb dJ5_resize_112 (by decide) (fun c15 => ?_) (fun c15 => ?_)
      · replace h := h.1 c15
        exact ww_J5_resize_121 X ho hoc  hB hK1 hK2 (lv_sub hl [1, 2, 3, 4] rfl) h
      · replace h := h.2 c15
        refine lv_fload hx hb dJ5_resize_115 (lv_at hl 0 rfl) ?_
        refine lv_f2i hx hb dJ5_resize_117 ?_
        refine lv_goto (tgt := 123) hx hb dJ5_resize_118 (by decide) ?_
        exact ww_J5_resize_123 X ho hoc  hB hK1 hK2 (lv_sub hl [1, 2, 3, 4] rfl) h
theorem ww_J5_resize_15 {co : Nat} {o : Nat} {Qk : Option Nat → z_T → z_I → z_Q → Prop} (X : z_X l G A p R s m args meth c cJ5_resize 14 RJ5 "resize" (some (.array (.object "java/util/HashMap$Node"))) mc ms 8 120) (ho : (T0 o).1 = 22) (hoc : (T0 o).2.2 = co) {cells slots : Nat} {T : z_T} {I : z_I} {Q : z_Q} {kc : Nat} {ks : Nat} {x1 : Option Nat} {s0 : Int32} {H : Heap} {locs : List Loc} {ls : Array Slot} (hB : z_HB G (z_co co) A s.heap T0 I0 Q0 T I Q H locs) (hK1 : cells + kc ≤ mc) (hK2 : slots + ks ≤ ms) (hl : lv_has ls 14 [(0, .ref o), (1, va_rf x1)]) (h : wb_J5_resize_15 co o Qk T I Q kc ks x1 s0) : W p l e R s m args below meth c H locs cells slots (z_MQ below G (z_co co) A T0 I0 Q0 (z_qr Qk) z_no args s mc ms) (F0 m 15 ls [.int s0]) := by
  obtain ⟨hx, hb, -⟩ := id X
  unfold wb_J5_resize_15 at h
  refine lv_istore_n (i := 2) (lv' := [(2, .int s0), (0, .ref o), (1, va_rf x1)]) hx hb dJ5_resize_15 rfl hl (by decide) (by simp [z_cat, z_rfs, z_catq]) (fun ls hl9 => ?_)
  replace hl := hl9
  clear hl9
  refine lv_aload_n (x := o) hx hb dJ5_resize_16 rfl (lv_at hl 1 rfl) ?_
  refine z_geti X hB.1 kc_J6 in_J6 (j := 4) (Nat.le_of_ble_eq_true rfl) q1053 (fun _ h => h) rfl (by decide) (z_fo hB ho (by decide)) dJ5_resize_17 ?_
  refine lv_topi (fun y4 ey4 => ?_)
  replace h := h y4 ey4
  refine lv_istore_n (lv' := [(3, .int y4), (2, .int s0), (0, .ref o), (1, va_rf x1)]) hx hb dJ5_resize_20 rfl hl (by decide) rfl (fun ls hl9 => ?_)
  replace hl := hl9
  clear hl9
  refine lv_iconst (v := 0) hx hb dJ5_resize_21 (by decide) ?_
  refine lv_istore (lv' := [(5, .int 0), (3, .int y4), (2, .int s0), (0, .ref o), (1, va_rf x1)]) hx hb dJ5_resize_22 hl (by decide) rfl (fun ls hl9 => ?_)
  replace hl := hl9
  clear hl9
  refine lv_iload_n hx hb dJ5_resize_24 rfl (lv_at hl 2 rfl) ?_
  refine lv_if_le (tgt := 67) hx hb dJ5_resize_25 (by decide) (fun c5 => ?_) (fun c5 => ?_)
  · replace h := h.1 c5
    refine lv_iload_n hx hb dJ5_resize_67 rfl (lv_at hl 1 rfl) ?_
    refine lv_if_le (tgt := 77) hx hb dJ5_resize_68 (by decide) (fun c6 => ?_) (fun c6 => ?_)
    · replace h := h.1 c6
      refine lv_bipush (v := 16) hx hb dJ5_resize_77 (by decide) ?_
      refine lv_istore (lv' := [(4, .int 16), (5, .int 0), (3, .int y4), (2, .int s0), (0, .ref o), (1, va_rf x1)]) hx hb dJ5_resize_79 hl (by decide) rfl (fun ls hl9 => ?_)
      replace hl := hl9
      clear hl9
      refine lv_bipush (v := 12) hx hb dJ5_resize_81 (by decide) ?_
      refine lv_istore (lv' := [(5, .int 12), (4, .int 16), (3, .int y4), (2, .int s0), (0, .ref o), (1, va_rf x1)]) hx hb dJ5_resize_83 hl (by decide) rfl (fun ls hl9 => ?_)
      replace hl := hl9
      clear hl9
      exact ww_J5_resize_85 X ho hoc  hB hK1 hK2 (lv_sub hl [4, 5, 3, 1, 0] rfl) h
    · replace h := h.2 c6
      refine lv_iload_n hx hb dJ5_resize_71 rfl (lv_at hl 1 rfl) ?_
      refine lv_istore (lv' := [(4, .int y4), (5, .int 0), (3, .int y4), (2, .int s0), (0, .ref o), (1, va_rf x1)]) hx hb dJ5_resize_72 hl (by decide) rfl (fun ls hl9 => ?_)
      replace hl := hl9
      clear hl9
      refine lv_goto (tgt := 85) hx hb dJ5_resize_74 (by decide) ?_
      exact ww_J5_resize_85 X ho hoc  hB hK1 hK2 (lv_sub hl [4, 5, 3, 0, 1] rfl) h
  · replace h := h.2 c5
    refine lv_iload_n hx hb dJ5_resize_28 rfl (lv_at hl 2 rfl) ?_
    refine lv_ldc hx hb X.2.2.2.1 (X.2.2.2.2.1 _ q527) dJ5_resize_29 ?_
    refine lv_icmp_lt (tgt := 42) hx hb dJ5_resize_31 (by decide) (fun c7 => ?_) (fun c7 => ?_)
    · replace h := h.1 c7
      refine lv_iload_n hx hb dJ5_resize_42 rfl (lv_at hl 2 rfl) ?_
      refine lv_iconst (v := 1) hx hb dJ5_resize_43 (by decide) ?_
      refine lv_ishl hx hb dJ5_resize_44 ?_
      refine lv_dup hx hb dJ5_resize_45 rfl ?_
      refine lv_topi (fun y8 ey8 => ?_)
      replace h := h y8 ey8
      refine lv_istore (lv' := [(4, .int y8), (5, .int 0), (3, .int y4), (2, .int s0), (0, .ref o), (1, va_rf x1)]) hx hb dJ5_resize_46 hl (by decide) rfl (fun ls hl9 => ?_)
      replace hl := hl9
      clear hl9
      refine lv_ldc hx hb X.2.2.2.1 (X.2.2.2.2.1 _ q527) dJ5_resize_48 ?_
      refine lv_icmp_ge (tgt := 85) hx hb dJ5_resize_50 (by decide) (fun c9 => ?_) (fun c9 => ?_)
      · replace h := h.1 c9
        exact ww_J5_resize_85 X ho hoc  hB hK1 hK2 (lv_sub hl [4, 5, 3, 0, 1] rfl) h
      · replace h := h.2 c9
        refine lv_iload_n hx hb dJ5_resize_53 rfl (lv_at hl 3 rfl) ?_
        refine lv_bipush (v := 16) hx hb dJ5_resize_54 (by decide) ?_
        refine lv_icmp_lt (tgt := 85) hx hb dJ5_resize_56 (by decide) (fun c10 => ?_) (fun c10 => ?_)
        · replace h := h.1 c10
          exact ww_J5_resize_85 X ho hoc  hB hK1 hK2 (lv_sub hl [4, 5, 3, 0, 1] rfl) h
        · replace h := h.2 c10
          refine lv_iload_n hx hb dJ5_resize_59 rfl (lv_at hl 2 rfl) ?_
          refine lv_iconst (v := 1) hx hb dJ5_resize_60 (by decide) ?_
          refine lv_ishl hx hb dJ5_resize_61 ?_
          refine lv_topi (fun y11 ey11 => ?_)
          replace h := h y11 ey11
          refine lv_istore (lv' := [(5, .int y11), (4, .int y8), (3, .int y4), (2, .int s0), (0, .ref o), (1, va_rf x1)]) hx hb dJ5_resize_62 hl (by decide) rfl (fun ls hl9 => ?_)
          replace hl := hl9
          clear hl9
          refine lv_goto (tgt := 85) hx hb dJ5_resize_64 (by decide) ?_
          exact ww_J5_resize_85 X ho hoc  hB hK1 hK2 (lv_sub hl [4, 5, 3, 1, 0] rfl) h
    · replace h := h.2 c7
      refine lv_aload_n (x := o) hx hb dJ5_resize_34 rfl (lv_at hl 3 rfl) ?_
      refine lv_ldc hx hb X.2.2.2.1 (X.2.2.2.2.1 _ q1752) dJ5_resize_35 ?_
      obtain ⟨I12, eI12⟩ : ∃ z, z = z_up I o 4 2147483647 := ⟨_, rfl⟩
      replace h := h I12 eI12
      refine z_puti (x := 2147483647) eI12 tyJ6 X hB kc_J6 in_J6 tyJ6_ok nmJ6 (j := 4) (Nat.le_of_ble_eq_true rfl) q1053 (fun _ h => h) rfl rfl (by decide) (z_fo hB ho (by decide)) (z_foc hB ho (by decide) hoc) rfl (Or.inl rfl) dJ5_resize_37 (fun H locs hB => ?_)
      refine z_aload_n (x := x1) hx hb dJ5_resize_40 rfl (lv_at hl 4 rfl) ?_
      exact z_aret (v := x1) X (by first | exact Or.inl ⟨_, rfl⟩ | exact Or.inr ⟨_, rfl⟩) hB ⟨_, rfl, h⟩ (z_k3 hK1) (z_k3 hK2) dJ5_resize_41
theorem ww_J5_resize_0 {co : Nat} {o : Nat} {Qk : Option Nat → z_T → z_I → z_Q → Prop} (X : z_X l G A p R s m args meth c cJ5_resize 14 RJ5 "resize" (some (.array (.object "java/util/HashMap$Node"))) mc ms 8 120) (ho : (T0 o).1 = 22) (hoc : (T0 o).2.2 = co) {cells slots : Nat} {T : z_T} {I : z_I} {Q : z_Q} {kc : Nat} {ks : Nat} {H : Heap} {locs : List Loc} {ls : Array Slot} (hB : z_HB G (z_co co) A s.heap T0 I0 Q0 T I Q H locs) (hK1 : cells + kc ≤ mc) (hK2 : slots + ks ≤ ms) (hl : lv_has ls 14 [(0, .ref o)]) (h : wb_J5_resize_0 co o Qk T I Q kc ks) : W p l e R s m args below meth c H locs cells slots (z_MQ below G (z_co co) A T0 I0 Q0 (z_qr Qk) z_no args s mc ms) (F0 m 0 ls []) := by
  obtain ⟨hx, hb, -⟩ := id X
  unfold wb_J5_resize_0 at h
  refine lv_aload_n (x := o) hx hb dJ5_resize_0 rfl (lv_at hl 0 rfl) ?_
  refine z_getq X hB.1 kc_J6 in_J6 (j := 0) (Nat.le_of_ble_eq_true rfl) q1045 (fun _ h => h) rfl (by decide) (z_fo hB ho (by decide)) dJ5_resize_1 ?_
  obtain ⟨y1, ey1⟩ : ∃ z : Option Nat, z = (Q o 0) := ⟨_, rfl⟩
  replace h := h y1 ey1
  refine z_stk (st' := [va_rf y1]) (by rw [ey1]) ?_
  refine z_astore_n (x := y1) (lv' := [(1, va_rf y1), (0, .ref o)]) hx hb dJ5_resize_4 rfl hl (by decide) rfl (fun ls hl9 => ?_)
  replace hl := hl9
  clear hl9
  refine z_aload_n (x := y1) hx hb dJ5_resize_5 rfl (lv_at hl 0 rfl) ?_
  refine z_ifnonnull (tgt := 13) hx hb dJ5_resize_6 (by decide) (fun a3 c2 => ?_) (fun c2 => ?_)
  · replace h := h.2 a3 c2
    subst c2
    refine lv_aload_n (x := a3) hx hb dJ5_resize_13 rfl (lv_at hl 0 rfl) ?_
    obtain ⟨hk_a3, h⟩ := h
    refine z_alen (k := 5) X hB.1 (by decide) hk_a3 dJ5_resize_14 ?_
    exact ww_J5_resize_15 X ho hoc  hB hK1 hK2 (lv_sub hl [1, 0] rfl) h
  · replace h := h.1 c2
    subst c2
    refine lv_iconst (v := 0) hx hb dJ5_resize_9 (by decide) ?_
    refine lv_goto (tgt := 15) hx hb dJ5_resize_10 (by decide) ?_
    exact ww_J5_resize_15 X ho hoc  hB hK1 hK2 (lv_sub hl [1, 0] rfl) h
theorem met_J5_resize {l : Launch} {G : z_E} {T : z_T} {I : z_I} {Q : z_Q} (co : Nat) (o : Nat) (kc : Nat) (ks : Nat) (Qk : Option Nat → z_T → z_I → z_Q → Prop) (h : wp_J5_resize co T I Q o kc ks Qk) : z_GM l G yJ5_resize (ws_ yJ5_resize cJ5_resize 14 (some (.array (.object "java/util/HashMap$Node")))) 8 120 kc ks [.ref o] (z_co co) T I Q (z_qr Qk) z_no := by
  obtain ⟨ho, hoc, h⟩ := h
  refine z_body (own := RJ5) (nm := "resize") (by decide +kernel) rfl rfl (Nat.le_of_ble_eq_true rfl) (fun p e R s m below meth c A ls X hB hl => ?_)
  exact ww_J5_resize_0 X ho hoc hB z_k0 z_k0 hl h
/-! J6_afterNodeAccess -/
theorem ww_J6_afterNodeAccess_265 {co : Nat} {o : Nat} {Qk : z_T → z_I → z_Q → Prop} (X : z_X l G A p R s m args meth c cJ6_afterNodeAccess 7 RJ6 "afterNodeAccess" none 0 0 8 120) (ho : (T0 o).1 = 22) (hoc : (T0 o).2.2 = co) {T : z_T} {I : z_I} {Q : z_Q} {H : Heap} {locs : List Loc} {ls : Array Slot} (hB : z_HB G (z_co co) A s.heap T0 I0 Q0 T I Q H locs) (hl : lv_has ls 7 []) (h : wb_J6_afterNodeAccess_265 co o Qk T I Q) : W p l e R s m args below meth c H locs 0 0 (z_MQ below G (z_co co) A T0 I0 Q0 (z_qv Qk) z_no args s 0 0) (F0 m 265 ls []) := by
  obtain ⟨hx, hb, -⟩ := id X
  unfold wb_J6_afterNodeAccess_265 at h
  exact z_vret X hB ⟨rfl, h⟩ (Nat.le_refl 0) (Nat.le_refl 0) dJ6_afterNodeAccess_265
theorem ww_J6_afterNodeAccess_122 {co : Nat} {o : Nat} {Qk : z_T → z_I → z_Q → Prop} (X : z_X l G A p R s m args meth c cJ6_afterNodeAccess 7 RJ6 "afterNodeAccess" none 0 0 8 120) (ho : (T0 o).1 = 22) (hoc : (T0 o).2.2 = co) {T : z_T} {I : z_I} {Q : z_Q} {x4 : Option Nat} {H : Heap} {locs : List Loc} {ls : Array Slot} (hB : z_HB G (z_co co) A s.heap T0 I0 Q0 T I Q H locs) (hl : lv_has ls 7 [(0, .ref o), (4, va_rf x4)]) (h : wb_J6_afterNodeAccess_122 co o Qk T I Q x4) : W p l e R s m args below meth c H locs 0 0 (z_MQ below G (z_co co) A T0 I0 Q0 (z_qv Qk) z_no args s 0 0) (F0 m 122 ls []) := by
  obtain ⟨hx, hb, -⟩ := id X
  unfold wb_J6_afterNodeAccess_122 at h
  refine lv_aload_n (x := o) hx hb dJ6_afterNodeAccess_122 rfl (lv_at hl 0 rfl) ?_
  refine z_aload (x := x4) hx hb dJ6_afterNodeAccess_123 (lv_at hl 1 rfl) ?_
  obtain ⟨Q23, eQ23⟩ : ∃ z, z = z_up Q o 9 x4 := ⟨_, rfl⟩
  replace h := h Q23 eQ23
  refine z_putq (x := x4) eQ23 tyJ6 X hB kc_J6 in_J6 tyJ6_ok nmJ6 (j := 9) (Nat.le_of_ble_eq_true rfl) q1041 (fun _ h => h) rfl rfl (by decide) (z_fo hB ho (by decide)) (z_foc hB ho (by decide) hoc) rfl (Or.inl ⟨_, rfl⟩) dJ6_afterNodeAccess_125 (fun H locs hB => ?_)
  refine lv_aload_n (x := o) hx hb dJ6_afterNodeAccess_128 rfl (lv_at hl 0 rfl) ?_
  refine lv_dup hx hb dJ6_afterNodeAccess_129 rfl ?_
  refine z_geti X hB.1 kc_J6 in_J6 (j := 3) (Nat.le_of_ble_eq_true rfl) q1051 (z_same X q1050) rfl (by decide) (z_fo hB ho (by decide)) dJ6_afterNodeAccess_130 ?_
  refine lv_iconst (v := 1) hx hb dJ6_afterNodeAccess_133 (by decide) ?_
  refine lv_iadd hx hb dJ6_afterNodeAccess_134 ?_
  obtain ⟨I24, eI24⟩ : ∃ z, z = z_up I o 3 ((I o 3) + 1) := ⟨_, rfl⟩
  replace h := h I24 eI24
  refine z_puti (x := ((I o 3) + 1)) eI24 tyJ6 X hB kc_J6 in_J6 tyJ6_ok nmJ6 (j := 3) (Nat.le_of_ble_eq_true rfl) q1051 (z_same X q1050) rfl rfl (by decide) (z_fo hB ho (by decide)) (z_foc hB ho (by decide) hoc) rfl (Or.inl rfl) dJ6_afterNodeAccess_135 (fun H locs hB => ?_)
  refine lv_goto (tgt := 265) hx hb dJ6_afterNodeAccess_138 (by decide) ?_
  exact ww_J6_afterNodeAccess_265 X ho hoc  hB (lv_sub hl [] rfl) h
theorem ww_J6_afterNodeAccess_97 {co : Nat} {o : Nat} {Qk : z_T → z_I → z_Q → Prop} (X : z_X l G A p R s m args meth c cJ6_afterNodeAccess 7 RJ6 "afterNodeAccess" none 0 0 8 120) (ho : (T0 o).1 = 22) (hoc : (T0 o).2.2 = co) {T : z_T} {I : z_I} {Q : z_Q} {x2 : Option Nat} {x4 : Option Nat} {H : Heap} {locs : List Loc} {ls : Array Slot} (hB : z_HB G (z_co co) A s.heap T0 I0 Q0 T I Q H locs) (hl : lv_has ls 7 [(0, .ref o), (2, va_rf x2), (4, va_rf x4)]) (h : wb_J6_afterNodeAccess_97 co o Qk T I Q x2 x4) : W p l e R s m args below meth c H locs 0 0 (z_MQ below G (z_co co) A T0 I0 Q0 (z_qv Qk) z_no args s 0 0) (F0 m 97 ls []) := by
  obtain ⟨hx, hb, -⟩ := id X
  unfold wb_J6_afterNodeAccess_97 at h
  refine z_aload_n (x := x2) hx hb dJ6_afterNodeAccess_97 rfl (lv_at hl 1 rfl) ?_
  refine z_ifnonnull (tgt := 110) hx hb dJ6_afterNodeAccess_98 (by decide) (fun a18 c17 => ?_) (fun c17 => ?_)
  · replace h := h.2 a18 c17
    subst c17
    refine z_aload (x := x4) hx hb dJ6_afterNodeAccess_110 (lv_at hl 2 rfl) ?_
    refine lv_aload_n (x := a18) hx hb dJ6_afterNodeAccess_112 rfl (lv_at hl 1 rfl) ?_
    obtain ⟨a20, rfl, h⟩ := h
    obtain ⟨hk_a20, h⟩ := h
    obtain ⟨hc_a20, h⟩ := h
    obtain ⟨Q21, eQ21⟩ : ∃ z, z = z_up Q a20 4 (some a18) := ⟨_, rfl⟩
    replace h := h Q21 eQ21
    refine z_putq (x := (some a18)) eQ21 tyJ42 X hB kc_J42 in_J42 tyJ42_ok nmJ42 (j := 4) (Nat.le_of_ble_eq_true rfl) q1781 (fun _ h => h) rfl rfl (by decide) hk_a20 hc_a20 rfl (Or.inl ⟨_, rfl⟩) dJ6_afterNodeAccess_113 (fun H locs hB => ?_)
    refine lv_aload_n (x := a18) hx hb dJ6_afterNodeAccess_116 rfl (lv_at hl 1 rfl) ?_
    refine lv_aload (x := a20) hx hb dJ6_afterNodeAccess_117 (lv_at hl 2 rfl) ?_
    obtain ⟨hk_a18, h⟩ := h
    obtain ⟨hc_a18, h⟩ := h
    obtain ⟨Q22, eQ22⟩ : ∃ z, z = z_up Q21 a18 5 (some a20) := ⟨_, rfl⟩
    replace h := h Q22 eQ22
    refine z_putq (x := (some a20)) eQ22 tyJ42 X hB kc_J42 in_J42 tyJ42_ok nmJ42 (j := 5) (Nat.le_of_ble_eq_true rfl) q1783 (fun _ h => h) rfl rfl (by decide) hk_a18 hc_a18 rfl (Or.inl ⟨_, rfl⟩) dJ6_afterNodeAccess_119 (fun H locs hB => ?_)
    exact ww_J6_afterNodeAccess_122 X ho hoc  hB (lv_sub hl [0, 2] rfl) h
  · replace h := h.1 c17
    subst c17
    refine lv_aload_n (x := o) hx hb dJ6_afterNodeAccess_101 rfl (lv_at hl 0 rfl) ?_
    refine z_aload (x := x4) hx hb dJ6_afterNodeAccess_102 (lv_at hl 2 rfl) ?_
    obtain ⟨Q19, eQ19⟩ : ∃ z, z = z_up Q o 8 x4 := ⟨_, rfl⟩
    replace h := h Q19 eQ19
    refine z_putq (x := x4) eQ19 tyJ6 X hB kc_J6 in_J6 tyJ6_ok nmJ6 (j := 8) (Nat.le_of_ble_eq_true rfl) q1038 (fun _ h => h) rfl rfl (by decide) (z_fo hB ho (by decide)) (z_foc hB ho (by decide) hoc) rfl (Or.inl ⟨_, rfl⟩) dJ6_afterNodeAccess_104 (fun H locs hB => ?_)
    refine lv_goto (tgt := 122) hx hb dJ6_afterNodeAccess_107 (by decide) ?_
    exact ww_J6_afterNodeAccess_122 X ho hoc  hB (lv_sub hl [0, 2] rfl) h
theorem ww_J6_afterNodeAccess_79 {co : Nat} {o : Nat} {Qk : z_T → z_I → z_Q → Prop} (X : z_X l G A p R s m args meth c cJ6_afterNodeAccess 7 RJ6 "afterNodeAccess" none 0 0 8 120) (ho : (T0 o).1 = 22) (hoc : (T0 o).2.2 = co) {T : z_T} {I : z_I} {Q : z_Q} {x2 : Option Nat} {x4 : Option Nat} {x5 : Option Nat} {x6 : Option Nat} {H : Heap} {locs : List Loc} {ls : Array Slot} (hB : z_HB G (z_co co) A s.heap T0 I0 Q0 T I Q H locs) (hl : lv_has ls 7 [(0, .ref o), (2, va_rf x2), (4, va_rf x4), (5, va_rf x5), (6, va_rf x6)]) (h : wb_J6_afterNodeAccess_79 co o Qk T I Q x2 x4 x5 x6) : W p l e R s m args below meth c H locs 0 0 (z_MQ below G (z_co co) A T0 I0 Q0 (z_qv Qk) z_no args s 0 0) (F0 m 79 ls []) := by
  obtain ⟨hx, hb, -⟩ := id X
  unfold wb_J6_afterNodeAccess_79 at h
  refine z_aload (x := x6) hx hb dJ6_afterNodeAccess_79 (lv_at hl 4 rfl) ?_
  refine z_ifnull (tgt := 94) hx hb dJ6_afterNodeAccess_81 (by decide) (fun c14 => ?_) (fun a15 c14 => ?_)
  · replace h := h.1 c14
    subst c14
    refine z_aload (x := x5) hx hb dJ6_afterNodeAccess_94 (lv_at hl 3 rfl) ?_
    refine z_astore_n (x := x5) (lv' := [(2, va_rf x5), (0, .ref o), (4, va_rf x4), (5, va_rf x5), (6, va_rf none)]) hx hb dJ6_afterNodeAccess_96 rfl hl (by decide) rfl (fun ls hl9 => ?_)
    replace hl := hl9
    clear hl9
    exact ww_J6_afterNodeAccess_97 X ho hoc  hB (lv_sub hl [1, 0, 2] rfl) h
  · replace h := h.2 a15 c14
    subst c14
    refine lv_aload (x := a15) hx hb dJ6_afterNodeAccess_84 (lv_at hl 4 rfl) ?_
    refine z_aload (x := x5) hx hb dJ6_afterNodeAccess_86 (lv_at hl 3 rfl) ?_
    obtain ⟨hk_a15, h⟩ := h
    obtain ⟨hc_a15, h⟩ := h
    obtain ⟨Q16, eQ16⟩ : ∃ z, z = z_up Q a15 4 x5 := ⟨_, rfl⟩
    replace h := h Q16 eQ16
    refine z_putq (x := x5) eQ16 tyJ42 X hB kc_J42 in_J42 tyJ42_ok nmJ42 (j := 4) (Nat.le_of_ble_eq_true rfl) q1781 (fun _ h => h) rfl rfl (by decide) hk_a15 hc_a15 rfl (Or.inl ⟨_, rfl⟩) dJ6_afterNodeAccess_88 (fun H locs hB => ?_)
    refine lv_goto (tgt := 97) hx hb dJ6_afterNodeAccess_91 (by decide) ?_
    exact ww_J6_afterNodeAccess_97 X ho hoc  hB (lv_sub hl [0, 1, 2] rfl) h
theorem ww_J6_afterNodeAccess_249 {co : Nat} {o : Nat} {Qk : z_T → z_I → z_Q → Prop} (X : z_X l G A p R s m args meth c cJ6_afterNodeAccess 7 RJ6 "afterNodeAccess" none 0 0 8 120) (ho : (T0 o).1 = 22) (hoc : (T0 o).2.2 = co) {T : z_T} {I : z_I} {Q : z_Q} {x4 : Option Nat} {H : Heap} {locs : List Loc} {ls : Array Slot} (hB : z_HB G (z_co co) A s.heap T0 I0 Q0 T I Q H locs) (hl : lv_has ls 7 [(0, .ref o), (4, va_rf x4)]) (h : wb_J6_afterNodeAccess_249 co o Qk T I Q x4) : W p l e R s m args below meth c H locs 0 0 (z_MQ below G (z_co co) A T0 I0 Q0 (z_qv Qk) z_no args s 0 0) (F0 m 249 ls []) := by
  obtain ⟨hx, hb, -⟩ := id X
  unfold wb_J6_afterNodeAccess_249 at h
  refine lv_aload_n (x := o) hx hb dJ6_afterNodeAccess_249 rfl (lv_at hl 0 rfl) ?_
  refine z_aload (x := x4) hx hb dJ6_afterNodeAccess_250 (lv_at hl 1 rfl) ?_
  obtain ⟨Q45, eQ45⟩ : ∃ z, z = z_up Q o 8 x4 := ⟨_, rfl⟩
  replace h := h Q45 eQ45
  refine z_putq (x := x4) eQ45 tyJ6 X hB kc_J6 in_J6 tyJ6_ok nmJ6 (j := 8) (Nat.le_of_ble_eq_true rfl) q1038 (fun _ h => h) rfl rfl (by decide) (z_fo hB ho (by decide)) (z_foc hB ho (by decide) hoc) rfl (Or.inl ⟨_, rfl⟩) dJ6_afterNodeAccess_252 (fun H locs hB => ?_)
  refine lv_aload_n (x := o) hx hb dJ6_afterNodeAccess_255 rfl (lv_at hl 0 rfl) ?_
  refine lv_dup hx hb dJ6_afterNodeAccess_256 rfl ?_
  refine z_geti X hB.1 kc_J6 in_J6 (j := 3) (Nat.le_of_ble_eq_true rfl) q1051 (z_same X q1050) rfl (by decide) (z_fo hB ho (by decide)) dJ6_afterNodeAccess_257 ?_
  refine lv_iconst (v := 1) hx hb dJ6_afterNodeAccess_260 (by decide) ?_
  refine lv_iadd hx hb dJ6_afterNodeAccess_261 ?_
  obtain ⟨I46, eI46⟩ : ∃ z, z = z_up I o 3 ((I o 3) + 1) := ⟨_, rfl⟩
  replace h := h I46 eI46
  refine z_puti (x := ((I o 3) + 1)) eI46 tyJ6 X hB kc_J6 in_J6 tyJ6_ok nmJ6 (j := 3) (Nat.le_of_ble_eq_true rfl) q1051 (z_same X q1050) rfl rfl (by decide) (z_fo hB ho (by decide)) (z_foc hB ho (by decide) hoc) rfl (Or.inl rfl) dJ6_afterNodeAccess_262 (fun H locs hB => ?_)
  exact ww_J6_afterNodeAccess_265 X ho hoc  hB (lv_sub hl [] rfl) h
theorem ww_J6_afterNodeAccess_224 {co : Nat} {o : Nat} {Qk : z_T → z_I → z_Q → Prop} (X : z_X l G A p R s m args meth c cJ6_afterNodeAccess 7 RJ6 "afterNodeAccess" none 0 0 8 120) (ho : (T0 o).1 = 22) (hoc : (T0 o).2.2 = co) {T : z_T} {I : z_I} {Q : z_Q} {x3 : Option Nat} {x4 : Option Nat} {H : Heap} {locs : List Loc} {ls : Array Slot} (hB : z_HB G (z_co co) A s.heap T0 I0 Q0 T I Q H locs) (hl : lv_has ls 7 [(0, .ref o), (3, va_rf x3), (4, va_rf x4)]) (h : wb_J6_afterNodeAccess_224 co o Qk T I Q x3 x4) : W p l e R s m args below meth c H locs 0 0 (z_MQ below G (z_co co) A T0 I0 Q0 (z_qv Qk) z_no args s 0 0) (F0 m 224 ls []) := by
  obtain ⟨hx, hb, -⟩ := id X
  unfold wb_J6_afterNodeAccess_224 at h
  refine z_aload_n (x := x3) hx hb dJ6_afterNodeAccess_224 rfl (lv_at hl 1 rfl) ?_
  refine z_ifnonnull (tgt := 237) hx hb dJ6_afterNodeAccess_225 (by decide) (fun a40 c39 => ?_) (fun c39 => ?_)
  · replace h := h.2 a40 c39
    subst c39
    refine z_aload (x := x4) hx hb dJ6_afterNodeAccess_237 (lv_at hl 2 rfl) ?_
    refine lv_aload_n (x := a40) hx hb dJ6_afterNodeAccess_239 rfl (lv_at hl 1 rfl) ?_
    obtain ⟨a42, rfl, h⟩ := h
    obtain ⟨hk_a42, h⟩ := h
    obtain ⟨hc_a42, h⟩ := h
    obtain ⟨Q43, eQ43⟩ : ∃ z, z = z_up Q a42 5 (some a40) := ⟨_, rfl⟩
    replace h := h Q43 eQ43
    refine z_putq (x := (some a40)) eQ43 tyJ42 X hB kc_J42 in_J42 tyJ42_ok nmJ42 (j := 5) (Nat.le_of_ble_eq_true rfl) q1783 (fun _ h => h) rfl rfl (by decide) hk_a42 hc_a42 rfl (Or.inl ⟨_, rfl⟩) dJ6_afterNodeAccess_240 (fun H locs hB => ?_)
    refine lv_aload_n (x := a40) hx hb dJ6_afterNodeAccess_243 rfl (lv_at hl 1 rfl) ?_
    refine lv_aload (x := a42) hx hb dJ6_afterNodeAccess_244 (lv_at hl 2 rfl) ?_
    obtain ⟨hk_a40, h⟩ := h
    obtain ⟨hc_a40, h⟩ := h
    obtain ⟨Q44, eQ44⟩ : ∃ z, z = z_up Q43 a40 4 (some a42) := ⟨_, rfl⟩
    replace h := h Q44 eQ44
    refine z_putq (x := (some a42)) eQ44 tyJ42 X hB kc_J42 in_J42 tyJ42_ok nmJ42 (j := 4) (Nat.le_of_ble_eq_true rfl) q1781 (fun _ h => h) rfl rfl (by decide) hk_a40 hc_a40 rfl (Or.inl ⟨_, rfl⟩) dJ6_afterNodeAccess_246 (fun H locs hB => ?_)
    exact ww_J6_afterNodeAccess_249 X ho hoc  hB (lv_sub hl [0, 2] rfl) h
  · replace h := h.1 c39
    subst c39
    refine lv_aload_n (x := o) hx hb dJ6_afterNodeAccess_228 rfl (lv_at hl 0 rfl) ?_
    refine z_aload (x := x4) hx hb dJ6_afterNodeAccess_229 (lv_at hl 2 rfl) ?_
    obtain ⟨Q41, eQ41⟩ : ∃ z, z = z_up Q o 9 x4 := ⟨_, rfl⟩
    replace h := h Q41 eQ41
    refine z_putq (x := x4) eQ41 tyJ6 X hB kc_J6 in_J6 tyJ6_ok nmJ6 (j := 9) (Nat.le_of_ble_eq_true rfl) q1041 (fun _ h => h) rfl rfl (by decide) (z_fo hB ho (by decide)) (z_foc hB ho (by decide) hoc) rfl (Or.inl ⟨_, rfl⟩) dJ6_afterNodeAccess_231 (fun H locs hB => ?_)
    refine lv_goto (tgt := 249) hx hb dJ6_afterNodeAccess_234 (by decide) ?_
    exact ww_J6_afterNodeAccess_249 X ho hoc  hB (lv_sub hl [0, 2] rfl) h
theorem ww_J6_afterNodeAccess_206 {co : Nat} {o : Nat} {Qk : z_T → z_I → z_Q → Prop} (X : z_X l G A p R s m args meth c cJ6_afterNodeAccess 7 RJ6 "afterNodeAccess" none 0 0 8 120) (ho : (T0 o).1 = 22) (hoc : (T0 o).2.2 = co) {T : z_T} {I : z_I} {Q : z_Q} {x3 : Option Nat} {x4 : Option Nat} {x5 : Option Nat} {x6 : Option Nat} {H : Heap} {locs : List Loc} {ls : Array Slot} (hB : z_HB G (z_co co) A s.heap T0 I0 Q0 T I Q H locs) (hl : lv_has ls 7 [(0, .ref o), (3, va_rf x3), (4, va_rf x4), (5, va_rf x5), (6, va_rf x6)]) (h : wb_J6_afterNodeAccess_206 co o Qk T I Q x3 x4 x5 x6) : W p l e R s m args below meth c H locs 0 0 (z_MQ below G (z_co co) A T0 I0 Q0 (z_qv Qk) z_no args s 0 0) (F0 m 206 ls []) := by
  obtain ⟨hx, hb, -⟩ := id X
  unfold wb_J6_afterNodeAccess_206 at h
  refine z_aload (x := x5) hx hb dJ6_afterNodeAccess_206 (lv_at hl 3 rfl) ?_
  refine z_ifnull (tgt := 221) hx hb dJ6_afterNodeAccess_208 (by decide) (fun c36 => ?_) (fun a37 c36 => ?_)
  · replace h := h.1 c36
    subst c36
    refine z_aload (x := x6) hx hb dJ6_afterNodeAccess_221 (lv_at hl 4 rfl) ?_
    refine z_astore_n (x := x6) (lv' := [(3, va_rf x6), (0, .ref o), (4, va_rf x4), (5, va_rf none), (6, va_rf x6)]) hx hb dJ6_afterNodeAccess_223 rfl hl (by decide) rfl (fun ls hl9 => ?_)
    replace hl := hl9
    clear hl9
    exact ww_J6_afterNodeAccess_224 X ho hoc  hB (lv_sub hl [1, 0, 2] rfl) h
  · replace h := h.2 a37 c36
    subst c36
    refine lv_aload (x := a37) hx hb dJ6_afterNodeAccess_211 (lv_at hl 3 rfl) ?_
    refine z_aload (x := x6) hx hb dJ6_afterNodeAccess_213 (lv_at hl 4 rfl) ?_
    obtain ⟨hk_a37, h⟩ := h
    obtain ⟨hc_a37, h⟩ := h
    obtain ⟨Q38, eQ38⟩ : ∃ z, z = z_up Q a37 5 x6 := ⟨_, rfl⟩
    replace h := h Q38 eQ38
    refine z_putq (x := x6) eQ38 tyJ42 X hB kc_J42 in_J42 tyJ42_ok nmJ42 (j := 5) (Nat.le_of_ble_eq_true rfl) q1783 (fun _ h => h) rfl rfl (by decide) hk_a37 hc_a37 rfl (Or.inl ⟨_, rfl⟩) dJ6_afterNodeAccess_215 (fun H locs hB => ?_)
    refine lv_goto (tgt := 224) hx hb dJ6_afterNodeAccess_218 (by decide) ?_
    exact ww_J6_afterNodeAccess_224 X ho hoc  hB (lv_sub hl [0, 1, 2] rfl) h
theorem ww_J6_afterNodeAccess_141 {co : Nat} {o : Nat} {Qk : z_T → z_I → z_Q → Prop} (X : z_X l G A p R s m args meth c cJ6_afterNodeAccess 7 RJ6 "afterNodeAccess" none 0 0 8 120) (ho : (T0 o).1 = 22) (hoc : (T0 o).2.2 = co) {T : z_T} {I : z_I} {Q : z_Q} {x1 : Option Nat} {H : Heap} {locs : List Loc} {ls : Array Slot} (hB : z_HB G (z_co co) A s.heap T0 I0 Q0 T I Q H locs) (hl : lv_has ls 7 [(0, .ref o), (1, va_rf x1)]) (h : wb_J6_afterNodeAccess_141 co o Qk T I Q x1) : W p l e R s m args below meth c H locs 0 0 (z_MQ below G (z_co co) A T0 I0 Q0 (z_qv Qk) z_no args s 0 0) (F0 m 141 ls []) := by
  obtain ⟨hx, hb, -⟩ := id X
  unfold wb_J6_afterNodeAccess_141 at h
  refine lv_aload_n (x := o) hx hb dJ6_afterNodeAccess_141 rfl (lv_at hl 0 rfl) ?_
  refine z_geti X hB.1 kc_J6 in_J6 (j := 11) (Nat.le_of_ble_eq_true rfl) q1043 (fun _ h => h) rfl (by decide) (z_fo hB ho (by decide)) dJ6_afterNodeAccess_142 ?_
  refine lv_iconst (v := 1) hx hb dJ6_afterNodeAccess_145 (by decide) ?_
  refine lv_icmp_ne (tgt := 265) hx hb dJ6_afterNodeAccess_146 (by decide) (fun c25 => ?_) (fun c25 => ?_)
  · replace h := h.1 c25
    exact ww_J6_afterNodeAccess_265 X ho hoc  hB (lv_sub hl [] rfl) h
  · replace h := h.2 c25
    refine lv_aload_n (x := o) hx hb dJ6_afterNodeAccess_149 rfl (lv_at hl 0 rfl) ?_
    refine z_getq X hB.1 kc_J6 in_J6 (j := 8) (Nat.le_of_ble_eq_true rfl) q1038 (fun _ h => h) rfl (by decide) (z_fo hB ho (by decide)) dJ6_afterNodeAccess_150 ?_
    refine lv_dup hx hb dJ6_afterNodeAccess_153 z_cat ?_
    obtain ⟨y26, ey26⟩ : ∃ z : Option Nat, z = (Q o 8) := ⟨_, rfl⟩
    replace h := h y26 ey26
    refine z_stk (st' := [va_rf y26, va_rf y26]) (by rw [ey26]) ?_
    refine z_astore_n (x := y26) (lv' := [(3, va_rf y26), (0, .ref o), (1, va_rf x1)]) hx hb dJ6_afterNodeAccess_154 rfl hl (by decide) rfl (fun ls hl9 => ?_)
    replace hl := hl9
    clear hl9
    refine z_aload_n (x := x1) hx hb dJ6_afterNodeAccess_155 rfl (lv_at hl 2 rfl) ?_
    refine lv_acmp_eq (rx := y26) (ry := x1) (tgt := 265) hx hb dJ6_afterNodeAccess_156 (by decide) (fun c27 => ?_) (fun c27 => ?_)
    · replace h := h.1 c27
      exact ww_J6_afterNodeAccess_265 X ho hoc  hB (lv_sub hl [] rfl) h
    · replace h := h.2 c27
      refine z_aload_n (x := x1) hx hb dJ6_afterNodeAccess_159 rfl (lv_at hl 2 rfl) ?_
      obtain ⟨h2, h⟩ := h
      refine z_castR X hB.1 kc_J42 (by decide) h2 q1772 (Or.inl rfl) dJ6_afterNodeAccess_160 ?_
      refine z_astore (x := x1) (lv' := [(4, va_rf x1), (3, va_rf y26), (0, .ref o), (1, va_rf x1)]) hx hb dJ6_afterNodeAccess_163 hl (by decide) (by simp [z_cat, z_rfs, z_catq]) (fun ls hl9 => ?_)
      replace hl := hl9
      clear hl9
      refine z_aload (x := x1) hx hb dJ6_afterNodeAccess_165 (lv_at hl 0 rfl) ?_
      obtain ⟨a28, rfl, h⟩ := h
      obtain ⟨hk_a28, h⟩ := h
      refine z_getq X hB.1 kc_J42 in_J42 (j := 4) (Nat.le_of_ble_eq_true rfl) q1781 (fun _ h => h) rfl (by decide) hk_a28 dJ6_afterNodeAccess_167 ?_
      obtain ⟨y29, ey29⟩ : ∃ z : Option Nat, z = (Q a28 4) := ⟨_, rfl⟩
      replace h := h y29 ey29
      refine z_stk (st' := [va_rf y29]) (by rw [ey29]) ?_
      refine z_astore (x := y29) (lv' := [(5, va_rf y29), (4, .ref a28), (3, va_rf y26), (0, .ref o), (1, .ref a28)]) hx hb dJ6_afterNodeAccess_170 hl (by decide) rfl (fun ls hl9 => ?_)
      replace hl := hl9
      clear hl9
      refine lv_aload (x := a28) hx hb dJ6_afterNodeAccess_172 (lv_at hl 1 rfl) ?_
      refine z_getq X hB.1 kc_J42 in_J42 (j := 5) (Nat.le_of_ble_eq_true rfl) q1783 (fun _ h => h) rfl (by decide) hk_a28 dJ6_afterNodeAccess_174 ?_
      obtain ⟨y30, ey30⟩ : ∃ z : Option Nat, z = (Q a28 5) := ⟨_, rfl⟩
      replace h := h y30 ey30
      refine z_stk (st' := [va_rf y30]) (by rw [ey30]) ?_
      refine z_astore (x := y30) (lv' := [(6, va_rf y30), (5, va_rf y29), (4, .ref a28), (3, va_rf y26), (0, .ref o), (1, .ref a28)]) hx hb dJ6_afterNodeAccess_177 hl (by decide) (by simp [z_cat, z_rfs, z_catq]) (fun ls hl9 => ?_)
      replace hl := hl9
      clear hl9
      refine lv_aload (x := a28) hx hb dJ6_afterNodeAccess_179 (lv_at hl 2 rfl) ?_
      refine lv_null hx hb dJ6_afterNodeAccess_181 ?_
      refine z_stk (st' := [va_rf none, .ref a28]) rfl ?_
      obtain ⟨hc_a28, h⟩ := h
      obtain ⟨Q31, eQ31⟩ : ∃ z, z = z_up Q a28 4 none := ⟨_, rfl⟩
      replace h := h Q31 eQ31
      refine z_putq (x := none) eQ31 tyJ42 X hB kc_J42 in_J42 tyJ42_ok nmJ42 (j := 4) (Nat.le_of_ble_eq_true rfl) q1781 (fun _ h => h) rfl rfl (by decide) hk_a28 hc_a28 rfl (Or.inl ⟨_, rfl⟩) dJ6_afterNodeAccess_182 (fun H locs hB => ?_)
      refine z_aload (x := y30) hx hb dJ6_afterNodeAccess_185 (lv_at hl 0 rfl) ?_
      refine z_ifnonnull (tgt := 199) hx hb dJ6_afterNodeAccess_187 (by decide) (fun a33 c32 => ?_) (fun c32 => ?_)
      · replace h := h.2 a33 c32
        subst c32
        refine lv_aload (x := a33) hx hb dJ6_afterNodeAccess_199 (lv_at hl 0 rfl) ?_
        refine z_aload (x := y29) hx hb dJ6_afterNodeAccess_201 (lv_at hl 1 rfl) ?_
        obtain ⟨hk_a33, h⟩ := h
        obtain ⟨hc_a33, h⟩ := h
        obtain ⟨Q35, eQ35⟩ : ∃ z, z = z_up Q31 a33 4 y29 := ⟨_, rfl⟩
        replace h := h Q35 eQ35
        refine z_putq (x := y29) eQ35 tyJ42 X hB kc_J42 in_J42 tyJ42_ok nmJ42 (j := 4) (Nat.le_of_ble_eq_true rfl) q1781 (fun _ h => h) rfl rfl (by decide) hk_a33 hc_a33 rfl (Or.inl ⟨_, rfl⟩) dJ6_afterNodeAccess_203 (fun H locs hB => ?_)
        exact ww_J6_afterNodeAccess_206 X ho hoc  hB (lv_sub hl [4, 3, 2, 1, 0] rfl) h
      · replace h := h.1 c32
        subst c32
        refine lv_aload_n (x := o) hx hb dJ6_afterNodeAccess_190 rfl (lv_at hl 4 rfl) ?_
        refine z_aload (x := y29) hx hb dJ6_afterNodeAccess_191 (lv_at hl 1 rfl) ?_
        obtain ⟨Q34, eQ34⟩ : ∃ z, z = z_up Q31 o 9 y29 := ⟨_, rfl⟩
        replace h := h Q34 eQ34
        refine z_putq (x := y29) eQ34 tyJ6 X hB kc_J6 in_J6 tyJ6_ok nmJ6 (j := 9) (Nat.le_of_ble_eq_true rfl) q1041 (fun _ h => h) rfl rfl (by decide) (z_fo hB ho (by decide)) (z_foc hB ho (by decide) hoc) rfl (Or.inl ⟨_, rfl⟩) dJ6_afterNodeAccess_193 (fun H locs hB => ?_)
        refine lv_goto (tgt := 206) hx hb dJ6_afterNodeAccess_196 (by decide) ?_
        exact ww_J6_afterNodeAccess_206 X ho hoc  hB (lv_sub hl [4, 3, 2, 1, 0] rfl) h
theorem ww_J6_afterNodeAccess_22 {co : Nat} {o : Nat} {Qk : z_T → z_I → z_Q → Prop} (X : z_X l G A p R s m args meth c cJ6_afterNodeAccess 7 RJ6 "afterNodeAccess" none 0 0 8 120) (ho : (T0 o).1 = 22) (hoc : (T0 o).2.2 = co) {T : z_T} {I : z_I} {Q : z_Q} {x1 : Option Nat} {H : Heap} {locs : List Loc} {ls : Array Slot} (hB : z_HB G (z_co co) A s.heap T0 I0 Q0 T I Q H locs) (hl : lv_has ls 7 [(0, .ref o), (1, va_rf x1)]) (h : wb_J6_afterNodeAccess_22 co o Qk T I Q x1) : W p l e R s m args below meth c H locs 0 0 (z_MQ below G (z_co co) A T0 I0 Q0 (z_qv Qk) z_no args s 0 0) (F0 m 22 ls []) := by
  obtain ⟨hx, hb, -⟩ := id X
  unfold wb_J6_afterNodeAccess_22 at h
  refine lv_aload_n (x := o) hx hb dJ6_afterNodeAccess_22 rfl (lv_at hl 0 rfl) ?_
  refine z_getq X hB.1 kc_J6 in_J6 (j := 9) (Nat.le_of_ble_eq_true rfl) q1041 (fun _ h => h) rfl (by decide) (z_fo hB ho (by decide)) dJ6_afterNodeAccess_23 ?_
  refine lv_dup hx hb dJ6_afterNodeAccess_26 z_cat ?_
  obtain ⟨y4, ey4⟩ : ∃ z : Option Nat, z = (Q o 9) := ⟨_, rfl⟩
  replace h := h y4 ey4
  refine z_stk (st' := [va_rf y4, va_rf y4]) (by rw [ey4]) ?_
  refine z_astore_n (i := 2) (x := y4) (lv' := [(2, va_rf y4), (0, .ref o), (1, va_rf x1)]) hx hb dJ6_afterNodeAccess_27 rfl hl (by decide) (by simp [z_cat, z_rfs, z_catq]) (fun ls hl9 => ?_)
  replace hl := hl9
  clear hl9
  refine z_aload_n (x := x1) hx hb dJ6_afterNodeAccess_28 rfl (lv_at hl 2 rfl) ?_
  refine lv_acmp_eq (rx := y4) (ry := x1) (tgt := 141) hx hb dJ6_afterNodeAccess_29 (by decide) (fun c5 => ?_) (fun c5 => ?_)
  · replace h := h.1 c5
    exact ww_J6_afterNodeAccess_141 X ho hoc  hB (lv_sub hl [1, 2] rfl) h
  · replace h := h.2 c5
    refine z_aload_n (x := x1) hx hb dJ6_afterNodeAccess_32 rfl (lv_at hl 2 rfl) ?_
    obtain ⟨h2, h⟩ := h
    refine z_castR X hB.1 kc_J42 (by decide) h2 q1772 (Or.inl rfl) dJ6_afterNodeAccess_33 ?_
    refine z_astore (x := x1) (lv' := [(4, va_rf x1), (2, va_rf y4), (0, .ref o), (1, va_rf x1)]) hx hb dJ6_afterNodeAccess_36 hl (by decide) rfl (fun ls hl9 => ?_)
    replace hl := hl9
    clear hl9
    refine z_aload (x := x1) hx hb dJ6_afterNodeAccess_38 (lv_at hl 0 rfl) ?_
    obtain ⟨a6, rfl, h⟩ := h
    obtain ⟨hk_a6, h⟩ := h
    refine z_getq X hB.1 kc_J42 in_J42 (j := 4) (Nat.le_of_ble_eq_true rfl) q1781 (fun _ h => h) rfl (by decide) hk_a6 dJ6_afterNodeAccess_40 ?_
    obtain ⟨y7, ey7⟩ : ∃ z : Option Nat, z = (Q a6 4) := ⟨_, rfl⟩
    replace h := h y7 ey7
    refine z_stk (st' := [va_rf y7]) (by rw [ey7]) ?_
    refine z_astore (x := y7) (lv' := [(5, va_rf y7), (4, .ref a6), (2, va_rf y4), (0, .ref o), (1, .ref a6)]) hx hb dJ6_afterNodeAccess_43 hl (by decide) rfl (fun ls hl9 => ?_)
    replace hl := hl9
    clear hl9
    refine lv_aload (x := a6) hx hb dJ6_afterNodeAccess_45 (lv_at hl 1 rfl) ?_
    refine z_getq X hB.1 kc_J42 in_J42 (j := 5) (Nat.le_of_ble_eq_true rfl) q1783 (fun _ h => h) rfl (by decide) hk_a6 dJ6_afterNodeAccess_47 ?_
    obtain ⟨y8, ey8⟩ : ∃ z : Option Nat, z = (Q a6 5) := ⟨_, rfl⟩
    replace h := h y8 ey8
    refine z_stk (st' := [va_rf y8]) (by rw [ey8]) ?_
    refine z_astore (x := y8) (lv' := [(6, va_rf y8), (5, va_rf y7), (4, .ref a6), (2, va_rf y4), (0, .ref o), (1, .ref a6)]) hx hb dJ6_afterNodeAccess_50 hl (by decide) (by simp [z_cat, z_rfs, z_catq]) (fun ls hl9 => ?_)
    replace hl := hl9
    clear hl9
    refine lv_aload (x := a6) hx hb dJ6_afterNodeAccess_52 (lv_at hl 2 rfl) ?_
    refine lv_null hx hb dJ6_afterNodeAccess_54 ?_
    refine z_stk (st' := [va_rf none, .ref a6]) rfl ?_
    obtain ⟨hc_a6, h⟩ := h
    obtain ⟨Q9, eQ9⟩ : ∃ z, z = z_up Q a6 5 none := ⟨_, rfl⟩
    replace h := h Q9 eQ9
    refine z_putq (x := none) eQ9 tyJ42 X hB kc_J42 in_J42 tyJ42_ok nmJ42 (j := 5) (Nat.le_of_ble_eq_true rfl) q1783 (fun _ h => h) rfl rfl (by decide) hk_a6 hc_a6 rfl (Or.inl ⟨_, rfl⟩) dJ6_afterNodeAccess_55 (fun H locs hB => ?_)
    refine z_aload (x := y7) hx hb dJ6_afterNodeAccess_58 (lv_at hl 1 rfl) ?_
    refine z_ifnonnull (tgt := 72) hx hb dJ6_afterNodeAccess_60 (by decide) (fun a11 c10 => ?_) (fun c10 => ?_)
    · replace h := h.2 a11 c10
      subst c10
      refine lv_aload (x := a11) hx hb dJ6_afterNodeAccess_72 (lv_at hl 1 rfl) ?_
      refine z_aload (x := y8) hx hb dJ6_afterNodeAccess_74 (lv_at hl 0 rfl) ?_
      obtain ⟨hk_a11, h⟩ := h
      obtain ⟨hc_a11, h⟩ := h
      obtain ⟨Q13, eQ13⟩ : ∃ z, z = z_up Q9 a11 5 y8 := ⟨_, rfl⟩
      replace h := h Q13 eQ13
      refine z_putq (x := y8) eQ13 tyJ42 X hB kc_J42 in_J42 tyJ42_ok nmJ42 (j := 5) (Nat.le_of_ble_eq_true rfl) q1783 (fun _ h => h) rfl rfl (by decide) hk_a11 hc_a11 rfl (Or.inl ⟨_, rfl⟩) dJ6_afterNodeAccess_76 (fun H locs hB => ?_)
      exact ww_J6_afterNodeAccess_79 X ho hoc  hB (lv_sub hl [4, 3, 2, 1, 0] rfl) h
    · replace h := h.1 c10
      subst c10
      refine lv_aload_n (x := o) hx hb dJ6_afterNodeAccess_63 rfl (lv_at hl 4 rfl) ?_
      refine z_aload (x := y8) hx hb dJ6_afterNodeAccess_64 (lv_at hl 0 rfl) ?_
      obtain ⟨Q12, eQ12⟩ : ∃ z, z = z_up Q9 o 8 y8 := ⟨_, rfl⟩
      replace h := h Q12 eQ12
      refine z_putq (x := y8) eQ12 tyJ6 X hB kc_J6 in_J6 tyJ6_ok nmJ6 (j := 8) (Nat.le_of_ble_eq_true rfl) q1038 (fun _ h => h) rfl rfl (by decide) (z_fo hB ho (by decide)) (z_foc hB ho (by decide) hoc) rfl (Or.inl ⟨_, rfl⟩) dJ6_afterNodeAccess_66 (fun H locs hB => ?_)
      refine lv_goto (tgt := 79) hx hb dJ6_afterNodeAccess_69 (by decide) ?_
      exact ww_J6_afterNodeAccess_79 X ho hoc  hB (lv_sub hl [4, 3, 2, 1, 0] rfl) h
theorem ww_J6_afterNodeAccess_0 {co : Nat} {o : Nat} {Qk : z_T → z_I → z_Q → Prop} (X : z_X l G A p R s m args meth c cJ6_afterNodeAccess 7 RJ6 "afterNodeAccess" none 0 0 8 120) (ho : (T0 o).1 = 22) (hoc : (T0 o).2.2 = co) {T : z_T} {I : z_I} {Q : z_Q} {x1 : Option Nat} {H : Heap} {locs : List Loc} {ls : Array Slot} (hB : z_HB G (z_co co) A s.heap T0 I0 Q0 T I Q H locs) (hl : lv_has ls 7 [(0, .ref o), (1, va_rf x1)]) (h : wb_J6_afterNodeAccess_0 co o Qk T I Q x1) : W p l e R s m args below meth c H locs 0 0 (z_MQ below G (z_co co) A T0 I0 Q0 (z_qv Qk) z_no args s 0 0) (F0 m 0 ls []) := by
  obtain ⟨hx, hb, -⟩ := id X
  unfold wb_J6_afterNodeAccess_0 at h
  refine lv_aload_n (x := o) hx hb dJ6_afterNodeAccess_0 rfl (lv_at hl 0 rfl) ?_
  refine z_geti X hB.1 kc_J6 in_J6 (j := 11) (Nat.le_of_ble_eq_true rfl) q1043 (fun _ h => h) rfl (by decide) (z_fo hB ho (by decide)) dJ6_afterNodeAccess_1 ?_
  refine lv_iconst (v := 2) hx hb dJ6_afterNodeAccess_4 (by decide) ?_
  refine lv_icmp_eq (tgt := 22) hx hb dJ6_afterNodeAccess_5 (by decide) (fun c1 => ?_) (fun c1 => ?_)
  · replace h := h.1 c1
    exact ww_J6_afterNodeAccess_22 X ho hoc  hB (lv_sub hl [0, 1] rfl) h
  · replace h := h.2 c1
    refine lv_aload_n (x := o) hx hb dJ6_afterNodeAccess_8 rfl (lv_at hl 0 rfl) ?_
    refine z_geti X hB.1 kc_J6 in_J6 (j := 11) (Nat.le_of_ble_eq_true rfl) q1043 (fun _ h => h) rfl (by decide) (z_fo hB ho (by decide)) dJ6_afterNodeAccess_9 ?_
    refine lv_if_ne (tgt := 141) hx hb dJ6_afterNodeAccess_12 (by decide) (fun c2 => ?_) (fun c2 => ?_)
    · replace h := h.1 c2
      exact ww_J6_afterNodeAccess_141 X ho hoc  hB (lv_sub hl [0, 1] rfl) h
    · replace h := h.2 c2
      refine lv_aload_n (x := o) hx hb dJ6_afterNodeAccess_15 rfl (lv_at hl 0 rfl) ?_
      refine z_geti X hB.1 kc_J6 in_J6 (j := 10) (Nat.le_of_ble_eq_true rfl) q1042 (fun _ h => h) rfl (by decide) (z_fo hB ho (by decide)) dJ6_afterNodeAccess_16 ?_
      refine lv_if_eq (tgt := 141) hx hb dJ6_afterNodeAccess_19 (by decide) (fun c3 => ?_) (fun c3 => ?_)
      · replace h := h.1 c3
        exact ww_J6_afterNodeAccess_141 X ho hoc  hB (lv_sub hl [0, 1] rfl) h
      · replace h := h.2 c3
        exact ww_J6_afterNodeAccess_22 X ho hoc  hB (lv_sub hl [0, 1] rfl) h
theorem met_J6_afterNodeAccess {l : Launch} {G : z_E} {T : z_T} {I : z_I} {Q : z_Q} (co : Nat) (o : Nat) (x1 : Option Nat) (Qk : z_T → z_I → z_Q → Prop) (h : wp_J6_afterNodeAccess co T I Q o x1 Qk) : z_GM l G yJ6_afterNodeAccess (ws_ yJ6_afterNodeAccess cJ6_afterNodeAccess 7 none) 8 120 0 0 [.ref o, va_rf x1] (z_co co) T I Q (z_qv Qk) z_no := by
  obtain ⟨ho, hoc, h⟩ := h
  refine z_body (own := RJ6) (nm := "afterNodeAccess") (by decide +kernel) rfl rfl (by cases x1 <;> exact Nat.le_of_ble_eq_true rfl) (fun p e R s m below meth c A ls X hB hl => ?_)
  replace hl : lv_has ls 7 [(0, .ref o), (1, va_rf x1)] := by cases x1 <;> exact hl
  exact ww_J6_afterNodeAccess_0 X ho hoc hB hl h
end
