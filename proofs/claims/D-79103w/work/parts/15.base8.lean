/-! BASE 8: facts that go on through calls and new objects; stores of nullable references; copies; the thrown ones' words -/
set_option maxRecDepth 100000
abbrev z_co (co : Nat) : Nat → Prop := fun k => k = co
abbrev z_PR : Nat → Prop := fun k => 3 ≤ k
abbrev z_PL : Nat → Prop := fun k => 1 ≤ k
theorem z_coR {c : Nat} (h : 3 ≤ c) : ∀ k, z_co c k → z_PR k := fun k e => by show 3 ≤ k; have e : k = c := e; omega
theorem z_coL {c : Nat} (h : 1 ≤ c) : ∀ k, z_co c k → z_PL k := fun k e => by show 1 ≤ k; have e : k = c := e; omega
theorem z_coR0 {c : Nat} (h : 3 ≤ c) : ¬ z_co c 0 := fun e => by have e : 0 = c := e; omega
theorem z_coL0 {c : Nat} (h : 1 ≤ c) : ¬ z_co c 0 := fun e => by have e : 0 = c := e; omega
theorem z_RL {k : Nat} (h : z_PR k) : z_PL k := by have h : 3 ≤ k := h; show 1 ≤ k; omega
theorem z_R0 : ¬ z_PR 0 := by show ¬ 3 ≤ 0; omega

section ZK
variable {G : z_E} {P P' A : Nat → Prop} {H0 H : Heap} {T0 T T1 : z_T} {I0 I I1 : z_I} {Q0 Q Q1 : z_Q} {locs : List Loc} {a q n : Nat}
theorem z_fo (hB : z_HB G P A H0 T0 I0 Q0 T I Q H locs) (h : (T0 a).1 = n) (hn : n ≠ 0) : (T a).1 = n := by
  rw [hB.2.2.2.2.1.1 a (by rw [h]; exact hn)]; exact h
theorem z_fob (hB : z_HB G P A H0 T0 I0 Q0 T I Q H locs) (h : (T0 a).1 = 26 ∨ (T0 a).1 = 99) : (T a).1 = 26 ∨ (T a).1 = 99 := by
  rw [hB.2.2.2.2.1.1 a (by omega)]; exact h
theorem z_foc {p : Nat → Prop} (hB : z_HB G P A H0 T0 I0 Q0 T I Q H locs) (h : (T0 a).1 = n) (hn : n ≠ 0) (hc : p (T0 a).2.2) : p (T a).2.2 := by
  rw [hB.2.2.2.2.1.1 a (by rw [h]; exact hn)]; exact hc
theorem z_tk (hF : z_Fr P T I Q T1 I1 Q1) (h : (T a).1 = n) (hn : n ≠ 0) : (T1 a).1 = n := by
  rw [hF.1 a (by rw [h]; exact hn)]; exact h
theorem z_te (hF : z_Fr P T I Q T1 I1 Q1) (h : (T a).1 = n) (hn : n ≠ 0) : T1 a = T a := hF.1 a (by rw [h]; exact hn)
theorem z_tkb (hF : z_Fr P T I Q T1 I1 Q1) (h : (T a).1 = 26 ∨ (T a).1 = 99) : (T1 a).1 = 26 ∨ (T1 a).1 = 99 := by
  rw [hF.1 a (by omega)]; exact h
theorem z_tne {x : Nat × Nat × Nat} (e : T1 = z_t T q x) (h0 : (T q).1 = 0) (h : (T a).1 = n) (hn : n ≠ 0) : T1 a = T a := by
  subst e; exact z_t_ne (fun e => hn (by rw [← h, e, h0]))
theorem z_tn {x : Nat × Nat × Nat} (e : T1 = z_t T q x) (h0 : (T q).1 = 0) (h : (T a).1 = n) (hn : n ≠ 0) : (T1 a).1 = n := by
  rw [z_tne e h0 h hn]; exact h
theorem z_tnb {x : Nat × Nat × Nat} (e : T1 = z_t T q x) (h0 : (T q).1 = 0) (h : (T a).1 = 26 ∨ (T a).1 = 99) : (T1 a).1 = 26 ∨ (T1 a).1 = 99 := by
  rw [z_tne e h0 (n := (T a).1) rfl (by omega)]; exact h
theorem z_tq {k m c : Nat} (e : T1 = z_t T q (k, m, c)) : (T1 q).1 = k := by subst e; rw [z_t_at]
theorem z_tqc {k m c : Nat} (e : T1 = z_t T q (k, m, c)) : (T1 q).2.2 = c := by subst e; rw [z_t_at]
end ZK
theorem z_hat {ws : List Cond} (ps : List Nat) (hp : ws = ps.filterMap (fun i => lw_tbl[i]?)) (hg : ws.all (fun w => goodWord w || z_mv w) = true) : ∀ w ∈ ws, w ∈ lw_tbl ∧ (goodWord w = true ∨ z_mv w = true) := by
  intro w h
  have h1 := List.all_eq_true.mp hg w h
  rw [hp] at h
  obtain ⟨i, -, hi⟩ := List.mem_filterMap.mp h
  exact ⟨List.mem_of_getElem? hi, by simpa using h1⟩
theorem thr_RobotCell_18 : ∀ w ∈ vx_at0 "RobotCell" 18 "java/lang/IndexOutOfBoundsException" ["java/lang/RuntimeException", "java/lang/Exception"], w ∈ lw_tbl ∧ (goodWord w = true ∨ z_mv w = true) := z_hat [103, 228, 237, 247, 250, 252, 229, 230, 170, 171, 231, 236, 248, 489, 218, 490, 220, 491, 222, 232, 234, 224, 2403, 2404, 2405, 1550, 209, 1550, 1551, 1552, 1553, 211, 1553, 1554, 1555, 229, 213, 2402, 2394, 2395, 2396, 244, 2397, 2398, 2399, 2400, 227, 226, 2401] (by decide +kernel) (by decide +kernel)
theorem thr_RobotCell_3 : ∀ w ∈ vx_at0 "RobotCell" 3 "java/lang/IllegalArgumentException" ["java/lang/RuntimeException", "java/lang/Exception"], w ∈ lw_tbl ∧ (goodWord w = true ∨ z_mv w = true) := z_hat [103, 228, 237, 247, 250, 252, 229, 230, 170, 171, 231, 236, 248, 489, 218, 490, 220, 491, 222, 232, 234, 224, 2413, 2414, 2415, 1550, 209, 1550, 1551, 1552, 1553, 211, 1553, 1554, 1555, 229, 213, 2412, 207, 208, 215, 216, 217, 219, 221, 223, 227, 226, 225] (by decide +kernel) (by decide +kernel)
theorem thr_RobotCell_9 : ∀ w ∈ vx_at0 "RobotCell" 9 "java/lang/IllegalStateException" ["java/lang/RuntimeException", "java/lang/Exception"], w ∈ lw_tbl ∧ (goodWord w = true ∨ z_mv w = true) := z_hat [103, 228, 237, 247, 250, 252, 229, 230, 170, 171, 231, 236, 248, 489, 218, 490, 220, 491, 222, 232, 234, 224, 2461, 2462, 2463, 1550, 209, 1550, 1551, 1552, 1553, 211, 1553, 1554, 1555, 229, 213, 2460, 1000, 1001, 1002, 243, 1003, 1004, 1005, 1006, 227, 226, 1007] (by decide +kernel) (by decide +kernel)
theorem thr_RobotCell_21 : ∀ w ∈ vx_at0 "RobotCell" 21 "java/util/NoSuchElementException" ["java/lang/RuntimeException", "java/lang/Exception"], w ∈ lw_tbl ∧ (goodWord w = true ∨ z_mv w = true) := z_hat [103, 228, 237, 247, 250, 252, 229, 230, 170, 171, 231, 236, 248, 489, 218, 490, 220, 491, 222, 232, 234, 224, 1547, 1548, 1549, 1550, 209, 1550, 1551, 1552, 1553, 211, 1553, 1554, 1555, 229, 213, 2598, 1538, 1539, 1540, 246, 1541, 1542, 1543, 1544, 227, 226, 1545] (by decide +kernel) (by decide +kernel)
theorem thr_RobotCell_140 : ∀ w ∈ vx_at0 "RobotCell" 140 "java/lang/UnsupportedOperationException" ["java/lang/RuntimeException", "java/lang/Exception"], w ∈ lw_tbl ∧ (goodWord w = true ∨ z_mv w = true) := z_hat [103, 228, 237, 247, 250, 252, 229, 230, 170, 171, 231, 236, 248, 489, 218, 490, 220, 491, 222, 232, 234, 224, 2699, 2700, 2701, 1550, 209, 1550, 1551, 1552, 1553, 211, 1553, 1554, 1555, 229, 213, 2698, 2690, 2691, 2692, 245, 2693, 2694, 2695, 2696, 227, 226, 2697] (by decide +kernel) (by decide +kernel)
theorem thr_RobotCell_307 : ∀ w ∈ vx_at0 "RobotCell" 307 "java/lang/ArithmeticException" ["java/lang/RuntimeException", "java/lang/Exception"], w ∈ lw_tbl ∧ (goodWord w = true ∨ z_mv w = true) := z_hat [103, 228, 237, 247, 250, 252, 229, 230, 170, 171, 231, 236, 248, 489, 218, 490, 220, 491, 222, 232, 234, 224, 3001, 3002, 3003, 1550, 209, 1550, 1551, 1552, 1553, 211, 1553, 1554, 1555, 229, 213, 3000, 2982, 2993, 2994, 240, 2988, 2989, 2991, 2987, 227, 226, 2986] (by decide +kernel) (by decide +kernel)

section ZI
variable {p : Program} {l : Launch} {e : Env} {R : Room} {s : State} {m : MethodId} {args : Array Value} {below : List Frame} {meth : Method} {c : Code} {H : Heap} {locs : List Loc} {cells slots : Nat} {Qp : State → Prop}
variable {cc : ByteArray} {pc : Nat} {ls : Array Slot} {rest : List Value} {G : z_E} {P P' A : Nat → Prop} {T0 T : z_T} {I0 I I1 : z_I} {Q0 Q Q1 : z_Q} {nL mc ms fr lo : Nat} {own nm : String} {ret : Option FieldType}
theorem z_same {ref owner n d : String} (X : z_X l G A p R s m args meth c cc nL own nm ret mc ms fr lo) (h : Cond.sameField ref owner n d ∈ lw_all) : ∀ x, s.fieldFound? owner n d = some x → s.fieldFound? ref n d = some x := fun x hx => u_same (X.2.2.2.2.1 _ h) x hx
/-- what may stand in an array of references, by the array's kind -/
def z_stok (k n : Nat) : Prop := match k with
  | 2 => z_sto n
  | 3 => n = 5
  | 4 => n = 4
  | 5 => n = 23
  | _ => False
theorem z_aastX {a k : Nat} {i : Int32} {x : Option Nat} (X : z_X l G A p R s m args meth c cc nL own nm ret mc ms fr lo) (hB : z_HB G P A s.heap T0 I0 Q0 T I Q H locs) (hk : 2 ≤ k ∧ k < 6) (ha : (T a).1 = 100 + k) (hp : P (T a).2.2) (hin : vp_in i (T a).2.1) (hs : ∀ b, x = some b → z_stok k (T b).1) (hdg : decode cc pc = .ok (.aastore, 1))
    (kk : ∀ (H1 : Heap) (locs1 : List Loc), z_HB G P A s.heap T0 I0 Q0 T I (z_up Q a i.toNatClampNeg x) H1 locs1 → W p l e R s m args below meth c H1 locs1 cells slots Qp (F0 m (pc + 1) ls rest)) : W p l e R s m args below meth c H locs cells slots Qp (F0 m pc ls (va_rf x :: .int i :: .ref a :: rest)) := by
  have hk4 : k = 2 ∨ k = 3 ∨ k = 4 ∨ k = 5 := by omega
  cases x with
  | none =>
    rcases hk4 with rfl | rfl | rfl | rfl
    · exact z_aastN (k := 2) (E := "java/lang/Object") X hB (by simp) ha hp hin hdg kk
    · exact z_aastN (k := 3) (E := "RobotCell$Buffer") X hB (by simp) ha hp hin hdg kk
    · exact z_aastN (k := 4) (E := "RobotCell$Cell$Arm") X hB (by simp) ha hp hin hdg kk
    · exact z_aastN (k := 5) (E := "java/util/HashMap$Node") X hB (by simp) ha hp hin hdg kk
  | some o =>
    have h := hs o rfl
    rcases hk4 with rfl | rfl | rfl | rfl
    · exact z_aastO X hB ha hp hin h hdg kk
    · exact z_aast (k := 3) (E := "RobotCell$Buffer") X hB (by simp) ha hp hin kc_X3 (by decide) h (Or.inl rfl) hdg kk
    · exact z_aast (k := 4) (E := "RobotCell$Cell$Arm") X hB (by simp) ha hp hin kc_X4 (by decide) h (Or.inl rfl) hdg kk
    · exact z_aast (k := 5) (E := "java/util/HashMap$Node") X hB (by simp) ha hp hin kc_J42 (by decide) h (Or.inr q3805) hdg kk
theorem z_castR {x : Option Nat} {k index : Nat} {C name : String} {Tc : u_T} {N : Nat} (X : z_X l G A p R s m args meth c cc nL own nm ret mc ms fr lo) (hH : z_H G T I Q H) (hc : z_cl[k]? = some (C, Tc, N)) (hk : k < 89) (hx : ∀ a, x = some a → (T a).1 = k + 1) (hlink : Cond.classLink own index name ∈ lw_all) (hca : C = name ∨ Cond.castable C name ∈ lw_tbl) (hdg : decode cc pc = .ok (.checkcast index, 3))
    (kk : W p l e R s m args below meth c H locs cells slots Qp (F0 m (pc + 3) ls (va_rf x :: rest))) : W p l e R s m args below meth c H locs cells slots Qp (F0 m pc ls (va_rf x :: rest)) := by
  cases x with
  | none => exact lv_castN X.1 X.2.1 hdg kk
  | some a => exact z_castY X hH hc hk (hx a rfl) hlink hca hdg kk
theorem z_castIR {x : Option Nat} {index : Nat} (X : z_X l G A p R s m args meth c cc nL own nm ret mc ms fr lo) (hH : z_H G T I Q H) (hx : ∀ a, x = some a → (T a).1 = 26 ∨ (T a).1 = 99) (hlink : Cond.classLink own index RJ21 ∈ lw_all) (hdg : decode cc pc = .ok (.checkcast index, 3))
    (kk : W p l e R s m args below meth c H locs cells slots Qp (F0 m (pc + 3) ls (va_rf x :: rest))) : W p l e R s m args below meth c H locs cells slots Qp (F0 m pc ls (va_rf x :: rest)) := by
  cases x with
  | none => exact lv_castN X.1 X.2.1 hdg kk
  | some a => exact z_castI X hH (hx a rfl) hlink hdg kk
/-- a cast of a table -/
theorem z_castA {a index : Nat} (X : z_X l G A p R s m args meth c cc nL own nm ret mc ms fr lo) (hH : z_H G T I Q H) (ha : (T a).1 = 105) (hlink : Cond.classLink own index "[Ljava/util/HashMap$Node;" ∈ lw_all) (hdg : decode cc pc = .ok (.checkcast index, 3))
    (kk : W p l e R s m args below meth c H locs cells slots Qp (F0 m (pc + 3) ls (.ref a :: rest))) : W p l e R s m args below meth c H locs cells slots Qp (F0 m pc ls (.ref a :: rest)) := by
  obtain ⟨hx, hb, hml, hown, hts, hE, -⟩ := X
  exact va_castA hx hb hown (hts _ hlink) (z_P1 (z_ary (k := 5) hH ha)) 0 rfl (va_nmO (hE.1.2 5 _ rfl).2 rfl) hdg kk
-- copies
theorem z_nn {z : Int32} (hz : ¬ z < 0) : z.toInt = (z.toNatClampNeg : Int) := by
  have hz0 : (0 : Int) ≤ z.toInt := by
    have := Int32.not_lt.mp hz
    simpa using Int32.le_iff_toInt_le.mp this
  show z.toInt = ((z.toInt.toNat : Nat) : Int)
  omega
theorem z_copyi {a0 a index : Nat} {sp dp n : Int32} (X : z_X l G A p R s m args meth c cc nL own nm ret mc ms fr lo) (hB : z_HB G P A s.heap T0 I0 Q0 T I Q H locs) (hsize : ls.size = nL) (ha0 : (T a0).1 = 100) (ha : (T a).1 = 100) (hp : P (T a).2.2) (hr : ¬ sp < 0 ∧ ¬ dp < 0 ∧ ¬ n < 0 ∧ sp.toNatClampNeg + n.toNatClampNeg ≤ (T a0).2.1 ∧ dp.toNatClampNeg + n.toNatClampNeg ≤ (T a).2.1)
    (hlink : Cond.methodLink own index arraycopyName ∈ lw_all) (hframes : 1 ≤ fr) (hlocals : (rest.map fun v => v.category).sum + (nativeFrameWords "java/lang/System" "arraycopy" 5 + 11) ≤ lo) (hdg : decode cc pc = .ok (.invokestatic index, 3))
    (kk : ∀ (H1 : Heap) (locs1 : List Loc), z_HB G P A s.heap T0 I0 Q0 T (z_row I a (va_cpy (I a0) (I a) sp.toNatClampNeg dp.toNatClampNeg n.toNatClampNeg)) Q H1 locs1 → W p l e R s m args below meth c H1 locs1 cells slots Qp (F0 m (pc + 3) ls rest)) : W p l e R s m args below meth c H locs cells slots Qp (F0 m pc ls (.int n :: .int dp :: .ref a :: .int sp :: .ref a0 :: rest)) := by
  obtain ⟨hx, hb, hml, hown, hts, hE, -, -, -, hR1, hR2, hR3, hR4, -⟩ := X
  obtain ⟨h1, h2, h3, h4, h5⟩ := hr
  have hc0 : H[a0]? = some (vp_cell (G.2.1 0) ((T a0).2.1, .inl (I a0))) := z_ary (k := 0) hB.1 ha0
  have hc1 : H[a]? = some (vp_cell (G.2.1 0) ((T a).2.1, .inl (I a))) := z_ary (k := 0) hB.1 ha
  have hK0 := hE.1.2 0 _ rfl
  intro U hU XX
  obtain ⟨-, k0, hk0, cm0, hkk0⟩ := hK0.1 (T a0).2.1 (fun j => .int (I a0 j))
  obtain ⟨-, k1, hk1, cm1, hkk1⟩ := hK0.1 (T a).2.1 (fun j => .int (I a j))
  obtain ⟨vm', X', step⟩ := XX.arraycopy hx hown (hts _ hlink) (hts _ q332) (hts _ q331) (hts _ q114) (src := a0) (dst := a) (cs := vp_cell (G.2.1 0) ((T a0).2.1, .inl (I a0))) (cd := vp_cell (G.2.1 0) ((T a).2.1, .inl (I a))) (srcPos := sp) (destPos := dp) (n := n) (by rw [hU]; exact hc0) (by rw [hU]; exact hc1)
    (fun _ h => by cases h) (fun _ h => by cases h) (fun h => by cases h) (fun h => by cases h) hk0 hk1 hkk0 hkk1 (by simp [refKind]) h1 h2 h3
    (by rw [z_nn h1, z_nn h3]; show ¬ _ > ((arrV (G.2.1 0) (T a0).2.1 (fun j => .int (I a0 j))).slots.size : Int); rw [arrV_size]; omega)
    (by rw [z_nn h2, z_nn h3]; show ¬ _ > ((arrV (G.2.1 0) (T a).2.1 (fun j => .int (I a j))).slots.size : Int); rw [arrV_size]; omega)
    (fun vm₁ _ i hi => by
      have e : (vp_cell (G.2.1 0) ((T a0).2.1, .inl (I a0))).slots.getD (sp.toNatClampNeg + i) .null = .int (I a0 (sp.toNatClampNeg + i)) := by
        show (arrV (G.2.1 0) (T a0).2.1 (fun j => .int (I a0 j))).slots.getD _ _ = _
        rw [Array.getD_eq_getD_getElem?, arrV_read _ _ (by omega)]
        rfl
      exact ⟨by rw [e]; rfl, by rw [e]; exact trivial⟩)
    (g := F0 m pc ls (.int n :: .int dp :: .ref a :: .int sp :: .ref a0 :: rest)) rfl (by rw [hml]; exact hsize) (rest := rest) rfl (by rw [hb]; exact hdg) (Nat.le_trans hframes hR3) (by show 2 * 0 + _ + _ ≤ _; omega)
  have e1 : copied (vp_cell (G.2.1 0) ((T a0).2.1, .inl (I a0))) (vp_cell (G.2.1 0) ((T a).2.1, .inl (I a))) sp dp n = vp_cell (G.2.1 0) ((T a).2.1, .inl (va_cpy (I a0) (I a) sp.toNatClampNeg dp.toNatClampNeg n.toNatClampNeg)) := va_copied (fun z => .int z) (G.2.1 0) (G.2.1 0) (I a0) (I a) h4
  rw [e1] at X' step
  have hl : a < H.size := (Array.getElem?_eq_some_iff.mp hc1).1
  generalize hC : vp_cell (G.2.1 0) ((T a).2.1, .inl (va_cpy (I a0) (I a) sp.toNatClampNeg dp.toNatClampNeg n.toNatClampNeg)) = CC at X' step
  have hheap : ((U.setVm vm').setCell a CC).heap = H.setIfInBounds a CC := by rw [← hU]; rfl
  have oq : ∀ q : Nat, q ≠ a → (H.setIfInBounds a CC)[q]? = H[q]? := fun q hq => by simp [Array.getElem?_setIfInBounds, Ne.symm hq]
  have hAt : A a := hB.2.2.1 a (by omega) (fun e => hB.2.2.2.2.2.2 (by rw [← e]; exact hp))
  have hB1 := z_HB_put (k := 0) (I1 := z_row I a (va_cpy (I a0) (I a) sp.toNatClampNeg dp.toNatClampNeg n.toNatClampNeg)) (Q1 := Q) hB (by omega) hp (by simp) oq (z_atA (k := 0) ha (by rw [z_row_at]; show (H.setIfInBounds a CC)[a]? = _; rw [← hC]; simp [Array.getElem?_setIfInBounds, hl]; rfl)) (fun q hq => z_row_ne hq) (fun _ _ => rfl)
  obtain ⟨b1, b2, b3, b4, b5, b6, b7⟩ := hB1
  obtain ⟨t, a1, b9⟩ := kk _ _ ⟨b1, ⟨b2.1, b2.2.1, fun q hq => by
      rcases List.mem_append.mp hq with h | h
      · exact hB.2.1.2.2 q h
      · obtain ⟨z, -, hz⟩ := List.mem_map.mp h
        rw [← hz]
        exact hAt⟩, b3, b4, b5, b6, b7⟩ _ hheap X'
  exact ⟨t, step t a1, b9⟩
theorem z_anyS {b : Nat} (X : z_X l G A p R s m args meth c cc nL own nm ret mc ms fr lo) (hH : z_H G T I Q H) (ho : z_sto (T b).1) : va_Any "java/lang/Object" s H b := by
  have key : ∀ (ci : Nat) (C : String) (Tc : u_T) (N : Nat), z_cl[ci]? = some (C, Tc, N) → ci < 89 → (T b).1 = ci + 1 → Cond.castable C "java/lang/Object" ∈ lw_tbl → va_Any "java/lang/Object" s H b := fun ci C Tc N h1 h2 h3 h4 => by
    obtain ⟨q', g0, cell, g1, g2, g3, -⟩ := z_obj hH h3 h2
    obtain ⟨hx, hb, hml, hown, hts, hE, -⟩ := X
    have hcls := (hE.1.1 ci _ h1).2
    obtain ⟨kC, hkC, -⟩ := hcls.2
    obtain ⟨c0, t1, f1, f2, f3⟩ := Cond.castable_spec (va_Nw.use (A := args) rfl (hE.2.1 _ (z_in h4 rfl)))
    cases hcls.1.symm.trans f1
    exact ⟨cell, g1, by rw [g3]; rfl, ⟨kC, by rw [g2]; exact hkC⟩, fun comp hcomp => by cases hcomp.symm.trans f2; rw [g2]; exact f3⟩
  rcases ho with h | h | h | h | h | h | h | h
  · exact key _ _ _ _ kc_X2 (by decide) h q3765
  · exact key _ _ _ _ kc_X6 (by decide) h q3789
  · exact key _ _ _ _ kc_X11 (by decide) h q3797
  · exact key _ _ _ _ kc_X15 (by decide) h q3801
  · exact key _ _ _ _ kc_X16 (by decide) h q3802
  · exact key _ _ _ _ kc_X17 (by decide) h q3803
  · exact key _ _ _ _ kc_J21 (by decide) h q3792
  · obtain ⟨hx, hb, hml, hown, hts, hE, -⟩ := X
    have hb9 := hH b (by omega)
    unfold z_at at hb9
    rw [if_pos h] at hb9
    obtain ⟨cellV, g1, g2, g3, g4, g5⟩ := hb9
    have hcls := (hE.1.1 25 _ kc_J21).2
    obtain ⟨kC, hkC, -⟩ := hcls.2
    obtain ⟨c0, t1, f1, f2, f3⟩ := Cond.castable_spec (va_Nw.use (A := args) rfl (hE.2.1 _ (z_in q3792 rfl)))
    cases hcls.1.symm.trans f1
    exact ⟨cellV, g1, g2, ⟨kC, by rw [g4]; exact hkC⟩, fun comp hcomp => by cases hcomp.symm.trans f2; rw [g4]; exact f3⟩
theorem z_copyq {a0 a index : Nat} {sp dp n : Int32} (X : z_X l G A p R s m args meth c cc nL own nm ret mc ms fr lo) (hB : z_HB G P A s.heap T0 I0 Q0 T I Q H locs) (hsize : ls.size = nL) (ha0 : (T a0).1 = 102) (ha : (T a).1 = 102) (hp : P (T a).2.2) (hr : ¬ sp < 0 ∧ ¬ dp < 0 ∧ ¬ n < 0 ∧ sp.toNatClampNeg + n.toNatClampNeg ≤ (T a0).2.1 ∧ dp.toNatClampNeg + n.toNatClampNeg ≤ (T a).2.1)
    (hel : ∀ i, i < n.toNatClampNeg → ∀ b, Q a0 (sp.toNatClampNeg + i) = some b → z_sto (T b).1)
    (hlink : Cond.methodLink own index arraycopyName ∈ lw_all) (hframes : 1 ≤ fr) (hlocals : (rest.map fun v => v.category).sum + (nativeFrameWords "java/lang/System" "arraycopy" 5 + 11) ≤ lo) (hdg : decode cc pc = .ok (.invokestatic index, 3))
    (kk : ∀ (H1 : Heap) (locs1 : List Loc), z_HB G P A s.heap T0 I0 Q0 T I (z_row Q a (va_cpy (Q a0) (Q a) sp.toNatClampNeg dp.toNatClampNeg n.toNatClampNeg)) H1 locs1 → W p l e R s m args below meth c H1 locs1 cells slots Qp (F0 m (pc + 3) ls rest)) : W p l e R s m args below meth c H locs cells slots Qp (F0 m pc ls (.int n :: .int dp :: .ref a :: .int sp :: .ref a0 :: rest)) := by
  have hany := fun b (h : z_sto (T b).1) => z_anyS X hB.1 h
  obtain ⟨hx, hb, hml, hown, hts, hE, -, -, -, hR1, hR2, hR3, hR4, -⟩ := X
  obtain ⟨h1, h2, h3, h4, h5⟩ := hr
  have hc0 : H[a0]? = some (arrV (G.2.1 2) (T a0).2.1 (fun j => va_rf (Q a0 j))) := z_ary (k := 2) hB.1 ha0
  have hc1 : H[a]? = some (arrV (G.2.1 2) (T a).2.1 (fun j => va_rf (Q a j))) := z_ary (k := 2) hB.1 ha
  have hK0 := hE.1.2 2 _ rfl
  intro U hU XX
  obtain ⟨-, k0, hk0, cm0, hkk0⟩ := hK0.1 (T a0).2.1 (fun j => va_rf (Q a0 j))
  obtain ⟨-, k1, hk1, cm1, hkk1⟩ := hK0.1 (T a).2.1 (fun j => va_rf (Q a j))
  obtain ⟨vm', X', step⟩ := XX.arraycopy hx hown (hts _ hlink) (hts _ q332) (hts _ q331) (hts _ q114) (src := a0) (dst := a) (cs := arrV (G.2.1 2) (T a0).2.1 (fun j => va_rf (Q a0 j))) (cd := arrV (G.2.1 2) (T a).2.1 (fun j => va_rf (Q a j))) (srcPos := sp) (destPos := dp) (n := n) (by rw [hU]; exact hc0) (by rw [hU]; exact hc1)
    (fun _ h => by cases h) (fun _ h => by cases h) (fun h => by cases h) (fun h => by cases h) hk0 hk1 hkk0 hkk1 rfl h1 h2 h3
    (by rw [z_nn h1, z_nn h3, arrV_size]; omega)
    (by rw [z_nn h2, z_nn h3, arrV_size]; omega)
    (fun vm₁ hal i hi => by
      have e : (arrV (G.2.1 2) (T a0).2.1 (fun j => va_rf (Q a0 j))).slots.getD (sp.toNatClampNeg + i) .null = va_rf (Q a0 (sp.toNatClampNeg + i)) := by
        rw [Array.getD_eq_getD_getElem?, arrV_read _ _ (by omega)]
        rfl
      rw [e]
      cases hy : Q a0 (sp.toNatClampNeg + i) with
      | none => exact ⟨rfl, trivial⟩
      | some y =>
        obtain ⟨cellV, g1, g2, ⟨kC, hkC⟩, hasg⟩ := hany y (hel i hi y hy)
        obtain ⟨kA, comp, r1, r2, r3, -⟩ := hK0.2
        cases hk1.symm.trans r1
        cases hkk1.symm.trans r2
        obtain ⟨kE, hkE, -⟩ := Vm.findClass_spec r3
        obtain ⟨kC', hkC', -⟩ := hal.2.2 _ _ hkC
        obtain ⟨kE', hkE', -⟩ := hal.2.2 _ _ hkE
        refine ⟨rfl, cellV, (show U.heap[y]? = some cellV by rw [hU]; exact g1), (fun q h => by rw [h] at g2; cases g2), ⟨kC', hkC'⟩, ?_, ?_⟩
        · exact ⟨kE', hkE'⟩
        · show vm₁.assignable _ _ = true
          rw [hal.assignable]
          exact hasg _ r3)
    (g := F0 m pc ls (.int n :: .int dp :: .ref a :: .int sp :: .ref a0 :: rest)) rfl (by rw [hml]; exact hsize) (rest := rest) rfl (by rw [hb]; exact hdg) (Nat.le_trans hframes hR3) (by show 2 * 0 + _ + _ ≤ _; omega)
  have e1 : copied (arrV (G.2.1 2) (T a0).2.1 (fun j => va_rf (Q a0 j))) (arrV (G.2.1 2) (T a).2.1 (fun j => va_rf (Q a j))) sp dp n = arrV (G.2.1 2) (T a).2.1 (fun j => va_rf (va_cpy (Q a0) (Q a) sp.toNatClampNeg dp.toNatClampNeg n.toNatClampNeg j)) := va_copied (fun z => va_rf z) (G.2.1 2) (G.2.1 2) (Q a0) (Q a) h4
  rw [e1] at X' step
  have hl : a < H.size := (Array.getElem?_eq_some_iff.mp hc1).1
  generalize hC : arrV (G.2.1 2) (T a).2.1 (fun j => va_rf (va_cpy (Q a0) (Q a) sp.toNatClampNeg dp.toNatClampNeg n.toNatClampNeg j)) = CC at X' step
  have hheap : ((U.setVm vm').setCell a CC).heap = H.setIfInBounds a CC := by rw [← hU]; rfl
  have oq : ∀ q : Nat, q ≠ a → (H.setIfInBounds a CC)[q]? = H[q]? := fun q hq => by simp [Array.getElem?_setIfInBounds, Ne.symm hq]
  have hAt : A a := hB.2.2.1 a (by omega) (fun e => hB.2.2.2.2.2.2 (by rw [← e]; exact hp))
  have hB1 := z_HB_put (k := 0) (I1 := I) (Q1 := z_row Q a (va_cpy (Q a0) (Q a) sp.toNatClampNeg dp.toNatClampNeg n.toNatClampNeg)) hB (by omega) hp (by simp) oq (z_atA (k := 2) ha (by rw [z_row_at]; show (H.setIfInBounds a CC)[a]? = _; rw [← hC]; simp [Array.getElem?_setIfInBounds, hl]; rfl)) (fun _ _ => rfl) (fun q hq => z_row_ne hq)
  obtain ⟨b1, b2, b3, b4, b5, b6, b7⟩ := hB1
  obtain ⟨t, a1, b9⟩ := kk _ _ ⟨b1, ⟨b2.1, b2.2.1, fun q hq => by
      rcases List.mem_append.mp hq with h | h
      · exact hB.2.1.2.2 q h
      · obtain ⟨z, -, hz⟩ := List.mem_map.mp h
        rw [← hz]
        exact hAt⟩, b3, b4, b5, b6, b7⟩ _ hheap X'
  exact ⟨t, step t a1, b9⟩
end ZI
theorem z_dvX1 : ∀ j, j < 5 → defaultValue (tyX1 j) = vp_V (z_fv (z_sg 0) 0 (fun _ => 0) (fun _ => none)) j := fun j h => match j, h with
  | 0, _ => rfl
  | 1, _ => rfl
  | 2, _ => rfl
  | 3, _ => rfl
  | 4, _ => rfl
  | j + 5, h => absurd h (by omega)
theorem z_dvX5 : ∀ j, j < 63 → defaultValue (tyX5 j) = vp_V (z_fv (z_sg 1) 0 (fun _ => 0) (fun _ => none)) j := fun j h => match j, h with
  | 0, _ => rfl
  | 1, _ => rfl
  | 2, _ => rfl
  | 3, _ => rfl
  | 4, _ => rfl
  | 5, _ => rfl
  | 6, _ => rfl
  | 7, _ => rfl
  | 8, _ => rfl
  | 9, _ => rfl
  | 10, _ => rfl
  | 11, _ => rfl
  | 12, _ => rfl
  | 13, _ => rfl
  | 14, _ => rfl
  | 15, _ => rfl
  | 16, _ => rfl
  | 17, _ => rfl
  | 18, _ => rfl
  | 19, _ => rfl
  | 20, _ => rfl
  | 21, _ => rfl
  | 22, _ => rfl
  | 23, _ => rfl
  | 24, _ => rfl
  | 25, _ => rfl
  | 26, _ => rfl
  | 27, _ => rfl
  | 28, _ => rfl
  | 29, _ => rfl
  | 30, _ => rfl
  | 31, _ => rfl
  | 32, _ => rfl
  | 33, _ => rfl
  | 34, _ => rfl
  | 35, _ => rfl
  | 36, _ => rfl
  | 37, _ => rfl
  | 38, _ => rfl
  | 39, _ => rfl
  | 40, _ => rfl
  | 41, _ => rfl
  | 42, _ => rfl
  | 43, _ => rfl
  | 44, _ => rfl
  | 45, _ => rfl
  | 46, _ => rfl
  | 47, _ => rfl
  | 48, _ => rfl
  | 49, _ => rfl
  | 50, _ => rfl
  | 51, _ => rfl
  | 52, _ => rfl
  | 53, _ => rfl
  | 54, _ => rfl
  | 55, _ => rfl
  | 56, _ => rfl
  | 57, _ => rfl
  | 58, _ => rfl
  | 59, _ => rfl
  | 60, _ => rfl
  | 61, _ => rfl
  | 62, _ => rfl
  | j + 63, h => absurd h (by omega)
theorem z_dvX2 : ∀ j, j < 12 → defaultValue (tyX2 j) = vp_V (z_fv (z_sg 2) 0 (fun _ => 0) (fun _ => none)) j := fun j h => match j, h with
  | 0, _ => rfl
  | 1, _ => rfl
  | 2, _ => rfl
  | 3, _ => rfl
  | 4, _ => rfl
  | 5, _ => rfl
  | 6, _ => rfl
  | 7, _ => rfl
  | 8, _ => rfl
  | 9, _ => rfl
  | 10, _ => rfl
  | 11, _ => rfl
  | j + 12, h => absurd h (by omega)
theorem z_dvX4 : ∀ j, j < 14 → defaultValue (tyX4 j) = vp_V (z_fv (z_sg 3) 0 (fun _ => 0) (fun _ => none)) j := fun j h => match j, h with
  | 0, _ => rfl
  | 1, _ => rfl
  | 2, _ => rfl
  | 3, _ => rfl
  | 4, _ => rfl
  | 5, _ => rfl
  | 6, _ => rfl
  | 7, _ => rfl
  | 8, _ => rfl
  | 9, _ => rfl
  | 10, _ => rfl
  | 11, _ => rfl
  | 12, _ => rfl
  | 13, _ => rfl
  | j + 14, h => absurd h (by omega)
theorem z_dvX3 : ∀ j, j < 6 → defaultValue (tyX3 j) = vp_V (z_fv (z_sg 4) 0 (fun _ => 0) (fun _ => none)) j := fun j h => match j, h with
  | 0, _ => rfl
  | 1, _ => rfl
  | 2, _ => rfl
  | 3, _ => rfl
  | 4, _ => rfl
  | 5, _ => rfl
  | j + 6, h => absurd h (by omega)
theorem z_dvX6 : ∀ j, j < 5 → defaultValue (tyX6 j) = vp_V (z_fv (z_sg 5) 0 (fun _ => 0) (fun _ => none)) j := fun j h => match j, h with
  | 0, _ => rfl
  | 1, _ => rfl
  | 2, _ => rfl
  | 3, _ => rfl
  | 4, _ => rfl
  | j + 5, h => absurd h (by omega)
theorem z_dvX8 : ∀ j, j < 7 → defaultValue (tyX8 j) = vp_V (z_fv (z_sg 6) 0 (fun _ => 0) (fun _ => none)) j := fun j h => match j, h with
  | 0, _ => rfl
  | 1, _ => rfl
  | 2, _ => rfl
  | 3, _ => rfl
  | 4, _ => rfl
  | 5, _ => rfl
  | 6, _ => rfl
  | j + 7, h => absurd h (by omega)
theorem z_dvX11 : ∀ j, j < 1 → defaultValue (tyX11 j) = vp_V (z_fv (z_sg 7) 0 (fun _ => 0) (fun _ => none)) j := fun j h => match j, h with
  | 0, _ => rfl
  | j + 1, h => absurd h (by omega)
theorem z_dvX7 : ∀ j, j < 2 → defaultValue (tyX7 j) = vp_V (z_fv (z_sg 8) 0 (fun _ => 0) (fun _ => none)) j := fun j h => match j, h with
  | 0, _ => rfl
  | 1, _ => rfl
  | j + 2, h => absurd h (by omega)
theorem z_dvX9 : ∀ j, j < 3 → defaultValue (tyX9 j) = vp_V (z_fv (z_sg 9) 0 (fun _ => 0) (fun _ => none)) j := fun j h => match j, h with
  | 0, _ => rfl
  | 1, _ => rfl
  | 2, _ => rfl
  | j + 3, h => absurd h (by omega)
theorem z_dvX10 : ∀ j, j < 8 → defaultValue (tyX10 j) = vp_V (z_fv (z_sg 10) 0 (fun _ => 0) (fun _ => none)) j := fun j h => match j, h with
  | 0, _ => rfl
  | 1, _ => rfl
  | 2, _ => rfl
  | 3, _ => rfl
  | 4, _ => rfl
  | 5, _ => rfl
  | 6, _ => rfl
  | 7, _ => rfl
  | j + 8, h => absurd h (by omega)
theorem z_dvX12 : ∀ j, j < 2 → defaultValue (tyX12 j) = vp_V (z_fv (z_sg 11) 0 (fun _ => 0) (fun _ => none)) j := fun j h => match j, h with
  | 0, _ => rfl
  | 1, _ => rfl
  | j + 2, h => absurd h (by omega)
theorem z_dvX15 : ∀ j, j < 2 → defaultValue (tyX15 j) = vp_V (z_fv (z_sg 12) 0 (fun _ => 0) (fun _ => none)) j := fun j h => match j, h with
  | 0, _ => rfl
  | 1, _ => rfl
  | j + 2, h => absurd h (by omega)
theorem z_dvX16 : ∀ j, j < 2 → defaultValue (tyX16 j) = vp_V (z_fv (z_sg 13) 0 (fun _ => 0) (fun _ => none)) j := fun j h => match j, h with
  | 0, _ => rfl
  | 1, _ => rfl
  | j + 2, h => absurd h (by omega)
theorem z_dvX17 : ∀ j, j < 3 → defaultValue (tyX17 j) = vp_V (z_fv (z_sg 14) 0 (fun _ => 0) (fun _ => none)) j := fun j h => match j, h with
  | 0, _ => rfl
  | 1, _ => rfl
  | 2, _ => rfl
  | j + 3, h => absurd h (by omega)
theorem z_dvX13 : ∀ j, j < 7 → defaultValue (tyX13 j) = vp_V (z_fv (z_sg 15) 0 (fun _ => 0) (fun _ => none)) j := fun j h => match j, h with
  | 0, _ => rfl
  | 1, _ => rfl
  | 2, _ => rfl
  | 3, _ => rfl
  | 4, _ => rfl
  | 5, _ => rfl
  | 6, _ => rfl
  | j + 7, h => absurd h (by omega)
theorem z_dvJ31 : ∀ j, j < 3 → defaultValue (tyJ31 j) = vp_V (z_fv (z_sg 16) 0 (fun _ => 0) (fun _ => none)) j := fun j h => match j, h with
  | 0, _ => rfl
  | 1, _ => rfl
  | 2, _ => rfl
  | j + 3, h => absurd h (by omega)
theorem z_dvJ46 : ∀ j, j < 4 → defaultValue (tyJ46 j) = vp_V (z_fv (z_sg 17) 0 (fun _ => 0) (fun _ => none)) j := fun j h => match j, h with
  | 0, _ => rfl
  | 1, _ => rfl
  | 2, _ => rfl
  | 3, _ => rfl
  | j + 4, h => absurd h (by omega)
theorem z_dvJ30 : ∀ j, j < 3 → defaultValue (tyJ30 j) = vp_V (z_fv (z_sg 18) 0 (fun _ => 0) (fun _ => none)) j := fun j h => match j, h with
  | 0, _ => rfl
  | 1, _ => rfl
  | 2, _ => rfl
  | j + 3, h => absurd h (by omega)
theorem z_dvJ47 : ∀ j, j < 4 → defaultValue (tyJ47 j) = vp_V (z_fv (z_sg 19) 0 (fun _ => 0) (fun _ => none)) j := fun j h => match j, h with
  | 0, _ => rfl
  | 1, _ => rfl
  | 2, _ => rfl
  | 3, _ => rfl
  | j + 4, h => absurd h (by omega)
theorem z_dvJ3 : ∀ j, j < 1 → defaultValue (tyJ3 j) = vp_V (z_fv (z_sg 20) 0 (fun _ => 0) (fun _ => none)) j := fun j h => match j, h with
  | 0, _ => rfl
  | j + 1, h => absurd h (by omega)
theorem z_dvJ6 : ∀ j, j < 12 → defaultValue (tyJ6 j) = vp_V (z_fv (z_sg 21) 0 (fun _ => 0) (fun _ => none)) j := fun j h => match j, h with
  | 0, _ => rfl
  | 1, _ => rfl
  | 2, _ => rfl
  | 3, _ => rfl
  | 4, _ => rfl
  | 5, _ => rfl
  | 6, _ => rfl
  | 7, _ => rfl
  | 8, _ => rfl
  | 9, _ => rfl
  | 10, _ => rfl
  | 11, _ => rfl
  | j + 12, h => absurd h (by omega)
theorem z_dvJ42 : ∀ j, j < 6 → defaultValue (tyJ42 j) = vp_V (z_fv (z_sg 22) 0 (fun _ => 0) (fun _ => none)) j := fun j h => match j, h with
  | 0, _ => rfl
  | 1, _ => rfl
  | 2, _ => rfl
  | 3, _ => rfl
  | 4, _ => rfl
  | 5, _ => rfl
  | j + 6, h => absurd h (by omega)
theorem z_dvJ35 : ∀ j, j < 2 → defaultValue (tyJ35 j) = vp_V (z_fv (z_sg 23) 0 (fun _ => 0) (fun _ => none)) j := fun j h => match j, h with
  | 0, _ => rfl
  | 1, _ => rfl
  | j + 2, h => absurd h (by omega)
theorem z_dvJ39 : ∀ j, j < 5 → defaultValue (tyJ39 j) = vp_V (z_fv (z_sg 24) 0 (fun _ => 0) (fun _ => none)) j := fun j h => match j, h with
  | 0, _ => rfl
  | 1, _ => rfl
  | 2, _ => rfl
  | 3, _ => rfl
  | 4, _ => rfl
  | j + 5, h => absurd h (by omega)
theorem z_dvJ21 : ∀ j, j < 1 → defaultValue (tyJ21 j) = vp_V (z_fv (z_sg 25) 0 (fun _ => 0) (fun _ => none)) j := fun j h => match j, h with
  | 0, _ => rfl
  | j + 1, h => absurd h (by omega)
