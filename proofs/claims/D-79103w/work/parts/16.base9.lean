/-! BASE 9: mirrors, the cache of boxes, statics of Throwable -/
set_option maxRecDepth 100000

abbrev z_KK : Type := z_K × Nat
section ZL
variable {p : Program} {l : Launch} {e : Env} {R : Room} {s : State} {m : MethodId} {args : Array Value} {below : List Frame} {meth : Method} {c : Code} {H : Heap} {locs : List Loc} {cells slots : Nat} {Qp : State → Prop}
variable {cc : ByteArray} {pc : Nat} {ls : Array Slot} {rest : List Value} {G : z_E} {P P' A : Nat → Prop} {T0 T : z_T} {I0 I I1 : z_I} {Q0 Q Q1 : z_Q} {nL mc ms fr lo : Nat} {own nm : String} {ret : Option FieldType}
theorem z_ldcM {index : Nat} (X : z_X l G A p R s m args meth c cc nL own nm ret mc ms fr lo) (hlink : Cond.classLink own index "[Ljava/lang/Object;" ∈ lw_all) (hdg : decode cc pc = .ok (.ldc index, 2))
    (kk : W p l e R s m args below meth c H locs cells slots Qp (F0 m (pc + 2) ls (.ref G.2.2.2 :: rest))) : W p l e R s m args below meth c H locs cells slots Qp (F0 m pc ls rest) := by
  obtain ⟨hx, hb, hml, hown, hts, hE, -⟩ := X
  exact va_ldcM hx hb hown (hts _ hlink) hE.2.2.2.2.2.2.2.2.2.2.2.2 hdg kk
theorem z_getC {a index : Nat} (X : z_X l G A p R s m args meth c cc nL own nm ret mc ms fr lo) (hH : z_H G T I Q H) (hsize : ls.size = nL) (ha : (T a).1 = 102) (hlink : Cond.methodLink own index ⟨"java/lang/Object", "getClass", "()Ljava/lang/Class;"⟩ ∈ lw_all) (hframes : 1 ≤ fr) (hlocals : (rest.map fun v => v.category).sum + 14 ≤ lo) (hdg : decode cc pc = .ok (.invokevirtual index, 3))
    (kk : W p l e R s m args below meth c H locs cells slots Qp (F0 m (pc + 3) ls (.ref G.2.2.2 :: rest))) : W p l e R s m args below meth c H locs cells slots Qp (F0 m pc ls (.ref a :: rest)) := by
  obtain ⟨hx, hb, hml, hown, hts, hE, -, -, -, hR1, hR2, hR3, hR4, -⟩ := X
  have h0 := z_ary (k := 2) hH ha
  have h : H[a]? = some (arrV (G.2.1 2) (T a).2.1 (fun j => va_rf (Q a j))) := h0
  exact va_getC hx hb (by rw [hml]; exact hsize.symm) hown (hts _ hlink) (va_Nw.use (A := args) rfl (hE.2.1 _ (z_in q3809 rfl))) (hts _ q3808) (hts _ q876) (hts _ q921) hE.2.2.2.2.2.2.2.2.2.2.2.2 ⟨_, h, rfl, va_nmO (hE.1.2 2 _ rfl).2 rfl⟩ (Nat.le_trans hframes hR3) (by omega) hdg kk
theorem z_castA2 {a index : Nat} (X : z_X l G A p R s m args meth c cc nL own nm ret mc ms fr lo) (hH : z_H G T I Q H) (ha : (T a).1 = 102) (hlink : Cond.classLink own index "[Ljava/lang/Object;" ∈ lw_all) (hdg : decode cc pc = .ok (.checkcast index, 3))
    (kk : W p l e R s m args below meth c H locs cells slots Qp (F0 m (pc + 3) ls (.ref a :: rest))) : W p l e R s m args below meth c H locs cells slots Qp (F0 m pc ls (.ref a :: rest)) := by
  obtain ⟨hx, hb, hml, hown, hts, hE, -⟩ := X
  exact va_castA hx hb hown (hts _ hlink) (z_P1 (z_ary (k := 2) hH ha)) 0 rfl (va_nmO (hE.1.2 2 _ rfl).2 rfl) hdg kk
theorem z_gethi {index : Nat} (X : z_X l G A p R s m args meth c cc nL own nm ret mc ms fr lo) (hB : z_HB G P A s.heap T0 I0 Q0 T I Q H locs) (hlink : Cond.fieldLink own index "java/lang/Integer$IntegerCache" "high" "I" ∈ lw_all) (hdg : decode cc pc = .ok (.getstatic index, 3))
    (kk : W p l e R s m args below meth c H locs cells slots Qp (F0 m (pc + 3) ls (.int 127 :: rest))) : W p l e R s m args below meth c H locs cells slots Qp (F0 m pc ls rest) := by
  obtain ⟨hx, hb, hml, hown, hts, hE, -⟩ := X
  exact va_gets hx hb hE.2.2.2.2.2.2.1 hB.2.1 hown (hts _ hlink) (fun _ h => h) hdg kk
theorem z_getus {index : Nat} {n d : String} (hnd : (n = "UNASSIGNED_STACK" ∧ d = "[Ljava/lang/StackTraceElement;") ∨ (n = "SUPPRESSED_SENTINEL" ∧ d = "Ljava/util/List;")) (X : z_X l G A p R s m args meth c cc nL own nm ret mc ms fr lo) (hB : z_HB G P A s.heap T0 I0 Q0 T I Q H locs) (hlink : Cond.fieldLink own index "java/lang/Throwable" n d ∈ lw_all) (hdg : decode cc pc = .ok (.getstatic index, 3))
    (kk : ∀ r : Option Nat, W p l e R s m args below meth c H locs cells slots Qp (F0 m (pc + 3) ls (va_rf r :: rest))) : W p l e R s m args below meth c H locs cells slots Qp (F0 m pc ls rest) := by
  obtain ⟨hx, hb, hml, hown, hts, hE, -⟩ := X
  have h : va_Zq "java/lang/Throwable" n d A s s.heap := by
    rcases hnd with ⟨rfl, rfl⟩ | ⟨rfl, rfl⟩
    · exact hE.2.2.2.2.2.2.2.1.1
    · exact hE.2.2.2.2.2.2.2.2.1.1
  rcases h with h | ⟨t, h⟩
  · exact va_gets hx hb h hB.2.1 hown (hts _ hlink) (fun _ h => h) hdg (kk none)
  · exact va_gets hx hb h hB.2.1 hown (hts _ hlink) (fun _ h => h) hdg (kk (some t))
theorem z_getcache {i : Int32} {index pc1 : Nat} (X : z_X l G A p R s m args meth c cc nL own nm ret mc ms fr lo) (hB : z_HB G P A s.heap T0 I0 Q0 T I Q H locs) (hlink : Cond.fieldLink own index "java/lang/Integer$IntegerCache" "cache" "[Ljava/lang/Integer;" ∈ lw_all) (hin : vp_in i 256) (hdg : decode cc pc = .ok (.getstatic index, 3)) (hdg1 : decode cc pc1 = .ok (.aaload, 1))
    (kk : W p l e R s m args below meth c H locs cells slots Qp (F0 m (pc1 + 1) ls (.ref (G.2.2.1.2.2 i.toNatClampNeg) :: rest)))
    (ki : ∀ t : Nat, W p l e R s m args below meth c H locs cells slots Qp (F0 m pc1 ls (.int i :: .ref t :: rest)) → W p l e R s m args below meth c H locs cells slots Qp (F0 m (pc + 3) ls (.ref t :: rest))) : W p l e R s m args below meth c H locs cells slots Qp (F0 m pc ls rest) := by
  obtain ⟨hx, hb, hml, hown, hts, hE, -⟩ := X
  obtain ⟨t, hZ, hT⟩ := hE.2.2.2.2.2.1
  refine va_gets hx hb hZ hB.2.1 hown (hts _ hlink) (fun _ h => h) hdg (ki t ?_)
  obtain ⟨cell, h1, h2, h3, h4, h5, h6, h7⟩ := hT
  have hlt : i.toNatClampNeg < 256 := Nat.not_le.mp fun q => hin (Or.inr q)
  have hin' : ¬ (i < 0 ∨ cell.slots.size ≤ i.toNatClampNeg) := by
    intro q
    rcases q with q | q
    · exact hin (Or.inl q)
    · omega
  exact W.aald (v := .ref (G.2.2.1.2.2 i.toNatClampNeg)) (ty := .object "java/lang/Integer") hx hb (by rw [hB.2.1.2.1 t (Array.getElem?_eq_some_iff.mp h1).1 h7]; exact h1) h2 rfl h3 hin' (h6 _ hlt) rfl rfl hdg1 kk
end ZL
def wp_J21_valueOf (K : z_KK) (x : Int32) (Qk : Option Nat → Prop) : Prop := ¬ x < -128 ∧ x ≤ 127 ∧ vp_in (x + 128) 256 ∧ Qk (some (K.1.2.2 (x + 128).toNatClampNeg))
theorem pk_J21_valueOf : z_PS yJ21_valueOf cJ21_valueOf 1 (some (.object "java/lang/Integer")) 1 := ⟨q2549, q118, q2550, by decide +kernel⟩
theorem met_J21_valueOf {l : Launch} {G : z_E} {T : z_T} {I : z_I} {Q : z_Q} (x : Int32) (Qk : Option Nat → Prop) (h : wp_J21_valueOf G.2.2 x Qk) : z_GM l G yJ21_valueOf (ws_ yJ21_valueOf cJ21_valueOf 1 (some (.object "java/lang/Integer"))) 8 120 0 0 [.int x] z_none T I Q (z_pr Qk T I Q) z_no := by
  obtain ⟨h1, h2, h3, h⟩ := h
  refine z_body (own := RJ21) (nm := "valueOf") (by decide +kernel) rfl rfl (Nat.le_of_ble_eq_true rfl) (fun p e R s m below meth c A ls X hB hl => ?_)
  obtain ⟨hx, hb, -⟩ := id X
  refine lv_iload_n hx hb dJ21_valueOf_0 rfl (lv_at hl 0 rfl) ?_
  refine lv_bipush (v := -128) hx hb dJ21_valueOf_1 (by decide) ?_
  refine lv_icmp_lt (tgt := 23) hx hb dJ21_valueOf_3 (by decide) (fun c9 => absurd c9 h1) (fun _ => ?_)
  refine lv_iload_n hx hb dJ21_valueOf_6 rfl (lv_at hl 0 rfl) ?_
  refine z_gethi X hB q2551 dJ21_valueOf_7 ?_
  refine lv_icmp_gt (tgt := 23) hx hb dJ21_valueOf_10 (by decide) (fun c9 => absurd c9 (Int32.not_lt.mpr h2)) (fun _ => ?_)
  refine z_getcache (i := x + 128) (pc1 := 21) X hB q2553 h3 dJ21_valueOf_13 dJ21_valueOf_21 ?_ (fun t k => ?_)
  · exact z_aret (v := some (G.2.2.1.2.2 (x + 128).toNatClampNeg)) X (Or.inl ⟨_, rfl⟩) hB ⟨_, rfl, h, rfl, rfl, rfl⟩ (Nat.le_refl 0) (Nat.le_refl 0) dJ21_valueOf_22
  · refine lv_iload_n hx hb dJ21_valueOf_16 rfl (lv_at hl 0 rfl) ?_
    refine lv_sipush (v := 128) hx hb dJ21_valueOf_17 (by decide) ?_
    exact lv_iadd hx hb dJ21_valueOf_20 k
theorem z_k0 {k : Nat} : 0 + k ≤ k := by omega
theorem z_k1 {c k m n : Nat} (h : c + k ≤ m) (g : n ≤ k) : c + n ≤ m := by omega
theorem z_k2 {c k m n : Nat} (h : c + k ≤ m) (g : n ≤ k) : c + n + (k - n) ≤ m := by omega
theorem z_k3 {c k m : Nat} (h : c + k ≤ m) : c ≤ m := by omega
theorem z_k4 {c k m : Nat} (h : c + k ≤ m) : c + 0 ≤ m := by omega
theorem z_rfs {a : Nat} : va_rf (some a) = .ref a := rfl
theorem z_catq {a : Nat} : (Value.ref a).category = 1 := rfl
section ZN9
variable {p : Program} {l : Launch} {e : Env} {R : Room} {s : State} {m : MethodId} {args : Array Value} {below : List Frame} {meth : Method} {c : Code} {H : Heap} {locs : List Loc} {cells slots : Nat} {Qp : State → Prop}
variable {cc : ByteArray} {pc : Nat} {ls : Array Slot} {rest : List Value} {G : z_E} {A : Nat → Prop} {nL mc ms fr lo : Nat} {own nm : String} {ret : Option FieldType}
theorem z_mmax {x y : Int32} {index : Nat} (X : z_X l G A p R s m args meth c cc nL own nm ret mc ms fr lo) (hsize : ls.size = nL) (hlink : Cond.methodLink own index Lib.Math.max.name ∈ lw_all) (hframes : 1 ≤ fr) (hlocals : (rest.map fun v => v.category).sum + 13 ≤ lo) (hc : cells ≤ mc) (hs : slots ≤ ms) (hdg : decode cc pc = .ok (.invokestatic index, 3))
    (kk : W p l e R s m args below meth c H locs cells slots Qp (F0 m (pc + 3) ls (.int (if x < y then y else x) :: rest))) : W p l e R s m args below meth c H locs cells slots Qp (F0 m pc ls (.int y :: .int x :: rest)) := by
  obtain ⟨hx, hb, hml, hown, hts, hE, -, -, -, hR1, hR2, hR3, hR4, -⟩ := X
  exact va_mmax hx hb (by rw [hml]; exact hsize.symm) hown (hts _ hlink) (hts _ q310) (hts _ q112) (hts _ q311) (Nat.le_trans hframes hR3) (by omega) (Nat.le_trans hc hR1) (Nat.le_trans hs hR2) hdg kk
theorem z_mmin {x y : Int32} {index : Nat} (X : z_X l G A p R s m args meth c cc nL own nm ret mc ms fr lo) (hsize : ls.size = nL) (hlink : Cond.methodLink own index Lib.Math.min.name ∈ lw_all) (hframes : 1 ≤ fr) (hlocals : (rest.map fun v => v.category).sum + 13 ≤ lo) (hc : cells ≤ mc) (hs : slots ≤ ms) (hdg : decode cc pc = .ok (.invokestatic index, 3))
    (kk : W p l e R s m args below meth c H locs cells slots Qp (F0 m (pc + 3) ls (.int (if y < x then y else x) :: rest))) : W p l e R s m args below meth c H locs cells slots Qp (F0 m pc ls (.int y :: .int x :: rest)) := by
  obtain ⟨hx, hb, hml, hown, hts, hE, -, -, -, hR1, hR2, hR3, hR4, -⟩ := X
  exact va_mmin hx hb (by rw [hml]; exact hsize.symm) hown (hts _ hlink) (hts _ q328) (hts _ q112) (hts _ q329) (Nat.le_trans hframes hR3) (by omega) (Nat.le_trans hc hR1) (Nat.le_trans hs hR2) hdg kk
end ZN9
theorem z_cati {a : Int32} : (Value.int a).category = 1 := rfl
theorem z_catl {a : Int64} : (Value.long a).category = 2 := rfl
theorem z_catf {a : UInt32} : (Value.float a).category = 1 := rfl
theorem z_catd {a : UInt64} : (Value.double a).category = 2 := rfl
theorem vx_ofWF {l : Launch} {y : MethodName} {ws ws' : List Cond} {rm : Room} {Pc : Array Value → State → Prop} {Qc : Array Value → State → Outcome → State → Prop} {XC : String → Addr → State → State → Prop} {mc ms : Nat} {free : Addr → Prop} {cc : ByteArray} {maxL : Nat} {ret : Option FieldType}
    (hy : plainFor y = true) (hw : ws = Cond.code y cc maxL ret :: ws')
    (body : ∀ p e s m args below meth c s₁, BodyLoose p l y (headSpec ws rm) cc maxL ret e s m args below meth c s₁ → c.maxLocals = maxL → (∀ x ∈ c.exceptionTable.toList, False) → Pc args s →
      W p l e (headSpec ws rm).room s m args below meth c s.heap [] 0 0 (vx_MQ below Qc XC args s mc ms free) (entryFrame m args maxL)) : vx_Met l y ws rm Pc Qc XC mc ms free := by
  refine MetFree.of_bodySF (code := cc) (maxLocals := maxL) (ret := ret) hy ?_ ?_
  · intro args s m h hn
    obtain ⟨meth, c, h1, h2, h3, h4, h5, h6, -, -⟩ := Cond.code_spec hn (atoms_spec (ws := ws) h _ (by rw [hw]; exact List.mem_cons_self))
    exact ⟨meth, c, h1, h2, h3, h4, h5, h6⟩
  · intro p e s m args below meth c s₁ B hml hP _
    have ht : ∀ x ∈ c.exceptionTable.toList, False := by
      obtain ⟨meth9, c9, h1, h2, -, -, -, -, h7, -⟩ := Cond.code_spec B.named (atoms_spec (ws := ws) B.pre _ (by rw [hw]; exact List.mem_cons_self))
      cases Option.some.inj (h1.symm.trans B.method)
      cases Option.some.inj (h2.symm.trans (Stand.of_body B).code)
      intro x hx
      rw [Array.isEmpty_iff.mp h7] at hx
      cases hx
    obtain ⟨t, a1, o, b1, b2, b3⟩ := body p e s m args below meth c s₁ B hml ht hP s₁ (by rw [B.state]; rfl) (Stand.of_body B)
    exact ⟨t, o, a1, b1, b2, b3⟩
theorem z_bodyF {l : Launch} {G : z_E} {y : MethodName} {cc : ByteArray} {nL : Nat} {ret : Option FieldType} {own nm : String} {fr lo mc ms : Nat} {av : List Value} {P : Nat → Prop} {T : z_T} {I : z_I} {Q : z_Q} {QR : Option Value → z_T → z_I → z_Q → Prop} {QX : String → Nat → z_T → z_I → z_Q → Prop}
    (hy : plainFor y = true) (ho : y.cls = own) (hn : y.name = nm) (hnl : (lg_sl av).length ≤ nL)
    (body : ∀ (p : Program) (e : Env) (R : Room) (s : State) (m : MethodId) (below : List Frame) (meth : Method) (c : Code) (A : Nat → Prop) (ls : Array Slot), z_X l G A p R s m av.toArray meth c cc nL own nm ret mc ms fr lo → z_HB G P A s.heap T I Q T I Q s.heap [] → lv_has ls nL (lv_args 0 av) →
      W p l e R s m av.toArray below meth c s.heap [] 0 0 (z_MQ below G P A T I Q QR QX av.toArray s mc ms) (F0 m 0 ls [])) : z_GM l G y (ws_ y cc nL ret) fr lo mc ms av P T I Q QR QX := by
  intro sz
  refine vx_ofWF (cc := cc) (maxL := nL) (ret := ret) hy rfl ?_
  intro p e s m args below meth c s₁ B hml hnx hv
  obtain ⟨rfl, hsz, hE, hH, hP0⟩ := hv
  subst hsz
  have hts := atoms_spec (ws := ws_ y cc nL ret) B.pre
  have hts : ∀ w ∈ lw_all, w.before _ s = true := fun w h => hts w (List.mem_cons_of_mem _ h)
  have hown : s.vm.findClass own = some m.cls := by rw [← ho]; exact findClass_of_methodNamed B.named
  have hnm : meth.name = nm := by rw [← hn]; exact (name_of_methodNamed B.named B.method).1
  rw [lg_entry_eq]
  exact body p e _ s m below meth c (z_AT T s.heap.size) _ ⟨B.exec, B.bytes, hml, hown, hts, hE, B.returns, B.notSynchronized, hnm, Nat.le_refl _, Nat.le_refl _, Nat.le_refl _, Nat.le_refl _, fun _ => hnx⟩
    ⟨hH, va_S.rf, fun a h1 h2 => Or.inl ⟨h1, h2⟩, fun q h => Or.inr h, z_Fr_rf, fun a h h2 => absurd h h2, hP0⟩ (lv_entry av hnl)
def dkwJ7_init_4_2 : List UInt8 := [44, 181, 0, 7, 29, 154, 0, 8, 42, 1, 181, 0, 24, 177]
abbrev dktJ7_init_4_2 : List UInt8 := dkwJ7_init_4_2 ++ []
def dkwJ7_init_4_1 : List UInt8 := [21, 4, 153, 0, 11, 42, 182, 0, 27, 87, 167, 0, 8, 42, 1, 181, 0, 17, 42, 43, 181, 0, 31, 42]
abbrev dktJ7_init_4_1 : List UInt8 := dkwJ7_init_4_1 ++ dktJ7_init_4_2
def dkwJ7_init_4_0 : List UInt8 := [42, 183, 0, 1, 42, 42, 181, 0, 7, 42, 178, 0, 13, 181, 0, 17, 42, 178, 0, 20, 181, 0, 24]
abbrev dktJ7_init_4_0 : List UInt8 := dkwJ7_init_4_0 ++ dktJ7_init_4_1
theorem dksJ7_init_4_0 : cJ7_init_4.data.toList.drop 0 = dktJ7_init_4_0 := by decide +kernel
theorem dksJ7_init_4_1 : cJ7_init_4.data.toList.drop 23 = dktJ7_init_4_1 := dk_seg dksJ7_init_4_0 23 rfl rfl
theorem dksJ7_init_4_2 : cJ7_init_4.data.toList.drop 47 = dktJ7_init_4_2 := dk_seg dksJ7_init_4_1 24 rfl rfl
theorem dJ7_init_4_0 : decode cJ7_init_4 0 = .ok (.aload_n 0, 1) := dk_42 (dk_at dksJ7_init_4_0 0 rfl rfl)
theorem dJ7_init_4_1 : decode cJ7_init_4 1 = .ok (.invokespecial 1, 3) := dk_183 0 1 (dk_at dksJ7_init_4_0 1 rfl rfl)
theorem dJ7_init_4_4 : decode cJ7_init_4 4 = .ok (.aload_n 0, 1) := dk_42 (dk_at dksJ7_init_4_0 4 rfl rfl)
theorem dJ7_init_4_5 : decode cJ7_init_4 5 = .ok (.aload_n 0, 1) := dk_42 (dk_at dksJ7_init_4_0 5 rfl rfl)
theorem dJ7_init_4_6 : decode cJ7_init_4 6 = .ok (.putfield 7, 3) := dk_181 0 7 (dk_at dksJ7_init_4_0 6 rfl rfl)
theorem dJ7_init_4_9 : decode cJ7_init_4 9 = .ok (.aload_n 0, 1) := dk_42 (dk_at dksJ7_init_4_0 9 rfl rfl)
theorem dJ7_init_4_10 : decode cJ7_init_4 10 = .ok (.getstatic 13, 3) := dk_178 0 13 (dk_at dksJ7_init_4_0 10 rfl rfl)
theorem dJ7_init_4_13 : decode cJ7_init_4 13 = .ok (.putfield 17, 3) := dk_181 0 17 (dk_at dksJ7_init_4_0 13 rfl rfl)
theorem dJ7_init_4_16 : decode cJ7_init_4 16 = .ok (.aload_n 0, 1) := dk_42 (dk_at dksJ7_init_4_0 16 rfl rfl)
theorem dJ7_init_4_17 : decode cJ7_init_4 17 = .ok (.getstatic 20, 3) := dk_178 0 20 (dk_at dksJ7_init_4_0 17 rfl rfl)
theorem dJ7_init_4_20 : decode cJ7_init_4 20 = .ok (.putfield 24, 3) := dk_181 0 24 (dk_at dksJ7_init_4_0 20 rfl rfl)
theorem dJ7_init_4_23 : decode cJ7_init_4 23 = .ok (.iload 4, 2) := dk_21 4 (dk_at dksJ7_init_4_1 0 rfl rfl)
theorem dJ7_init_4_25 : decode cJ7_init_4 25 = .ok (.ifCond .eq 11, 3) := dk_153 0 11 (dk_at dksJ7_init_4_1 2 rfl rfl)
theorem dJ7_init_4_28 : decode cJ7_init_4 28 = .ok (.aload_n 0, 1) := dk_42 (dk_at dksJ7_init_4_1 5 rfl rfl)
theorem dJ7_init_4_29 : decode cJ7_init_4 29 = .ok (.invokevirtual 27, 3) := dk_182 0 27 (dk_at dksJ7_init_4_1 6 rfl rfl)
theorem dJ7_init_4_32 : decode cJ7_init_4 32 = .ok (.pop, 1) := dk_87 (dk_at dksJ7_init_4_1 9 rfl rfl)
theorem dJ7_init_4_33 : decode cJ7_init_4 33 = .ok (.goto 8, 3) := dk_167 0 8 (dk_at dksJ7_init_4_1 10 rfl rfl)
theorem dJ7_init_4_36 : decode cJ7_init_4 36 = .ok (.aload_n 0, 1) := dk_42 (dk_at dksJ7_init_4_1 13 rfl rfl)
theorem dJ7_init_4_37 : decode cJ7_init_4 37 = .ok (.aconst_null, 1) := dk_1 (dk_at dksJ7_init_4_1 14 rfl rfl)
theorem dJ7_init_4_38 : decode cJ7_init_4 38 = .ok (.putfield 17, 3) := dk_181 0 17 (dk_at dksJ7_init_4_1 15 rfl rfl)
theorem dJ7_init_4_41 : decode cJ7_init_4 41 = .ok (.aload_n 0, 1) := dk_42 (dk_at dksJ7_init_4_1 18 rfl rfl)
theorem dJ7_init_4_42 : decode cJ7_init_4 42 = .ok (.aload_n 1, 1) := dk_43 (dk_at dksJ7_init_4_1 19 rfl rfl)
theorem dJ7_init_4_43 : decode cJ7_init_4 43 = .ok (.putfield 31, 3) := dk_181 0 31 (dk_at dksJ7_init_4_1 20 rfl rfl)
theorem dJ7_init_4_46 : decode cJ7_init_4 46 = .ok (.aload_n 0, 1) := dk_42 (dk_at dksJ7_init_4_1 23 rfl rfl)
theorem dJ7_init_4_47 : decode cJ7_init_4 47 = .ok (.aload_n 2, 1) := dk_44 (dk_at dksJ7_init_4_2 0 rfl rfl)
theorem dJ7_init_4_48 : decode cJ7_init_4 48 = .ok (.putfield 7, 3) := dk_181 0 7 (dk_at dksJ7_init_4_2 1 rfl rfl)
theorem dJ7_init_4_51 : decode cJ7_init_4 51 = .ok (.iload_n 3, 1) := dk_29 (dk_at dksJ7_init_4_2 4 rfl rfl)
theorem dJ7_init_4_52 : decode cJ7_init_4 52 = .ok (.ifCond .ne 8, 3) := dk_154 0 8 (dk_at dksJ7_init_4_2 5 rfl rfl)
theorem dJ7_init_4_55 : decode cJ7_init_4 55 = .ok (.aload_n 0, 1) := dk_42 (dk_at dksJ7_init_4_2 8 rfl rfl)
theorem dJ7_init_4_56 : decode cJ7_init_4 56 = .ok (.aconst_null, 1) := dk_1 (dk_at dksJ7_init_4_2 9 rfl rfl)
theorem dJ7_init_4_57 : decode cJ7_init_4 57 = .ok (.putfield 24, 3) := dk_181 0 24 (dk_at dksJ7_init_4_2 10 rfl rfl)
theorem dJ7_init_4_60 : decode cJ7_init_4 60 = .ok (.return_, 1) := dk_177 (dk_at dksJ7_init_4_2 13 rfl rfl)
def dkwJ21_numberOfLeadingZeros_3 : List UInt8 := [5, 124, 59, 27, 26, 4, 124, 100, 172]
abbrev dktJ21_numberOfLeadingZeros_3 : List UInt8 := dkwJ21_numberOfLeadingZeros_3 ++ []
def dkwJ21_numberOfLeadingZeros_2 : List UInt8 := [124, 59, 26, 16, 16, 161, 0, 10, 132, 1, 252, 26, 7, 124, 59, 26, 7, 161, 0, 10, 132, 1, 254, 26]
abbrev dktJ21_numberOfLeadingZeros_2 : List UInt8 := dkwJ21_numberOfLeadingZeros_2 ++ dktJ21_numberOfLeadingZeros_3
def dkwJ21_numberOfLeadingZeros_1 : List UInt8 := [161, 0, 11, 132, 1, 240, 26, 16, 16, 124, 59, 26, 17, 1, 0, 161, 0, 11, 132, 1, 248, 26, 16, 8]
abbrev dktJ21_numberOfLeadingZeros_1 : List UInt8 := dkwJ21_numberOfLeadingZeros_1 ++ dktJ21_numberOfLeadingZeros_2
def dkwJ21_numberOfLeadingZeros_0 : List UInt8 := [26, 157, 0, 14, 26, 154, 0, 8, 16, 32, 167, 0, 4, 3, 172, 16, 31, 60, 26, 19, 1, 8]
abbrev dktJ21_numberOfLeadingZeros_0 : List UInt8 := dkwJ21_numberOfLeadingZeros_0 ++ dktJ21_numberOfLeadingZeros_1
theorem dksJ21_numberOfLeadingZeros_0 : cJ21_numberOfLeadingZeros.data.toList.drop 0 = dktJ21_numberOfLeadingZeros_0 := by decide +kernel
theorem dksJ21_numberOfLeadingZeros_1 : cJ21_numberOfLeadingZeros.data.toList.drop 22 = dktJ21_numberOfLeadingZeros_1 := dk_seg dksJ21_numberOfLeadingZeros_0 22 rfl rfl
theorem dksJ21_numberOfLeadingZeros_2 : cJ21_numberOfLeadingZeros.data.toList.drop 46 = dktJ21_numberOfLeadingZeros_2 := dk_seg dksJ21_numberOfLeadingZeros_1 24 rfl rfl
theorem dksJ21_numberOfLeadingZeros_3 : cJ21_numberOfLeadingZeros.data.toList.drop 70 = dktJ21_numberOfLeadingZeros_3 := dk_seg dksJ21_numberOfLeadingZeros_2 24 rfl rfl
theorem dJ21_numberOfLeadingZeros_0 : decode cJ21_numberOfLeadingZeros 0 = .ok (.iload_n 0, 1) := dk_26 (dk_at dksJ21_numberOfLeadingZeros_0 0 rfl rfl)
theorem dJ21_numberOfLeadingZeros_1 : decode cJ21_numberOfLeadingZeros 1 = .ok (.ifCond .gt 14, 3) := dk_157 0 14 (dk_at dksJ21_numberOfLeadingZeros_0 1 rfl rfl)
theorem dJ21_numberOfLeadingZeros_4 : decode cJ21_numberOfLeadingZeros 4 = .ok (.iload_n 0, 1) := dk_26 (dk_at dksJ21_numberOfLeadingZeros_0 4 rfl rfl)
theorem dJ21_numberOfLeadingZeros_5 : decode cJ21_numberOfLeadingZeros 5 = .ok (.ifCond .ne 8, 3) := dk_154 0 8 (dk_at dksJ21_numberOfLeadingZeros_0 5 rfl rfl)
theorem dJ21_numberOfLeadingZeros_8 : decode cJ21_numberOfLeadingZeros 8 = .ok (.bipush 32, 2) := dk_16 32 (dk_at dksJ21_numberOfLeadingZeros_0 8 rfl rfl)
theorem dJ21_numberOfLeadingZeros_10 : decode cJ21_numberOfLeadingZeros 10 = .ok (.goto 4, 3) := dk_167 0 4 (dk_at dksJ21_numberOfLeadingZeros_0 10 rfl rfl)
theorem dJ21_numberOfLeadingZeros_13 : decode cJ21_numberOfLeadingZeros 13 = .ok (.iconst 0, 1) := dk_3 (dk_at dksJ21_numberOfLeadingZeros_0 13 rfl rfl)
theorem dJ21_numberOfLeadingZeros_14 : decode cJ21_numberOfLeadingZeros 14 = .ok (.ireturn, 1) := dk_172 (dk_at dksJ21_numberOfLeadingZeros_0 14 rfl rfl)
theorem dJ21_numberOfLeadingZeros_15 : decode cJ21_numberOfLeadingZeros 15 = .ok (.bipush 31, 2) := dk_16 31 (dk_at dksJ21_numberOfLeadingZeros_0 15 rfl rfl)
theorem dJ21_numberOfLeadingZeros_17 : decode cJ21_numberOfLeadingZeros 17 = .ok (.istore_n 1, 1) := dk_60 (dk_at dksJ21_numberOfLeadingZeros_0 17 rfl rfl)
theorem dJ21_numberOfLeadingZeros_18 : decode cJ21_numberOfLeadingZeros 18 = .ok (.iload_n 0, 1) := dk_26 (dk_at dksJ21_numberOfLeadingZeros_0 18 rfl rfl)
theorem dJ21_numberOfLeadingZeros_19 : decode cJ21_numberOfLeadingZeros 19 = .ok (.ldc_w 264, 3) := dk_19 1 8 (dk_at dksJ21_numberOfLeadingZeros_0 19 rfl rfl)
theorem dJ21_numberOfLeadingZeros_22 : decode cJ21_numberOfLeadingZeros 22 = .ok (.if_icmp .lt 11, 3) := dk_161 0 11 (dk_at dksJ21_numberOfLeadingZeros_1 0 rfl rfl)
theorem dJ21_numberOfLeadingZeros_25 : decode cJ21_numberOfLeadingZeros 25 = .ok (.iinc 1 (-16), 3) := dk_132 1 240 (dk_at dksJ21_numberOfLeadingZeros_1 3 rfl rfl)
theorem dJ21_numberOfLeadingZeros_28 : decode cJ21_numberOfLeadingZeros 28 = .ok (.iload_n 0, 1) := dk_26 (dk_at dksJ21_numberOfLeadingZeros_1 6 rfl rfl)
theorem dJ21_numberOfLeadingZeros_29 : decode cJ21_numberOfLeadingZeros 29 = .ok (.bipush 16, 2) := dk_16 16 (dk_at dksJ21_numberOfLeadingZeros_1 7 rfl rfl)
theorem dJ21_numberOfLeadingZeros_31 : decode cJ21_numberOfLeadingZeros 31 = .ok (.iushr, 1) := dk_124 (dk_at dksJ21_numberOfLeadingZeros_1 9 rfl rfl)
theorem dJ21_numberOfLeadingZeros_32 : decode cJ21_numberOfLeadingZeros 32 = .ok (.istore_n 0, 1) := dk_59 (dk_at dksJ21_numberOfLeadingZeros_1 10 rfl rfl)
theorem dJ21_numberOfLeadingZeros_33 : decode cJ21_numberOfLeadingZeros 33 = .ok (.iload_n 0, 1) := dk_26 (dk_at dksJ21_numberOfLeadingZeros_1 11 rfl rfl)
theorem dJ21_numberOfLeadingZeros_34 : decode cJ21_numberOfLeadingZeros 34 = .ok (.sipush 256, 3) := dk_17 1 0 (dk_at dksJ21_numberOfLeadingZeros_1 12 rfl rfl)
theorem dJ21_numberOfLeadingZeros_37 : decode cJ21_numberOfLeadingZeros 37 = .ok (.if_icmp .lt 11, 3) := dk_161 0 11 (dk_at dksJ21_numberOfLeadingZeros_1 15 rfl rfl)
theorem dJ21_numberOfLeadingZeros_40 : decode cJ21_numberOfLeadingZeros 40 = .ok (.iinc 1 (-8), 3) := dk_132 1 248 (dk_at dksJ21_numberOfLeadingZeros_1 18 rfl rfl)
theorem dJ21_numberOfLeadingZeros_43 : decode cJ21_numberOfLeadingZeros 43 = .ok (.iload_n 0, 1) := dk_26 (dk_at dksJ21_numberOfLeadingZeros_1 21 rfl rfl)
theorem dJ21_numberOfLeadingZeros_44 : decode cJ21_numberOfLeadingZeros 44 = .ok (.bipush 8, 2) := dk_16 8 (dk_at dksJ21_numberOfLeadingZeros_1 22 rfl rfl)
theorem dJ21_numberOfLeadingZeros_46 : decode cJ21_numberOfLeadingZeros 46 = .ok (.iushr, 1) := dk_124 (dk_at dksJ21_numberOfLeadingZeros_2 0 rfl rfl)
theorem dJ21_numberOfLeadingZeros_47 : decode cJ21_numberOfLeadingZeros 47 = .ok (.istore_n 0, 1) := dk_59 (dk_at dksJ21_numberOfLeadingZeros_2 1 rfl rfl)
theorem dJ21_numberOfLeadingZeros_48 : decode cJ21_numberOfLeadingZeros 48 = .ok (.iload_n 0, 1) := dk_26 (dk_at dksJ21_numberOfLeadingZeros_2 2 rfl rfl)
theorem dJ21_numberOfLeadingZeros_49 : decode cJ21_numberOfLeadingZeros 49 = .ok (.bipush 16, 2) := dk_16 16 (dk_at dksJ21_numberOfLeadingZeros_2 3 rfl rfl)
theorem dJ21_numberOfLeadingZeros_51 : decode cJ21_numberOfLeadingZeros 51 = .ok (.if_icmp .lt 10, 3) := dk_161 0 10 (dk_at dksJ21_numberOfLeadingZeros_2 5 rfl rfl)
theorem dJ21_numberOfLeadingZeros_54 : decode cJ21_numberOfLeadingZeros 54 = .ok (.iinc 1 (-4), 3) := dk_132 1 252 (dk_at dksJ21_numberOfLeadingZeros_2 8 rfl rfl)
theorem dJ21_numberOfLeadingZeros_57 : decode cJ21_numberOfLeadingZeros 57 = .ok (.iload_n 0, 1) := dk_26 (dk_at dksJ21_numberOfLeadingZeros_2 11 rfl rfl)
theorem dJ21_numberOfLeadingZeros_58 : decode cJ21_numberOfLeadingZeros 58 = .ok (.iconst 4, 1) := dk_7 (dk_at dksJ21_numberOfLeadingZeros_2 12 rfl rfl)
theorem dJ21_numberOfLeadingZeros_59 : decode cJ21_numberOfLeadingZeros 59 = .ok (.iushr, 1) := dk_124 (dk_at dksJ21_numberOfLeadingZeros_2 13 rfl rfl)
theorem dJ21_numberOfLeadingZeros_60 : decode cJ21_numberOfLeadingZeros 60 = .ok (.istore_n 0, 1) := dk_59 (dk_at dksJ21_numberOfLeadingZeros_2 14 rfl rfl)
theorem dJ21_numberOfLeadingZeros_61 : decode cJ21_numberOfLeadingZeros 61 = .ok (.iload_n 0, 1) := dk_26 (dk_at dksJ21_numberOfLeadingZeros_2 15 rfl rfl)
theorem dJ21_numberOfLeadingZeros_62 : decode cJ21_numberOfLeadingZeros 62 = .ok (.iconst 4, 1) := dk_7 (dk_at dksJ21_numberOfLeadingZeros_2 16 rfl rfl)
theorem dJ21_numberOfLeadingZeros_63 : decode cJ21_numberOfLeadingZeros 63 = .ok (.if_icmp .lt 10, 3) := dk_161 0 10 (dk_at dksJ21_numberOfLeadingZeros_2 17 rfl rfl)
theorem dJ21_numberOfLeadingZeros_66 : decode cJ21_numberOfLeadingZeros 66 = .ok (.iinc 1 (-2), 3) := dk_132 1 254 (dk_at dksJ21_numberOfLeadingZeros_2 20 rfl rfl)
theorem dJ21_numberOfLeadingZeros_69 : decode cJ21_numberOfLeadingZeros 69 = .ok (.iload_n 0, 1) := dk_26 (dk_at dksJ21_numberOfLeadingZeros_2 23 rfl rfl)
theorem dJ21_numberOfLeadingZeros_70 : decode cJ21_numberOfLeadingZeros 70 = .ok (.iconst 2, 1) := dk_5 (dk_at dksJ21_numberOfLeadingZeros_3 0 rfl rfl)
theorem dJ21_numberOfLeadingZeros_71 : decode cJ21_numberOfLeadingZeros 71 = .ok (.iushr, 1) := dk_124 (dk_at dksJ21_numberOfLeadingZeros_3 1 rfl rfl)
theorem dJ21_numberOfLeadingZeros_72 : decode cJ21_numberOfLeadingZeros 72 = .ok (.istore_n 0, 1) := dk_59 (dk_at dksJ21_numberOfLeadingZeros_3 2 rfl rfl)
theorem dJ21_numberOfLeadingZeros_73 : decode cJ21_numberOfLeadingZeros 73 = .ok (.iload_n 1, 1) := dk_27 (dk_at dksJ21_numberOfLeadingZeros_3 3 rfl rfl)
theorem dJ21_numberOfLeadingZeros_74 : decode cJ21_numberOfLeadingZeros 74 = .ok (.iload_n 0, 1) := dk_26 (dk_at dksJ21_numberOfLeadingZeros_3 4 rfl rfl)
theorem dJ21_numberOfLeadingZeros_75 : decode cJ21_numberOfLeadingZeros 75 = .ok (.iconst 1, 1) := dk_4 (dk_at dksJ21_numberOfLeadingZeros_3 5 rfl rfl)
theorem dJ21_numberOfLeadingZeros_76 : decode cJ21_numberOfLeadingZeros 76 = .ok (.iushr, 1) := dk_124 (dk_at dksJ21_numberOfLeadingZeros_3 6 rfl rfl)
theorem dJ21_numberOfLeadingZeros_77 : decode cJ21_numberOfLeadingZeros 77 = .ok (.isub, 1) := dk_100 (dk_at dksJ21_numberOfLeadingZeros_3 7 rfl rfl)
theorem dJ21_numberOfLeadingZeros_78 : decode cJ21_numberOfLeadingZeros 78 = .ok (.ireturn, 1) := dk_172 (dk_at dksJ21_numberOfLeadingZeros_3 8 rfl rfl)
