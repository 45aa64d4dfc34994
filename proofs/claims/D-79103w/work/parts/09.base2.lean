/-! BASE 2: what holds all through a method, the contract's form, rows over the three functions -/
set_option maxRecDepth 100000
abbrev z_fw : List (String × MethodName × MethodName) := [
  ("java/util/ArrayDeque$DeqIterator", ⟨"java/util/Iterator", "hasNext", "()Z"⟩, ⟨"java/util/ArrayDeque$DeqIterator", "hasNext", "()Z"⟩),
  ("java/util/ArrayDeque$DeqIterator", ⟨"java/util/Iterator", "next", "()Ljava/lang/Object;"⟩, ⟨"java/util/ArrayDeque$DeqIterator", "next", "()Ljava/lang/Object;"⟩),
  ("java/util/ArrayList$Itr", ⟨"java/util/Iterator", "hasNext", "()Z"⟩, ⟨"java/util/ArrayList$Itr", "hasNext", "()Z"⟩),
  ("java/util/ArrayList$Itr", ⟨"java/util/Iterator", "next", "()Ljava/lang/Object;"⟩, ⟨"java/util/ArrayList$Itr", "next", "()Ljava/lang/Object;"⟩),
  ("java/util/LinkedHashMap$LinkedKeyIterator", ⟨"java/util/Iterator", "hasNext", "()Z"⟩, ⟨"java/util/LinkedHashMap$LinkedHashIterator", "hasNext", "()Z"⟩),
  ("java/util/LinkedHashMap$LinkedKeyIterator", ⟨"java/util/Iterator", "next", "()Ljava/lang/Object;"⟩, ⟨"java/util/LinkedHashMap$LinkedKeyIterator", "next", "()Ljava/lang/Object;"⟩),
  ("RobotCell$Cell$1", ⟨"java/util/Iterator", "hasNext", "()Z"⟩, ⟨"RobotCell$Cell$1", "hasNext", "()Z"⟩),
  ("RobotCell$Cell$1", ⟨"java/util/Iterator", "next", "()Ljava/lang/Object;"⟩, ⟨"RobotCell$Cell$1", "next", "()Ljava/lang/Object;"⟩),
  ("java/util/LinkedHashMap$LinkedKeySet", ⟨"java/util/Set", "iterator", "()Ljava/util/Iterator;"⟩, ⟨"java/util/LinkedHashMap$LinkedKeySet", "iterator", "()Ljava/util/Iterator;"⟩),
  ("java/util/ArrayDeque", ⟨"java/lang/Iterable", "iterator", "()Ljava/util/Iterator;"⟩, ⟨"java/util/ArrayDeque", "iterator", "()Ljava/util/Iterator;"⟩)]
abbrev z_ao : List String := ["java/lang/Object", "RobotCell$Buffer", "RobotCell$Cell$Arm", "java/util/HashMap$Node"]
/-- an exception's class, and one that it can't be cast to -/
abbrev z_nc : List (String × String) := [("java/util/LinkedHashMap$Entry", "java/util/HashMap$TreeNode"), ("java/lang/IndexOutOfBoundsException", "java/lang/IllegalArgumentException"), ("java/lang/IndexOutOfBoundsException", "java/lang/IllegalStateException"), ("java/lang/IndexOutOfBoundsException", "java/util/NoSuchElementException"), ("java/lang/IndexOutOfBoundsException", "java/lang/UnsupportedOperationException"), ("java/lang/IndexOutOfBoundsException", "java/lang/ArithmeticException"), ("java/lang/IndexOutOfBoundsException", "RobotCell$TextException"), ("java/lang/IllegalArgumentException", "java/lang/IndexOutOfBoundsException"), ("java/lang/IllegalArgumentException", "java/lang/IllegalStateException"), ("java/lang/IllegalArgumentException", "java/util/NoSuchElementException"), ("java/lang/IllegalArgumentException", "java/lang/UnsupportedOperationException"), ("java/lang/IllegalArgumentException", "java/lang/ArithmeticException"), ("java/lang/IllegalArgumentException", "RobotCell$TextException"), ("java/lang/IllegalStateException", "java/lang/IndexOutOfBoundsException"), ("java/lang/IllegalStateException", "java/lang/IllegalArgumentException"), ("java/lang/IllegalStateException", "java/util/NoSuchElementException"), ("java/lang/IllegalStateException", "java/lang/UnsupportedOperationException"), ("java/lang/IllegalStateException", "java/lang/ArithmeticException"), ("java/lang/IllegalStateException", "RobotCell$TextException"), ("java/util/NoSuchElementException", "java/lang/IndexOutOfBoundsException"), ("java/util/NoSuchElementException", "java/lang/IllegalArgumentException"), ("java/util/NoSuchElementException", "java/lang/IllegalStateException"), ("java/util/NoSuchElementException", "java/lang/UnsupportedOperationException"), ("java/util/NoSuchElementException", "java/lang/ArithmeticException"), ("java/util/NoSuchElementException", "RobotCell$TextException"), ("java/lang/UnsupportedOperationException", "java/lang/IndexOutOfBoundsException"), ("java/lang/UnsupportedOperationException", "java/lang/IllegalArgumentException"), ("java/lang/UnsupportedOperationException", "java/lang/IllegalStateException"), ("java/lang/UnsupportedOperationException", "java/util/NoSuchElementException"), ("java/lang/UnsupportedOperationException", "java/lang/ArithmeticException"), ("java/lang/UnsupportedOperationException", "RobotCell$TextException"), ("java/lang/ArithmeticException", "java/lang/IndexOutOfBoundsException"), ("java/lang/ArithmeticException", "java/lang/IllegalArgumentException"), ("java/lang/ArithmeticException", "java/lang/IllegalStateException"), ("java/lang/ArithmeticException", "java/util/NoSuchElementException"), ("java/lang/ArithmeticException", "java/lang/UnsupportedOperationException"), ("java/lang/ArithmeticException", "RobotCell$TextException"), ("RobotCell$TextException", "java/lang/IndexOutOfBoundsException"), ("RobotCell$TextException", "java/lang/IllegalArgumentException"), ("RobotCell$TextException", "java/lang/IllegalStateException"), ("RobotCell$TextException", "java/util/NoSuchElementException"), ("RobotCell$TextException", "java/lang/UnsupportedOperationException"), ("RobotCell$TextException", "java/lang/ArithmeticException")]
/-- methods that have handlers -/
def z_hn (own nm : String) : Bool := (own == "RobotCellLaw" && nm != "law") || (own == "RobotCell" && nm == "perform")
def z_env (l : Launch) (G : z_E) (A : Nat → Prop) (U : State) : Prop :=
  va_K G.1 z_cl (z_ty G) U ∧ (∀ w ∈ z_nw, va_Nw w U) ∧ l.stackTraces = false ∧
  va_Z "java/util/ArrayList" "DEFAULTCAPACITY_EMPTY_ELEMENTDATA" "[Ljava/lang/Object;" (.ref G.2.2.1.1) A U U.heap ∧
  va_Z "java/util/HashSet" "PRESENT" "Ljava/lang/Object;" (.ref G.2.2.1.2.1) A U U.heap ∧
  (∃ t, va_Z "java/lang/Integer$IntegerCache" "cache" "[Ljava/lang/Integer;" (.ref t) A U U.heap ∧ va_T (.object "java/lang/Integer") t 256 (fun k => .ref (G.2.2.1.2.2 k)) A U U.heap) ∧
  va_Z "java/lang/Integer$IntegerCache" "high" "I" (.int 127) A U U.heap ∧
  vx_Zq Bundle.tN "UNASSIGNED_STACK" Bundle.steD A U U.heap ∧ vx_Zq Bundle.tN "SUPPRESSED_SENTINEL" Bundle.listD A U U.heap ∧
  (∀ q ∈ z_fw, va_Fw q.1 q.2.1 q.2.2 U) ∧ (∀ C ∈ z_ao, va_AO C U) ∧ (∀ q ∈ z_nc, va_Nc q.1 q.2 U) ∧ va_Mi "[Ljava/lang/Object;" G.2.2.2 U
theorem z_fw_ok : ∀ q ∈ z_fw, q.2.1.cls ≠ "java/lang/invoke/MethodHandle" ∧ q.2.1.cls ≠ "java/lang/invoke/VarHandle" := by decide +kernel
theorem z_env_to {l : Launch} {G : z_E} {A A' : Nat → Prop} {s U : State} {H : Heap} {locs : List Loc} (h : z_env l G A s) (hS : va_S A s.heap H locs) (hU : U.heap = H) (hW : s.WarmedH U.vm) (hA : ∀ q, A' q → A q) : z_env l G A' U := by
  have ha := hW.alike
  obtain ⟨h1, h2, h3, h4, h5, ⟨t, h6, h6b⟩, h7, h8, h9, h10, h11, h12, h13⟩ := h
  subst hU
  have hk : ∀ a : Nat, a < s.heap.size → ¬ A a → U.heap[a]? = s.heap[a]? := hS.2.1
  exact ⟨va_K.moved ha h1, fun w hw => z_mv_moved (List.mem_filter.mp hw).2 hW (h2 w hw), h3,
    va_Z.moved ha ((h4.kept hk).narrow hA), va_Z.moved ha ((h5.kept hk).narrow hA),
    ⟨t, va_Z.moved ha ((h6.kept hk).narrow hA), va_T.moved ha ((h6b.kept hk).narrow hA)⟩, va_Z.moved ha ((h7.kept hk).narrow hA),
    vx_Zq.moved ha ((h8.kept hk).narrow hA), vx_Zq.moved ha ((h9.kept hk).narrow hA),
    fun q hq => va_Fw.moved (z_fw_ok q hq) ha (h10 q hq), fun C hC => va_AO.moved ha (h11 C hC), fun q hq => va_Nc.moved ha (h12 q hq), va_Mi.moved ha h13⟩
def z_Fr (P : Nat → Prop) (T : z_T) (I : z_I) (Q : z_Q) (T1 : z_T) (I1 : z_I) (Q1 : z_Q) : Prop := (∀ a, (T a).1 ≠ 0 → T1 a = T a) ∧ (∀ a, (T a).1 ≠ 0 → ¬ P (T a).2.2 → I1 a = I a ∧ Q1 a = Q a) ∧ (∀ a, (T a).1 = 0 → (T1 a).1 ≠ 0 → P (T1 a).2.2)
theorem z_Fr_rf {P : Nat → Prop} {T : z_T} {I : z_I} {Q : z_Q} : z_Fr P T I Q T I Q := ⟨fun _ _ => rfl, fun _ _ _ => ⟨rfl, rfl⟩, fun _ h h2 => absurd h h2⟩
theorem z_Fr_tr {P P' : Nat → Prop} {T T1 T2 : z_T} {I I1 I2 : z_I} {Q Q1 Q2 : z_Q} (h : z_Fr P T I Q T1 I1 Q1) (h' : z_Fr P' T1 I1 Q1 T2 I2 Q2) (hp : ∀ k, P' k → P k) : z_Fr P T I Q T2 I2 Q2 := by
  obtain ⟨a1, a2, a3⟩ := h
  obtain ⟨b1, b2, b3⟩ := h'
  have k1 : ∀ a, (T a).1 ≠ 0 → (T1 a).1 ≠ 0 := fun a ha => by rw [a1 a ha]; exact ha
  refine ⟨fun a ha => (b1 a (k1 a ha)).trans (a1 a ha), fun a ha hc => ?_, fun a ha h2 => ?_⟩
  · obtain ⟨x1, x2⟩ := a2 a ha hc
    obtain ⟨y1, y2⟩ := b2 a (k1 a ha) (fun z => hc (by rw [← a1 a ha]; exact hp _ z))
    exact ⟨y1.trans x1, y2.trans x2⟩
  · by_cases h9 : (T1 a).1 = 0
    · exact hp _ (b3 a h9 h2)
    · rw [b1 a h9]
      exact a3 a ha h9
def z_AT (T : z_T) (sz : Nat) : Nat → Prop := fun q => ((T q).1 ≠ 0 ∧ (T q).2.2 ≠ 0) ∨ sz ≤ q
def z_HB (G : z_E) (P A : Nat → Prop) (H0 : Heap) (T0 : z_T) (I0 : z_I) (Q0 : z_Q) (T : z_T) (I : z_I) (Q : z_Q) (H : Heap) (locs : List Loc) : Prop :=
  z_H G T I Q H ∧ va_S A H0 H locs ∧ (∀ a, (T a).1 ≠ 0 → (T a).2.2 ≠ 0 → A a) ∧ (∀ q, H0.size ≤ q → A q) ∧ z_Fr P T0 I0 Q0 T I Q ∧ (∀ a, (T0 a).1 = 0 → (T a).1 ≠ 0 → H0.size ≤ a) ∧ ¬ P 0
def z_OUT (G : z_E) (P : Nat → Prop) (T : z_T) (I : z_I) (Q : z_Q) (T1 : z_T) (I1 : z_I) (Q1 : z_Q) (sz : Nat) (H1 : Heap) : Prop := z_H G T1 I1 Q1 H1 ∧ z_Fr P T I Q T1 I1 Q1 ∧ (∀ a, (T a).1 = 0 → (T1 a).1 ≠ 0 → sz ≤ a)
def z_QC (G : z_E) (P : Nat → Prop) (T : z_T) (I : z_I) (Q : z_Q) (sz : Nat) (A : Nat → Prop) (QR : Option Value → z_T → z_I → z_Q → Prop) : Array Value → State → Outcome → State → Prop := fun _ st oc t => (∃ v T1 I1 Q1, oc = .returned v ∧ QR v T1 I1 Q1 ∧ z_OUT G P T I Q T1 I1 Q1 sz t.heap) ∧ va_F A st t
def z_XC (G : z_E) (P : Nat → Prop) (T : z_T) (I : z_I) (Q : z_Q) (sz : Nat) (A : Nat → Prop) (QX : String → Nat → z_T → z_I → z_Q → Prop) : String → Addr → State → State → Prop := fun E q st t => (∃ T1 I1 Q1, QX E q T1 I1 Q1 ∧ z_OUT G P T I Q T1 I1 Q1 sz t.heap) ∧ va_F A st t
def z_Pc (l : Launch) (G : z_E) (P : Nat → Prop) (T : z_T) (I : z_I) (Q : z_Q) (sz : Nat) (av : List Value) : Array Value → State → Prop := va_Pc av (fun U => U.heap.size = sz ∧ z_env l G (z_AT T sz) U ∧ z_H G T I Q U.heap ∧ ¬ P 0)
/-- THE contract's form: words ws, frames fr, locals lo, cells mc, slots ms -/
def z_GM (l : Launch) (G : z_E) (y : MethodName) (ws : List Cond) (fr lo mc ms : Nat) (av : List Value) (P : Nat → Prop) (T : z_T) (I : z_I) (Q : z_Q) (QR : Option Value → z_T → z_I → z_Q → Prop) (QX : String → Nat → z_T → z_I → z_Q → Prop) : Prop :=
  ∀ sz : Nat, vx_Met l y ws ({ frames := fr, cells := mc, slots := ms, locals := lo } : Room) (z_Pc l G P T I Q sz av) (z_QC G P T I Q sz (z_AT T sz) QR) (z_XC G P T I Q sz (z_AT T sz) QX) mc ms (z_AT T sz)
/-- what a body owes -/
def z_MQ (below : List Frame) (G : z_E) (P A : Nat → Prop) (T0 : z_T) (I0 : z_I) (Q0 : z_Q) (QR : Option Value → z_T → z_I → z_Q → Prop) (QX : String → Nat → z_T → z_I → z_Q → Prop) (args : Array Value) (s : State) (mc ms : Nat) : State → Prop := vx_MQ below (z_QC G P T0 I0 Q0 s.heap.size A QR) (z_XC G P T0 I0 Q0 s.heap.size A QX) args s mc ms A
def z_X (l : Launch) (G : z_E) (A : Nat → Prop) (p : Program) (R : Room) (s : State) (m : MethodId) (args : Array Value) (meth : Method) (c : Code) (cc : ByteArray) (nL : Nat) (own nm : String) (ret : Option FieldType) (mc ms fr lo : Nat) : Prop :=
  p.tables.exec = Jvm.exec ∧ c.code = cc ∧ c.maxLocals = nL ∧ s.vm.findClass own = some m.cls ∧ (∀ w ∈ lw_all, w.before args s = true) ∧ z_env l G A s ∧ meth.sig.returnType = ret ∧ meth.locks = false ∧ meth.name = nm ∧
  mc ≤ R.cells ∧ ms ≤ R.slots ∧ fr ≤ R.frames ∧ lo ≤ R.locals ∧ (z_hn own nm = false → ∀ x ∈ c.exceptionTable.toList, False)
theorem z_body {l : Launch} {G : z_E} {y : MethodName} {cc : ByteArray} {nL : Nat} {ret : Option FieldType} {own nm : String} {fr lo mc ms : Nat} {av : List Value} {P : Nat → Prop} {T : z_T} {I : z_I} {Q : z_Q} {QR : Option Value → z_T → z_I → z_Q → Prop} {QX : String → Nat → z_T → z_I → z_Q → Prop}
    (hy : plainName y.cls = true) (ho : y.cls = own) (hn : y.name = nm) (hnl : (lg_sl av).length ≤ nL)
    (body : ∀ (p : Program) (e : Env) (R : Room) (s : State) (m : MethodId) (below : List Frame) (meth : Method) (c : Code) (A : Nat → Prop) (ls : Array Slot), z_X l G A p R s m av.toArray meth c cc nL own nm ret mc ms fr lo → z_HB G P A s.heap T I Q T I Q s.heap [] → lv_has ls nL (lv_args 0 av) →
      W p l e R s m av.toArray below meth c s.heap [] 0 0 (z_MQ below G P A T I Q QR QX av.toArray s mc ms) (F0 m 0 ls [])) : z_GM l G y (ws_ y cc nL ret) fr lo mc ms av P T I Q QR QX := by
  intro sz
  refine vx_ofW (cc := cc) (maxL := nL) (ret := ret) hy rfl ?_
  intro p e s m args below meth c s₁ B hml hnx hv
  obtain ⟨rfl, hsz, hE, hH, hP0⟩ := hv
  subst hsz
  have hts := atoms_spec (ws := ws_ y cc nL ret) B.pre
  have hts : ∀ w ∈ lw_all, w.before _ s = true := fun w h => hts w (List.mem_cons_of_mem _ h)
  have hown : s.vm.findClass own = some m.cls := by rw [← ho]; exact findClass_of_methodNamed B.named
  have hnm : meth.name = nm := by rw [← hn]; exact (name_of_methodNamed B.named B.method).1
  rw [lg_entry_eq]
  exact body p e _ s m below meth c (z_AT T s.heap.size) _ ⟨B.exec, B.bytes, hml, hown, hts, hE, B.returns, B.notSynchronized, hnm, Nat.le_refl _, Nat.le_refl _, Nat.le_refl _, Nat.le_refl _, fun _ => hnx⟩
    ⟨hH, va_S.rf, fun a h1 h2 => Or.inl ⟨h1, h2⟩, fun q h => Or.inr h, z_Fr_rf, fun a h h2 => absurd h h2, hP0⟩ (lv_entry av hnl)
theorem z_cat {x : Option Nat} : (va_rf x).category = 1 := by cases x <;> rfl
/-- after a store at a known cell of the method's own colour -/
theorem z_HB_put {G : z_E} {P A : Nat → Prop} {H0 H H1 : Heap} {T0 T : z_T} {I0 I I1 : z_I} {Q0 Q Q1 : z_Q} {locs : List Loc} {a k : Nat} (hB : z_HB G P A H0 T0 I0 Q0 T I Q H locs) (ha : (T a).1 ≠ 0) (hc : P (T a).2.2) (hz : H1.size = H.size) (ho : ∀ q : Nat, q ≠ a → H1[q]? = H[q]?) (hat : z_at G (T a) (I1 a) (Q1 a) H1 a) (hI : ∀ q, q ≠ a → I1 q = I q) (hQ : ∀ q, q ≠ a → Q1 q = Q q) : z_HB G P A H0 T0 I0 Q0 T I1 Q1 H1 (locs ++ [⟨a, k⟩]) := by
  obtain ⟨b1, b2, b3, b4, b5, b6, b7⟩ := hB
  have hA : A a := b3 a ha (fun e => b7 (by rw [← e]; exact hc))
  refine ⟨fun q hq => ?_, b2.put hz ho hA, b3, b4, ⟨b5.1, fun q hq hp => ?_, b5.2.2⟩, b6, b7⟩
  · by_cases e : q = a
    · subst e; exact hat
    · rw [hI q e, hQ q e]; exact z_at_kept (b1 q hq) (ho q e)
  · have e : q ≠ a := by
      intro e; subst e
      rw [b5.1 q hq] at hc
      exact hp hc
    rw [hI q e, hQ q e]
    exact b5.2.1 q hq hp
/-- a new cell -/
theorem z_HB_new {G : z_E} {P A : Nat → Prop} {H0 H H1 : Heap} {T0 T : z_T} {I0 I : z_I} {Q0 Q : z_Q} {locs : List Loc} {x : Nat × Nat × Nat} {i : Nat → Int32} {r : Nat → Option Nat} (hB : z_HB G P A H0 T0 I0 Q0 T I Q H locs) (hx : x.1 ≠ 0) (hc : P x.2.2) (hz : H1.size = H.size + 1) (ho : ∀ q : Nat, q < H.size → H1[q]? = H[q]?) (hat : z_at G x i r H1 H.size) : (T H.size).1 = 0 ∧ z_HB G P A H0 T0 I0 Q0 (z_t T H.size x) (z_row I H.size i) (z_row Q H.size r) H1 locs := by
  obtain ⟨b1, b2, b3, b4, b5, b6, b7⟩ := hB
  have hT : (T H.size).1 = 0 := by
    by_cases h : (T H.size).1 = 0
    · exact h
    · exact absurd (z_at_lt (b1 _ h)) (Nat.lt_irrefl _)
  have hA : A H.size := b4 _ b2.1
  have hne : ∀ a, (T a).1 ≠ 0 → a ≠ H.size := fun a h e => h (by rw [e]; exact hT)
  refine ⟨hT, fun q hq => ?_, ⟨Nat.le_trans b2.1 (by omega), fun q h1 h2 => (ho q (Nat.lt_of_lt_of_le h1 b2.1)).trans (b2.2.1 q h1 h2), b2.2.2⟩, fun q h1 h2 => ?_, b4, ⟨fun q hq => ?_, fun q hq hp => ?_, fun q hq h2 => ?_⟩, fun q hq h2 => ?_, b7⟩
  · by_cases e : q = H.size
    · subst e; rw [z_t_at, z_row_at, z_row_at]; exact hat
    · rw [z_t_ne e] at hq ⊢
      rw [z_row_ne e, z_row_ne e]
      exact z_at_kept (b1 q hq) (ho q (z_at_lt (b1 q hq)))
  · by_cases e : q = H.size
    · rw [e]; exact hA
    · rw [z_t_ne e] at h1 h2; exact b3 q h1 h2
  · have h1 : (T q).1 ≠ 0 := by rw [b5.1 q hq]; exact hq
    rw [z_t_ne (hne q h1)]; exact b5.1 q hq
  · have h1 : (T q).1 ≠ 0 := by rw [b5.1 q hq]; exact hq
    rw [z_row_ne (hne q h1), z_row_ne (hne q h1)]; exact b5.2.1 q hq hp
  · by_cases e : q = H.size
    · rw [e, z_t_at]; exact hc
    · rw [z_t_ne e] at h2 ⊢; exact b5.2.2 q hq h2
  · by_cases e : q = H.size
    · rw [e]; exact b2.1
    · rw [z_t_ne e] at h2; exact b6 q hq h2
section ZR
variable {p : Program} {l : Launch} {e : Env} {R : Room} {s : State} {m : MethodId} {args : Array Value} {below : List Frame} {meth : Method} {c : Code} {H : Heap} {locs : List Loc} {cells slots : Nat} {Qp : State → Prop}
variable {cc : ByteArray} {pc : Nat} {ls : Array Slot} {rest : List Value} {G : z_E} {P A : Nat → Prop} {T0 T : z_T} {I0 I : z_I} {Q0 Q : z_Q} {nL mc ms fr lo : Nat} {own nm : String} {ret : Option FieldType}
/-- getfield of any kind -/
theorem z_get {C ref : String} {Tc : u_T} {N index k j t a : Nat} (X : z_X l G A p R s m args meth c cc nL own nm ret mc ms fr lo) (hH : z_H G T I Q H) (hc : z_cl[k]? = some (C, Tc, N)) (hin : ∀ w ∈ u_ws C Tc N, w ∈ lw_all) (hj : j < N) (hlink : Cond.fieldLink own index ref (Tc j).2.1 (Tc j).2.2.1 ∈ lw_all) (hsame : ∀ x, s.fieldFound? (Tc j).1 (Tc j).2.1 (Tc j).2.2.1 = some x → s.fieldFound? ref (Tc j).2.1 (Tc j).2.2.1 = some x) (hsg : (z_sg k)[j]? = some t) (hk : k < 89) (ha : (T a).1 = k + 1) (hdg : decode cc pc = .ok (.getfield index, 3))
    (kk : W p l e R s m args below meth c H locs cells slots Qp (F0 m (pc + 3) ls (z_v t (I a j) (Q a j) :: rest))) : W p l e R s m args below meth c H locs cells slots Qp (F0 m pc ls (.ref a :: rest)) := by
  obtain ⟨hx, hb, hml, hown, hts, hE, -⟩ := X
  refine va_get (D := G.1) (ci := k) (C := C) (T := Tc) (N := N) hx hb hts hin hown hE.1 (z_P1 (z_obj hH ha hk)) 0 rfl hc j hj (hts _ hlink) hsame (v := z_v t (I a j) (Q a j)) ?_ hdg kk
  have h := z_fv_get (z_sg k) 0 j t (I a) (Q a) hsg
  rw [Nat.zero_add] at h
  exact h
theorem z_getN {C ref host : String} {Tc : u_T} {N index k j t a : Nat} (X : z_X l G A p R s m args meth c cc nL own nm ret mc ms fr lo) (hH : z_H G T I Q H) (hc : z_cl[k]? = some (C, Tc, N)) (hin : ∀ w ∈ u_ws C Tc N, w ∈ lw_all) (hj : j < N) (hlink : Cond.fieldLinkNest own index ref (Tc j).2.1 (Tc j).2.2.1 host ∈ lw_tbl) (hsame : ∀ x, s.fieldFound? (Tc j).1 (Tc j).2.1 (Tc j).2.2.1 = some x → s.fieldFound? ref (Tc j).2.1 (Tc j).2.2.1 = some x) (hsg : (z_sg k)[j]? = some t) (hk : k < 89) (ha : (T a).1 = k + 1) (hdg : decode cc pc = .ok (.getfield index, 3))
    (kk : W p l e R s m args below meth c H locs cells slots Qp (F0 m (pc + 3) ls (z_v t (I a j) (Q a j) :: rest))) : W p l e R s m args below meth c H locs cells slots Qp (F0 m pc ls (.ref a :: rest)) := by
  obtain ⟨hx, hb, hml, hown, hts, hE, -⟩ := X
  refine va_getN (D := G.1) (ci := k) (C := C) (T := Tc) (N := N) hx hb hts hin hown hE.1 (z_P1 (z_obj hH ha hk)) 0 rfl hc j hj (va_Nw.use rfl (hE.2.1 _ (z_in hlink rfl))) hsame (v := z_v t (I a j) (Q a j)) ?_ hdg kk
  have h := z_fv_get (z_sg k) 0 j t (I a) (Q a) hsg
  rw [Nat.zero_add] at h
  exact h
/-- the store's effect on the cell, for all three kinds of putfield -/
theorem z_put_eff {C : String} {Tc : u_T} {N k j t a : Nat} {v : Value} {H1 : Heap} {I1 : z_I} {Q1 : z_Q} {i : Nat} (hB : z_HB G P A s.heap T0 I0 Q0 T I Q H locs) (hc : z_cl[k]? = some (C, Tc, N)) (hsg : (z_sg k)[j]? = some t) (hk : k < 89) (ha : (T a).1 = k + 1) (hp : P (T a).2.2) (hv : v = z_v t (I1 a j) (Q1 a j)) (hI : ∀ q, q ≠ a → I1 q = I q) (hQ : ∀ q, q ≠ a → Q1 q = Q q) (hIj : ∀ x, x ≠ j → I1 a x = I a x) (hQj : ∀ x, x ≠ j → Q1 a x = Q a x)
    (hat : va_at G.1 z_cl (a, .inr (k, (z_fv (z_sg k) 0 (I a) (Q a)).set j v)) H1) (hz : H1.size = H.size) (ho : ∀ q : Nat, q ≠ a → H1[q]? = H[q]?) : z_HB G P A s.heap T0 I0 Q0 T I1 Q1 H1 (locs ++ [⟨a, i⟩]) := by
  refine z_HB_put hB (by omega) hp hz ho ?_ hI hQ
  unfold z_at
  rw [if_neg (by omega)]
  unfold z_ent
  rw [if_pos (by omega), ha, Nat.add_sub_cancel]
  rw [hv, z_fv_set (z_sg k) j t (I a) (I1 a) (Q a) (Q1 a) hsg hIj hQj] at hat
  exact hat
theorem z_put {C ref : String} {Tc : u_T} {N index k j t a : Nat} {ty : FieldType} {v : Value} {I1 : z_I} {Q1 : z_Q} (tyf : Nat → FieldType) (X : z_X l G A p R s m args meth c cc nL own nm ret mc ms fr lo) (hB : z_HB G P A s.heap T0 I0 Q0 T I Q H locs) (hc : z_cl[k]? = some (C, Tc, N)) (hin : ∀ w ∈ u_ws C Tc N, w ∈ lw_all) (hty : ∀ k, k < N → parseFieldDescriptor (Tc k).2.2.1 = some (tyf k)) (hnm : ∀ a, a < N → ∀ b, b < N → a ≠ b → (Tc a).2.1 ≠ (Tc b).2.1) (hj : j < N) (hlink : Cond.fieldLink own index ref (Tc j).2.1 (Tc j).2.2.1 ∈ lw_all) (hsame : ∀ x, s.fieldFound? (Tc j).1 (Tc j).2.1 (Tc j).2.2.1 = some x → s.fieldFound? ref (Tc j).2.1 (Tc j).2.2.1 = some x) (hfin : (Tc j).2.2.2 = false) (hsg : (z_sg k)[j]? = some t) (hk : k < 89) (ha : (T a).1 = k + 1) (hp : P (T a).2.2) (hd : tyf j = ty) (hn : narrow ty v = v) (hfit : fits ty v = true)
    (hv : v = z_v t (I1 a j) (Q1 a j)) (hI : ∀ q, q ≠ a → I1 q = I q) (hQ : ∀ q, q ≠ a → Q1 q = Q q) (hIj : ∀ x, x ≠ j → I1 a x = I a x) (hQj : ∀ x, x ≠ j → Q1 a x = Q a x) (hdg : decode cc pc = .ok (.putfield index, 3))
    (kk : ∀ (H1 : Heap) (locs1 : List Loc), z_HB G P A s.heap T0 I0 Q0 T I1 Q1 H1 locs1 → W p l e R s m args below meth c H1 locs1 cells slots Qp (F0 m (pc + 3) ls rest)) : W p l e R s m args below meth c H locs cells slots Qp (F0 m pc ls (v :: .ref a :: rest)) := by
  obtain ⟨hx, hb, hml, hown, hts, hE, -⟩ := X
  have hap := va_apart (own := own) hts hin tyf hty hnm hE.1 hc
  obtain ⟨r, h1, cell, q1, q2, q3, q4⟩ := z_obj hB.1 ha hk
  have hr : r = (C, Tc, N) := Option.some.inj (h1.symm.trans hc)
  subst hr
  obtain ⟨hS, hfc, kC, hkC, hkind⟩ := hE.1.1 k _ hc
  obtain ⟨cf, kf, fi, f, hi, hsl⟩ := hS j hj
  have hlay := hts _ (hin _ (u_in_lay hj))
  unfold u_lay at hlay
  rw [if_neg (by rw [hfin]; decide)] at hlay
  have hst := (u_facts hfc hkC (u_lays hts hin hj) hi).1
  have h6 := u_store hfc hkC hkind hlay hi (by rw [hty j hj, hd]) hn hfit
  refine W.putK hx hb (f := f) ⟨hown, hts _ hlink, ⟨_, _, _, hsame _ hi⟩, hst⟩ (by rw [q2]; exact h6) q1 q3 (by rw [hsl]; exact k2_hasslot (q4 j hj)) rfl rfl hdg fun H' e1 e2 e3 => ?_
  rw [hsl] at e1 ⊢
  have hl : j < (z_fv (z_sg k) 0 (I a) (Q a)).length := by rw [z_fv_len]; exact (List.getElem?_eq_some_iff.mp hsg).1
  exact kk H' _ (z_put_eff hB hc hsg hk ha hp hv hI hQ hIj hQj ⟨_, hc, t_OB.to (V := updV (vp_V (z_fv (z_sg k) 0 (I a) (Q a))) j v) ⟨_, e1, q2, q3, t_set q4 hap hj v⟩ (fun x _ => vp_updV_set hl v x)⟩ e2 e3)
theorem z_putN {C ref host : String} {Tc : u_T} {N index k j t a : Nat} {ty : FieldType} {v : Value} {I1 : z_I} {Q1 : z_Q} (tyf : Nat → FieldType) (X : z_X l G A p R s m args meth c cc nL own nm ret mc ms fr lo) (hB : z_HB G P A s.heap T0 I0 Q0 T I Q H locs) (hc : z_cl[k]? = some (C, Tc, N)) (hin : ∀ w ∈ u_ws C Tc N, w ∈ lw_all) (hty : ∀ k, k < N → parseFieldDescriptor (Tc k).2.2.1 = some (tyf k)) (hnm : ∀ a, a < N → ∀ b, b < N → a ≠ b → (Tc a).2.1 ≠ (Tc b).2.1) (hj : j < N) (hlink : Cond.fieldLinkNest own index ref (Tc j).2.1 (Tc j).2.2.1 host ∈ lw_tbl) (hsame : ∀ x, s.fieldFound? (Tc j).1 (Tc j).2.1 (Tc j).2.2.1 = some x → s.fieldFound? ref (Tc j).2.1 (Tc j).2.2.1 = some x) (hfin : (Tc j).2.2.2 = false) (hsg : (z_sg k)[j]? = some t) (hk : k < 89) (ha : (T a).1 = k + 1) (hp : P (T a).2.2) (hd : tyf j = ty) (hn : narrow ty v = v) (hfit : fits ty v = true)
    (hv : v = z_v t (I1 a j) (Q1 a j)) (hI : ∀ q, q ≠ a → I1 q = I q) (hQ : ∀ q, q ≠ a → Q1 q = Q q) (hIj : ∀ x, x ≠ j → I1 a x = I a x) (hQj : ∀ x, x ≠ j → Q1 a x = Q a x) (hdg : decode cc pc = .ok (.putfield index, 3))
    (kk : ∀ (H1 : Heap) (locs1 : List Loc), z_HB G P A s.heap T0 I0 Q0 T I1 Q1 H1 locs1 → W p l e R s m args below meth c H1 locs1 cells slots Qp (F0 m (pc + 3) ls rest)) : W p l e R s m args below meth c H locs cells slots Qp (F0 m pc ls (v :: .ref a :: rest)) := by
  obtain ⟨hx, hb, hml, hown, hts, hE, -⟩ := X
  have hap := va_apart (own := own) hts hin tyf hty hnm hE.1 hc
  obtain ⟨r, h1, cell, q1, q2, q3, q4⟩ := z_obj hB.1 ha hk
  have hr : r = (C, Tc, N) := Option.some.inj (h1.symm.trans hc)
  subst hr
  obtain ⟨hS, hfc, kC, hkC, hkind⟩ := hE.1.1 k _ hc
  obtain ⟨cf, kf, fi, f, hi, hsl⟩ := hS j hj
  have hlay := hts _ (hin _ (u_in_lay hj))
  unfold u_lay at hlay
  rw [if_neg (by rw [hfin]; decide)] at hlay
  have hst := (u_facts hfc hkC (u_lays hts hin hj) hi).1
  have h6 := u_store hfc hkC hkind hlay hi (by rw [hty j hj, hd]) hn hfit
  refine va_WputK hx hb (f := f) hown (va_Nw.use rfl (hE.2.1 _ (z_in hlink rfl))) (hsame _ hi) hst (by rw [q2]; exact h6) q1 q3 (by rw [hsl]; exact k2_hasslot (q4 j hj)) rfl rfl hdg fun H' e1 e2 e3 => ?_
  rw [hsl] at e1 ⊢
  have hl : j < (z_fv (z_sg k) 0 (I a) (Q a)).length := by rw [z_fv_len]; exact (List.getElem?_eq_some_iff.mp hsg).1
  exact kk H' _ (z_put_eff hB hc hsg hk ha hp hv hI hQ hIj hQj ⟨_, hc, t_OB.to (V := updV (vp_V (z_fv (z_sg k) 0 (I a) (Q a))) j v) ⟨_, e1, q2, q3, t_set q4 hap hj v⟩ (fun x _ => vp_updV_set hl v x)⟩ e2 e3)
/-- a final field, in its constructor -/
theorem z_putF {C ref : String} {Tc : u_T} {N index k j t a : Nat} {ty : FieldType} {v : Value} {I1 : z_I} {Q1 : z_Q} (tyf : Nat → FieldType) (X : z_X l G A p R s m args meth c cc nL own "<init>" ret mc ms fr lo) (hB : z_HB G P A s.heap T0 I0 Q0 T I Q H locs) (hc : z_cl[k]? = some (C, Tc, N)) (hin : ∀ w ∈ u_ws C Tc N, w ∈ lw_all) (hty : ∀ k, k < N → parseFieldDescriptor (Tc k).2.2.1 = some (tyf k)) (hnm : ∀ a, a < N → ∀ b, b < N → a ≠ b → (Tc a).2.1 ≠ (Tc b).2.1) (hj : j < N) (hlink : Cond.fieldLink own index ref (Tc j).2.1 (Tc j).2.2.1 ∈ lw_all) (hsame : ∀ x, s.fieldFound? (Tc j).1 (Tc j).2.1 (Tc j).2.2.1 = some x → s.fieldFound? ref (Tc j).2.1 (Tc j).2.2.1 = some x) (hfin : (Tc j).2.2.2 = true) (hdecl : (Tc j).1 = own) (hsg : (z_sg k)[j]? = some t) (hk : k < 89) (ha : (T a).1 = k + 1) (hp : P (T a).2.2) (hd : tyf j = ty) (hn : narrow ty v = v) (hfit : fits ty v = true)
    (hv : v = z_v t (I1 a j) (Q1 a j)) (hI : ∀ q, q ≠ a → I1 q = I q) (hQ : ∀ q, q ≠ a → Q1 q = Q q) (hIj : ∀ x, x ≠ j → I1 a x = I a x) (hQj : ∀ x, x ≠ j → Q1 a x = Q a x) (hdg : decode cc pc = .ok (.putfield index, 3))
    (kk : ∀ (H1 : Heap) (locs1 : List Loc), z_HB G P A s.heap T0 I0 Q0 T I1 Q1 H1 locs1 → W p l e R s m args below meth c H1 locs1 cells slots Qp (F0 m (pc + 3) ls rest)) : W p l e R s m args below meth c H locs cells slots Qp (F0 m pc ls (v :: .ref a :: rest)) := by
  obtain ⟨hx, hb, hml, hown, hts, hE, -, -, hin2, -⟩ := X
  have hap := va_apart (own := own) hts hin tyf hty hnm hE.1 hc
  obtain ⟨r, h1, cell, q1, q2, q3, q4⟩ := z_obj hB.1 ha hk
  have hr : r = (C, Tc, N) := Option.some.inj (h1.symm.trans hc)
  subst hr
  obtain ⟨hS, hfc, kC, hkC, hkind⟩ := hE.1.1 k _ hc
  obtain ⟨cf, kf, fi, f, hi, hsl⟩ := hS j hj
  have hlay := hts _ (hin _ (u_in_lay hj))
  unfold u_lay at hlay
  rw [if_pos hfin] at hlay
  have hst := (u_facts hfc hkC (u_lays hts hin hj) hi).1
  have hcf : m.cls = cf := by
    obtain ⟨_, _, c', _, _, _, -, -, hf', -, -, -, hown2, -⟩ := Cond.laysFinal_spec hlay
    have e1 : c' = cf := by have := hi.symm.trans hf'; simp at this; exact this.1.symm
    rw [hdecl] at hown2
    rw [← e1]; exact Option.some.inj (hown.symm.trans hown2)
  have h6 := u_fits hfc hkC hkind (Or.inr hlay) hi (by rw [hty j hj, hd]) hn hfit
  refine W.putFinK hx hb hown (hts _ hlink) (hsame _ hi) hst hcf hin2 (by rw [q2]; exact h6) q1 q3 (by rw [hsl]; exact k2_hasslot (q4 j hj)) rfl rfl hdg fun H' e1 e2 e3 => ?_
  rw [hsl] at e1 ⊢
  have hl : j < (z_fv (z_sg k) 0 (I a) (Q a)).length := by rw [z_fv_len]; exact (List.getElem?_eq_some_iff.mp hsg).1
  exact kk H' _ (z_put_eff hB hc hsg hk ha hp hv hI hQ hIj hQj ⟨_, hc, t_OB.to (V := updV (vp_V (z_fv (z_sg k) 0 (I a) (Q a))) j v) ⟨_, e1, q2, q3, t_set q4 hap hj v⟩ (fun x _ => vp_updV_set hl v x)⟩ e2 e3)
end ZR
