/-! BASE 4: calls and ends -/
set_option maxRecDepth 100000
def z_qi (Q : Int32 → z_T → z_I → z_Q → Prop) : Option Value → z_T → z_I → z_Q → Prop := fun v T I R => ∃ r : Int32, v = some (.int r) ∧ Q r T I R
def z_qz (Q : Int32 → z_T → z_I → z_Q → Prop) : Option Value → z_T → z_I → z_Q → Prop := fun v T I R => ∃ r : Int32, v = some (.int r) ∧ (r = 0 ∨ r = 1) ∧ Q r T I R
def z_qr (Q : Option Nat → z_T → z_I → z_Q → Prop) : Option Value → z_T → z_I → z_Q → Prop := fun v T I R => ∃ r : Option Nat, v = some (va_rf r) ∧ Q r T I R
def z_qv (Q : z_T → z_I → z_Q → Prop) : Option Value → z_T → z_I → z_Q → Prop := fun v T I R => v = none ∧ Q T I R
def z_qf (Q : UInt32 → z_T → z_I → z_Q → Prop) : Option Value → z_T → z_I → z_Q → Prop := fun v T I R => ∃ r : UInt32, v = some (.float r) ∧ Q r T I R
def z_qd (Q : UInt64 → z_T → z_I → z_Q → Prop) : Option Value → z_T → z_I → z_Q → Prop := fun v T I R => ∃ r : UInt64, v = some (.double r) ∧ Q r T I R
def z_no : String → Nat → z_T → z_I → z_Q → Prop := fun _ _ _ _ _ => False
section ZC
variable {p : Program} {l : Launch} {e : Env} {R : Room} {s : State} {m : MethodId} {args : Array Value} {below : List Frame} {meth : Method} {c : Code} {H : Heap} {locs : List Loc} {cells slots : Nat} {Qp : State → Prop}
variable {cc : ByteArray} {pc : Nat} {ls : Array Slot} {rest : List Value} {G : z_E} {P P' A : Nat → Prop} {T0 T : z_T} {I0 I : z_I} {Q0 Q : z_Q} {nL mc ms fr lo mc' ms' fr' lo' : Nat} {own nm : String} {ret : Option FieldType}
variable {QR QR' : Option Value → z_T → z_I → z_Q → Prop} {QX QX' : String → Nat → z_T → z_I → z_Q → Prop}
/-- a call that runs, for the generic rows behind it -/
abbrev z_Run (p : Program) (l : Launch) (e : Env) (R : Room) (s : State) (m : MethodId) (args : Array Value) (below : List Frame) (meth : Method) (c : Code) (H : Heap) (locs : List Loc) (cells slots mc' ms' : Nat) (g : JFrame) (rest : List Value) (G : z_E) (P' : Nat → Prop) (T : z_T) (I : z_I) (Q : z_Q) (QR' : Option Value → z_T → z_I → z_Q → Prop) (QX' : String → Nat → z_T → z_I → z_Q → Prop) : Prop :=
  vx_Run p l e R s m args below meth c H locs cells slots mc' ms' g rest (z_QC G P' T I Q H.size (z_AT T H.size) QR' #[]) (z_XC G P' T I Q H.size (z_AT T H.size) QX') (z_AT T H.size)
abbrev z_Run5 (p : Program) (l : Launch) (e : Env) (R : Room) (s : State) (m : MethodId) (args : Array Value) (below : List Frame) (meth : Method) (c : Code) (H : Heap) (locs : List Loc) (cells slots mc' ms' : Nat) (g : JFrame) (rest : List Value) (G : z_E) (P' : Nat → Prop) (T : z_T) (I : z_I) (Q : z_Q) (QR' : Option Value → z_T → z_I → z_Q → Prop) (QX' : String → Nat → z_T → z_I → z_Q → Prop) : Prop :=
  vx_Run5 p l e R s m args below meth c H locs cells slots mc' ms' g rest (z_QC G P' T I Q H.size (z_AT T H.size) QR' #[]) (z_XC G P' T I Q H.size (z_AT T H.size) QX') (z_AT T H.size)
theorem z_blind {sz : Nat} {av : List Value} : FrameBlind (z_Pc l G P T I Q sz av) := by
  intro a U g mk h
  obtain ⟨h1, h2, h3, h4, h5⟩ := h
  exact ⟨h1, h2, z_env_to (U := U.calling g mk a) (locs := []) h3 va_S.rf rfl (State.WarmedH.refl U) (fun q h => h), h4, h5⟩
/-- the callee's start, out of the caller's world -/
theorem z_pre {av : List Value} (X : z_X l G A p R s m args meth c cc nL own nm ret mc ms fr lo) (hB : z_HB G P A s.heap T0 I0 Q0 T I Q H locs) (hP' : ¬ P' 0) : ∀ U : State, U.heap = H → s.WarmedH U.vm → z_Pc l G P' T I Q H.size av av.toArray U := by
  intro U hU hW
  obtain ⟨b1, b2, b3, b4, b5, b6, b7⟩ := hB
  refine ⟨rfl, by rw [hU], z_env_to X.2.2.2.2.2.1 b2 hU hW ?_, by rw [hU]; exact b1, hP'⟩
  intro q hq
  rcases hq with ⟨h1, h2⟩ | h
  · exact b3 q h1 h2
  · exact b4 q (Nat.le_trans b2.1 h)
/-- behind a call -/
theorem z_after {st₀ t T' : State} {T1 : z_T} {I1 : z_I} {Q1 : z_Q} {L : List Loc} (hB : z_HB G P A s.heap T0 I0 Q0 T I Q H locs) (hpp : ∀ k, P' k → P k) (h0 : st₀.heap = H) (e1 : T'.heap = t.heap) (hL : ∀ q ∈ L, z_AT T H.size q.base) (hO : z_OUT G P' T I Q T1 I1 Q1 H.size t.heap) (hF : va_F (z_AT T H.size) st₀ t) : z_Fr P' T I Q T1 I1 Q1 ∧ z_HB G P A s.heap T0 I0 Q0 T1 I1 Q1 T'.heap (locs ++ L) := by
  obtain ⟨b1, b2, b3, b4, b5, b6, b7⟩ := hB
  obtain ⟨o1, o2, o3⟩ := hO
  have hA : ∀ q, z_AT T H.size q → A q := fun q hq => by
    rcases hq with ⟨h1, h2⟩ | h
    · exact b3 q h1 h2
    · exact b4 q (Nat.le_trans b2.1 h)
  obtain ⟨f1, f2⟩ := hF
  rw [h0] at f1 f2
  refine ⟨o2, by rw [e1]; exact o1, ⟨Nat.le_trans b2.1 (by rw [e1]; exact f1), fun q h1 h2 => ?_, fun q hq => ?_⟩, fun a h1 h2 => ?_, b4, z_Fr_tr b5 o2 hpp, fun a h1 h2 => ?_, b7⟩
  · rw [e1, f2 q (Nat.lt_of_lt_of_le h1 b2.1) (fun z => h2 (hA q z))]
    exact b2.2.1 q h1 h2
  · rcases List.mem_append.mp hq with h | h
    · exact b2.2.2 q h
    · exact hA _ (hL q h)
  · by_cases h9 : (T a).1 = 0
    · exact b4 a (Nat.le_trans b2.1 (o3 a h9 h1))
    · rw [o2.1 a h9] at h2
      exact b3 a h9 h2
  · by_cases h9 : (T a).1 = 0
    · exact Nat.le_trans b2.1 (o3 a h9 h2)
    · exact b6 a h1 h9
/-- the general row: it returns, or it throws -/
theorem z_call {st0 : List Value} (hr : z_Run p l e R s m args below meth c H locs cells slots mc' ms' (F0 m pc ls st0) rest G P' T I Q QR' QX') (hB : z_HB G P A s.heap T0 I0 Q0 T I Q H locs) (hpp : ∀ k, P' k → P k)
    (kk : ∀ (v : Option Value) (T1 : z_T) (I1 : z_I) (Q1 : z_Q) (H1 : Heap) (locs1 : List Loc), QR' v T1 I1 Q1 → z_Fr P' T I Q T1 I1 Q1 → z_HB G P A s.heap T0 I0 Q0 T1 I1 Q1 H1 locs1 → W p l e R s m args below meth c H1 locs1 (cells + mc') (slots + ms') Qp (F0 m (pc + 3) ls (v.toList ++ rest)))
    (kx : ∀ (q : Addr) (E : String) (ce : Cell) (T1 : z_T) (I1 : z_I) (Q1 : z_Q) (H1 : Heap) (locs1 : List Loc), QX' E q T1 I1 Q1 → z_Fr P' T I Q T1 I1 Q1 → z_HB G P A s.heap T0 I0 Q0 T1 I1 Q1 H1 locs1 → H1[q]? = some ce → ce.vm = .none → s.vm.findClass E = some ce.cls → vx_W p l e R s m args below meth c H1 locs1 (cells + mc') (slots + ms') Qp (F0 m pc ls rest) q) : W p l e R s m args below meth c H locs cells slots Qp (F0 m pc ls st0) := by
  intro U hU X
  rcases hr U hU X with ⟨v, st₀, t, T', L, h0, X', hL, e1, e2, ⟨⟨v', T1, I1, Q1, hv, hq, hO⟩, hF⟩, st⟩ | ⟨q, st₀, t, T', L, E, ce, h0, X', hL, e1, e2, ⟨⟨T1, I1, Q1, hq, hO⟩, hF⟩, hce, hcv, hcl, st⟩
  · cases hv
    obtain ⟨hfr, hB1⟩ := z_after hB hpp h0 e1 hL hO hF
    obtain ⟨t2, a1, b1⟩ := kk v T1 I1 Q1 T'.heap (locs ++ L) hq hfr hB1 T' rfl X'
    exact ⟨t2, st t2 a1, b1⟩
  · obtain ⟨hfr, hB1⟩ := z_after hB hpp h0 e1 hL hO hF
    obtain ⟨t2, a1, b1⟩ := kx q E ce T1 I1 Q1 T'.heap (locs ++ L) hq hfr hB1 (by rw [e1]; exact hce) hcv hcl T' rfl X'
    exact ⟨t2, st.trans a1, b1⟩
theorem z_call5 {st0 : List Value} (hr : z_Run5 p l e R s m args below meth c H locs cells slots mc' ms' (F0 m pc ls st0) rest G P' T I Q QR' QX') (hB : z_HB G P A s.heap T0 I0 Q0 T I Q H locs) (hpp : ∀ k, P' k → P k)
    (kk : ∀ (v : Option Value) (T1 : z_T) (I1 : z_I) (Q1 : z_Q) (H1 : Heap) (locs1 : List Loc), QR' v T1 I1 Q1 → z_Fr P' T I Q T1 I1 Q1 → z_HB G P A s.heap T0 I0 Q0 T1 I1 Q1 H1 locs1 → W p l e R s m args below meth c H1 locs1 (cells + mc') (slots + ms') Qp (F0 m (pc + 5) ls (v.toList ++ rest)))
    (kx : ∀ (q : Addr) (E : String) (ce : Cell) (T1 : z_T) (I1 : z_I) (Q1 : z_Q) (H1 : Heap) (locs1 : List Loc), QX' E q T1 I1 Q1 → z_Fr P' T I Q T1 I1 Q1 → z_HB G P A s.heap T0 I0 Q0 T1 I1 Q1 H1 locs1 → H1[q]? = some ce → ce.vm = .none → s.vm.findClass E = some ce.cls → vx_W p l e R s m args below meth c H1 locs1 (cells + mc') (slots + ms') Qp (F0 m pc ls rest) q) : W p l e R s m args below meth c H locs cells slots Qp (F0 m pc ls st0) := by
  intro U hU X
  rcases hr U hU X with ⟨v, st₀, t, T', L, h0, X', hL, e1, e2, ⟨⟨v', T1, I1, Q1, hv, hq, hO⟩, hF⟩, st⟩ | ⟨q, st₀, t, T', L, E, ce, h0, X', hL, e1, e2, ⟨⟨T1, I1, Q1, hq, hO⟩, hF⟩, hce, hcv, hcl, st⟩
  · cases hv
    obtain ⟨hfr, hB1⟩ := z_after hB hpp h0 e1 hL hO hF
    obtain ⟨t2, a1, b1⟩ := kk v T1 I1 Q1 T'.heap (locs ++ L) hq hfr hB1 T' rfl X'
    exact ⟨t2, st t2 a1, b1⟩
  · obtain ⟨hfr, hB1⟩ := z_after hB hpp h0 e1 hL hO hF
    obtain ⟨t2, a1, b1⟩ := kx q E ce T1 I1 Q1 T'.heap (locs ++ L) hq hfr hB1 (by rw [e1]; exact hce) hcv hcl T' rfl X'
    exact ⟨t2, st.trans a1, b1⟩
/-- what a callee's package says: an instance method through a class C -/
abbrev z_PV (C : String) (y : MethodName) (b : ByteArray) (L : Nat) (r : Option FieldType) (n : Nat) : Prop :=
  Cond.instanceMethod y ∈ lw_all ∧ Cond.selects C y y ∈ lw_all ∧ Cond.initialized C ∈ lw_all ∧ Cond.code y b L r ∈ lw_all ∧ (y.cls = C ∧ y.cls ≠ "java/lang/invoke/MethodHandle" ∧ y.cls ≠ "java/lang/invoke/VarHandle" ∧ (parseMethodDescriptor y.desc).map (fun d => d.parameters.length) = some n)
abbrev z_PS (y : MethodName) (b : ByteArray) (L : Nat) (r : Option FieldType) (n : Nat) : Prop :=
  Cond.static y ∈ lw_all ∧ Cond.initialized y.cls ∈ lw_all ∧ Cond.code y b L r ∈ lw_all ∧ (y.cls ≠ "java/lang/invoke/MethodHandle" ∧ y.cls ≠ "java/lang/invoke/VarHandle" ∧ (parseMethodDescriptor y.desc).map (fun d => d.parameters.length) = some n)
abbrev z_PI (y : MethodName) (b : ByteArray) (L : Nat) (n : Nat) : Prop :=
  Cond.instanceMethod y ∈ lw_all ∧ Cond.initialized y.cls ∈ lw_all ∧ Cond.code y b L none ∈ lw_all ∧ y.name = "<init>" ∧ (y.cls ≠ "java/lang/invoke/MethodHandle" ∧ y.cls ≠ "java/lang/invoke/VarHandle" ∧ (parseMethodDescriptor y.desc).map (fun d => d.parameters.length) = some n)
theorem z_runV {C : String} {y : MethodName} {b : ByteArray} {L n index k o : Nat} {r : Option FieldType} {Tc : u_T} {N : Nat} (As : List Value) (pk : z_PV C y b L r n) (hM : z_GM l G y (ws_ y b L r) fr' lo' mc' ms' (.ref o :: As) P' T I Q QR' QX') (X : z_X l G A p R s m args meth c cc nL own nm ret mc ms fr lo) (hB : z_HB G P A s.heap T0 I0 Q0 T I Q H locs) (hP' : ¬ P' 0) (hlink : Cond.methodLink own index y ∈ lw_all) (hc : z_cl[k]? = some (C, Tc, N)) (hk : k < 89) (ho : (T o).1 = k + 1) (hn : As.length = n) (hsize : ls.size = nL) (hW : (rest.map fun v => v.category).sum ≤ 8) (hdg : decode cc pc = .ok (.invokevirtual index, 3)) (h1 : cells + mc' ≤ mc) (h2 : slots + ms' ≤ ms) (h3 : fr' + 1 ≤ fr) (h4 : 8 + (L + 11) + lo' ≤ lo) :
    z_Run p l e R s m args below meth c H locs cells slots mc' ms' (F0 m pc ls (As.reverse ++ .ref o :: rest)) rest G P' T I Q QR' QX' := by
  have hr := z_recv X hB.1 hc hk ho
  have hpre := z_pre (av := .ref o :: As) X hB hP'
  obtain ⟨hx, hb, hml, hown, hts, hE, -, -, -, hR1, hR2, hR3, hR4, -⟩ := X
  obtain ⟨p1, p2, p3, p4, p5⟩ := pk
  exact vx_runV (nL := nL) (As := As) ⟨hx, hb, hml, hown, hts⟩ (hM H.size) (cwV n hts (lw_V hlink p1 p2 p3 p4) rfl rfl rfl p5 ⟨Nat.le_trans h3 hR3, Nat.le_trans h4 hR4⟩) ⟨z_blind, hr, hpre⟩ rfl hn hsize rfl (by show 2 * 0 + _ ≤ 8; omega) hdg ⟨Nat.le_trans h1 hR1, Nat.le_trans h2 hR2⟩
theorem z_runS {y : MethodName} {b : ByteArray} {L n index : Nat} {r : Option FieldType} (As : List Value) (pk : z_PS y b L r n) (hM : z_GM l G y (ws_ y b L r) fr' lo' mc' ms' As P' T I Q QR' QX') (X : z_X l G A p R s m args meth c cc nL own nm ret mc ms fr lo) (hB : z_HB G P A s.heap T0 I0 Q0 T I Q H locs) (hP' : ¬ P' 0) (hlink : Cond.methodLink own index y ∈ lw_all) (hn : As.length = n) (hsize : ls.size = nL) (hW : (rest.map fun v => v.category).sum ≤ 8) (hdg : decode cc pc = .ok (.invokestatic index, 3)) (h1 : cells + mc' ≤ mc) (h2 : slots + ms' ≤ ms) (h3 : fr' + 1 ≤ fr) (h4 : 8 + (L + 11) + lo' ≤ lo) :
    z_Run p l e R s m args below meth c H locs cells slots mc' ms' (F0 m pc ls (As.reverse ++ rest)) rest G P' T I Q QR' QX' := by
  have hpre := z_pre (av := As) X hB hP'
  obtain ⟨hx, hb, hml, hown, hts, hE, -, -, -, hR1, hR2, hR3, hR4, -⟩ := X
  obtain ⟨p1, p2, p3, p4⟩ := pk
  exact vx_runS (nL := nL) (As := As) ⟨hx, hb, hml, hown, hts⟩ (hM H.size) (va_cwS n hts (lw_S hlink p1 p2 p3) rfl rfl rfl p4 ⟨Nat.le_trans h3 hR3, Nat.le_trans h4 hR4⟩) ⟨z_blind, hpre⟩ rfl hn hsize rfl (by show 2 * 0 + _ ≤ 8; omega) hdg ⟨Nat.le_trans h1 hR1, Nat.le_trans h2 hR2⟩
theorem z_runI {y : MethodName} {b : ByteArray} {L n index o : Nat} (As : List Value) (pk : z_PI y b L n) (hM : z_GM l G y (ws_ y b L none) fr' lo' mc' ms' (.ref o :: As) P' T I Q QR' QX') (X : z_X l G A p R s m args meth c cc nL own nm ret mc ms fr lo) (hB : z_HB G P A s.heap T0 I0 Q0 T I Q H locs) (hP' : ¬ P' 0) (hlink : Cond.methodLink own index y ∈ lw_all) (hn : As.length = n) (hsize : ls.size = nL) (hW : (rest.map fun v => v.category).sum ≤ 8) (hdg : decode cc pc = .ok (.invokespecial index, 3)) (h1 : cells + mc' ≤ mc) (h2 : slots + ms' ≤ ms) (h3 : fr' + 1 ≤ fr) (h4 : 8 + (L + 11) + lo' ≤ lo) :
    z_Run p l e R s m args below meth c H locs cells slots mc' ms' (F0 m pc ls (As.reverse ++ .ref o :: rest)) rest G P' T I Q QR' QX' := by
  have hpre := z_pre (av := .ref o :: As) X hB hP'
  obtain ⟨hx, hb, hml, hown, hts, hE, -, -, -, hR1, hR2, hR3, hR4, -⟩ := X
  obtain ⟨p1, p2, p3, p4, p5⟩ := pk
  exact vx_runI (nL := nL) (As := As) ⟨hx, hb, hml, hown, hts⟩ (hM H.size) (cwI n hts (lw_meth p3) rfl rfl rfl (hts _ p2) (hts _ hlink) (hts _ p1) p4 p5 ⟨Nat.le_trans h3 hR3, Nat.le_trans h4 hR4⟩) ⟨z_blind, hpre⟩ rfl hn hsize rfl (by show 2 * 0 + _ ≤ 8; omega) hdg ⟨Nat.le_trans h1 hR1, Nat.le_trans h2 hR2⟩
/-- ends -/
theorem z_end (X : z_X l G A p R s m args meth c cc nL own nm ret mc ms fr lo) (hB : z_HB G P A s.heap T0 I0 Q0 T I Q H locs) {v : Option Value} (hq : QR v T I Q) : ∀ t : State, t.heap = H → s.WarmedH t.vm → z_QC G P T0 I0 Q0 s.heap.size A QR args s (.returned v) t := by
  intro t ht hW
  obtain ⟨b1, b2, b3, b4, b5, b6, b7⟩ := hB
  exact ⟨⟨v, T, I, Q, rfl, hq, by rw [ht]; exact b1, b5, b6⟩, b2.F ht⟩
theorem z_iret {v : Int32} (X : z_X l G A p R s m args meth c cc nL own nm (some .int) mc ms fr lo) (hB : z_HB G P A s.heap T0 I0 Q0 T I Q H locs) (hq : QR (some (.int v)) T I Q) (h1 : cells ≤ mc) (h2 : slots ≤ ms) (hdg : decode cc pc = .ok (.ireturn, 1)) : W p l e R s m args below meth c H locs cells slots (z_MQ below G P A T0 I0 Q0 QR QX args s mc ms) (F0 m pc ls [.int v]) := by
  have hend := z_end X hB hq
  obtain ⟨hx, hb, hml, hown, hts, hE, hr, hlk, -⟩ := X
  exact W.widen h1 h2 (vx_ret (W.iret hx hb hr hend hB.2.1.2.2 hdg hlk))
theorem z_zret {v : Int32} (X : z_X l G A p R s m args meth c cc nL own nm (some .boolean) mc ms fr lo) (hB : z_HB G P A s.heap T0 I0 Q0 T I Q H locs) (hv : v = 0 ∨ v = 1) (hq : QR (some (.int v)) T I Q) (h1 : cells ≤ mc) (h2 : slots ≤ ms) (hdg : decode cc pc = .ok (.ireturn, 1)) : W p l e R s m args below meth c H locs cells slots (z_MQ below G P A T0 I0 Q0 QR QX args s mc ms) (F0 m pc ls [.int v]) := by
  have hend := z_end X hB hq
  obtain ⟨hx, hb, hml, hown, hts, hE, hr, hlk, -⟩ := X
  exact W.widen h1 h2 (vx_ret (W.zret hx hb hr (by rcases hv with rfl | rfl <;> decide) hend hB.2.1.2.2 hdg hlk))
theorem z_vret (X : z_X l G A p R s m args meth c cc nL own nm none mc ms fr lo) (hB : z_HB G P A s.heap T0 I0 Q0 T I Q H locs) (hq : QR none T I Q) (h1 : cells ≤ mc) (h2 : slots ≤ ms) (hdg : decode cc pc = .ok (.return_, 1)) : W p l e R s m args below meth c H locs cells slots (z_MQ below G P A T0 I0 Q0 QR QX args s mc ms) (F0 m pc ls []) := by
  have hend := z_end X hB hq
  obtain ⟨hx, hb, hml, hown, hts, hE, hr, hlk, -⟩ := X
  exact W.widen h1 h2 (vx_ret (W.vret hx hb hr hend hB.2.1.2.2 hdg hlk))
theorem z_aret {v : Option Nat} {rt : FieldType} (X : z_X l G A p R s m args meth c cc nL own nm (some rt) mc ms fr lo) (hrt : (∃ n, rt = .object n) ∨ ∃ t, rt = .array t) (hB : z_HB G P A s.heap T0 I0 Q0 T I Q H locs) (hq : QR (some (va_rf v)) T I Q) (h1 : cells ≤ mc) (h2 : slots ≤ ms) (hdg : decode cc pc = .ok (.areturn, 1)) : W p l e R s m args below meth c H locs cells slots (z_MQ below G P A T0 I0 Q0 QR QX args s mc ms) (F0 m pc ls [va_rf v]) := by
  have hend := z_end X hB hq
  obtain ⟨hx, hb, hml, hown, hts, hE, hr, hlk, -⟩ := X
  exact W.widen h1 h2 (vx_ret (W.aret hx hb hr hrt (va_rf_or v) hend hB.2.1.2.2 hdg hlk))
theorem z_fret {v : UInt32} (X : z_X l G A p R s m args meth c cc nL own nm (some .float) mc ms fr lo) (hB : z_HB G P A s.heap T0 I0 Q0 T I Q H locs) (hq : QR (some (.float v)) T I Q) (h1 : cells ≤ mc) (h2 : slots ≤ ms) (hdg : decode cc pc = .ok (.freturn, 1)) : W p l e R s m args below meth c H locs cells slots (z_MQ below G P A T0 I0 Q0 QR QX args s mc ms) (F0 m pc ls [.float v]) := by
  have hend := z_end X hB hq
  obtain ⟨hx, hb, hml, hown, hts, hE, hr, hlk, -⟩ := X
  exact W.widen h1 h2 (vx_ret (W.fret hx hb hr hend hB.2.1.2.2 hdg hlk))
theorem z_dret {v : UInt64} (X : z_X l G A p R s m args meth c cc nL own nm (some .double) mc ms fr lo) (hB : z_HB G P A s.heap T0 I0 Q0 T I Q H locs) (hq : QR (some (.double v)) T I Q) (h1 : cells ≤ mc) (h2 : slots ≤ ms) (hdg : decode cc pc = .ok (.dreturn, 1)) : W p l e R s m args below meth c H locs cells slots (z_MQ below G P A T0 I0 Q0 QR QX args s mc ms) (F0 m pc ls [.double v]) := by
  have hend := z_end X hB hq
  obtain ⟨hx, hb, hml, hown, hts, hE, hr, hlk, -⟩ := X
  exact W.widen h1 h2 (vx_ret (W.dret hx hb hr hend hB.2.1.2.2 hdg hlk))
/-- an exception that goes on to the caller -/
theorem z_out {q : Addr} {E : String} {ce : Cell} (hn : z_hn own nm = false) (X : z_X l G A p R s m args meth c cc nL own nm ret mc ms fr lo) (hB : z_HB G P A s.heap T0 I0 Q0 T I Q H locs) (hcell : H[q]? = some ce) (hv : ce.vm = .none) (hcl : s.vm.findClass E = some ce.cls) (hq : QX E q T I Q) (h1 : cells ≤ mc) (h2 : slots ≤ ms) : vx_W p l e R s m args below meth c H locs cells slots (z_MQ below G P A T0 I0 Q0 QR QX args s mc ms) (F0 m pc ls rest) q := by
  obtain ⟨b1, b2, b3, b4, b5, b6, b7⟩ := hB
  obtain ⟨hx, hb, hml, hown, hts, hE, hr, hlk, -, -, -, -, -, hnx⟩ := X
  exact vx_out (fun x hx => (hnx hn x hx).elim) hlk hcell hv hcl (fun t ht hW => ⟨⟨T, I, Q, hq, by rw [ht]; exact b1, b5, b6⟩, b2.F ht⟩) b2.2.2 h1 h2
end ZC
