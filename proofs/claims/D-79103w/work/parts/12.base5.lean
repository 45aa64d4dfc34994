/-! BASE 5: references that may be null; typed calls; stores by kind -/
set_option maxRecDepth 100000
def z_pi (Q : Int32 → Prop) (T : z_T) (I : z_I) (R : z_Q) : Option Value → z_T → z_I → z_Q → Prop := fun v T1 I1 R1 => ∃ r : Int32, v = some (.int r) ∧ Q r ∧ T1 = T ∧ I1 = I ∧ R1 = R
def z_pz (Q : Int32 → Prop) (T : z_T) (I : z_I) (R : z_Q) : Option Value → z_T → z_I → z_Q → Prop := fun v T1 I1 R1 => ∃ r : Int32, v = some (.int r) ∧ (r = 0 ∨ r = 1) ∧ Q r ∧ T1 = T ∧ I1 = I ∧ R1 = R
def z_pr (Q : Option Nat → Prop) (T : z_T) (I : z_I) (R : z_Q) : Option Value → z_T → z_I → z_Q → Prop := fun v T1 I1 R1 => ∃ r : Option Nat, v = some (va_rf r) ∧ Q r ∧ T1 = T ∧ I1 = I ∧ R1 = R
def z_pv (Q : Prop) (T : z_T) (I : z_I) (R : z_Q) : Option Value → z_T → z_I → z_Q → Prop := fun v T1 I1 R1 => v = none ∧ Q ∧ T1 = T ∧ I1 = I ∧ R1 = R
def z_pf (Q : UInt32 → Prop) (T : z_T) (I : z_I) (R : z_Q) : Option Value → z_T → z_I → z_Q → Prop := fun v T1 I1 R1 => ∃ r : UInt32, v = some (.float r) ∧ Q r ∧ T1 = T ∧ I1 = I ∧ R1 = R
def z_pd (Q : UInt64 → Prop) (T : z_T) (I : z_I) (R : z_Q) : Option Value → z_T → z_I → z_Q → Prop := fun v T1 I1 R1 => ∃ r : UInt64, v = some (.double r) ∧ Q r ∧ T1 = T ∧ I1 = I ∧ R1 = R
abbrev z_none : Nat → Prop := fun _ => False
section ZN
variable {p : Program} {l : Launch} {e : Env} {R : Room} {s : State} {m : MethodId} {args : Array Value} {below : List Frame} {meth : Method} {c : Code} {H : Heap} {locs : List Loc} {cells slots : Nat} {Qp : State → Prop}
variable {cc : ByteArray} {pc : Nat} {ls : Array Slot} {rest : List Value} {G : z_E} {P P' A : Nat → Prop} {T0 T : z_T} {I0 I : z_I} {Q0 Q : z_Q} {nL mc ms fr lo mc' ms' fr' lo' : Nat} {own nm : String} {ret : Option FieldType}
theorem z_aload_n (hexec : p.tables.exec = Jvm.exec) (hb : c.code = cc) {k : Fin 4} {i : Nat} {x : Option Nat} (hdg : decode cc pc = .ok (.aload_n k, 1)) (hi : (k : Nat) = i) (hl : ls[i]? = some (.val (va_rf x))) (k : W p l e R s m args below meth c H locs cells slots Qp (F0 m (pc + 1) ls (va_rf x :: rest))) : W p l e R s m args below meth c H locs cells slots Qp (F0 m pc ls rest) := by
  cases x with
  | none => exact lv_aload_nN hexec hb hdg hi hl k
  | some a => exact lv_aload_n hexec hb hdg hi hl k
theorem z_aload (hexec : p.tables.exec = Jvm.exec) (hb : c.code = cc) {i : Nat} {x : Option Nat} (hdg : decode cc pc = .ok (.aload i, 2)) (hl : ls[i]? = some (.val (va_rf x))) (k : W p l e R s m args below meth c H locs cells slots Qp (F0 m (pc + 2) ls (va_rf x :: rest))) : W p l e R s m args below meth c H locs cells slots Qp (F0 m pc ls rest) := by
  cases x with
  | none => exact lv_aloadN hexec hb hdg hl k
  | some a => exact lv_aload hexec hb hdg hl k
theorem z_astore_n (hexec : p.tables.exec = Jvm.exec) (hb : c.code = cc) {k : Fin 4} {i : Nat} {x : Option Nat} {lv lv' : List (Nat × Value)} (hdg : decode cc pc = .ok (.astore_n k, 1)) (hi : (k : Nat) = i) (h : lv_has ls nL lv) (hn : i < nL) (hl : (i, va_rf x) :: lv.filter (fun q => !(q.1 == i) && !(q.1 + 1 == i && q.2.category == 2)) = lv') (kk : ∀ ls' : Array Slot, lv_has ls' nL lv' → W p l e R s m args below meth c H locs cells slots Qp (F0 m (pc + 1) ls' rest)) : W p l e R s m args below meth c H locs cells slots Qp (F0 m pc ls (va_rf x :: rest)) := by
  cases x with
  | none => exact lv_astore_nN hexec hb hdg hi h hn hl kk
  | some a => exact lv_astore_n hexec hb hdg hi h hn hl kk
theorem z_astore (hexec : p.tables.exec = Jvm.exec) (hb : c.code = cc) {i : Nat} {x : Option Nat} {lv lv' : List (Nat × Value)} (hdg : decode cc pc = .ok (.astore i, 2)) (h : lv_has ls nL lv) (hn : i < nL) (hl : (i, va_rf x) :: lv.filter (fun q => !(q.1 == i) && !(q.1 + 1 == i && q.2.category == 2)) = lv') (kk : ∀ ls' : Array Slot, lv_has ls' nL lv' → W p l e R s m args below meth c H locs cells slots Qp (F0 m (pc + 2) ls' rest)) : W p l e R s m args below meth c H locs cells slots Qp (F0 m pc ls (va_rf x :: rest)) := by
  cases x with
  | none => exact lv_astoreN hexec hb hdg h hn hl kk
  | some a => exact lv_astore hexec hb hdg h hn hl kk
theorem z_ifnull (hexec : p.tables.exec = Jvm.exec) (hb : c.code = cc) {x : Option Nat} {off : Int} {tgt : Nat} (hdg : decode cc pc = .ok (.ifnull off, 3)) (ht : (pc : Int) + off = (tgt : Int)) (kt : x = none → W p l e R s m args below meth c H locs cells slots Qp (F0 m tgt ls rest)) (kf : ∀ a, x = some a → W p l e R s m args below meth c H locs cells slots Qp (F0 m (pc + 3) ls rest)) : W p l e R s m args below meth c H locs cells slots Qp (F0 m pc ls (va_rf x :: rest)) := by
  cases x with
  | none => exact lv_ifnullN hexec hb hdg ht (kt rfl)
  | some a => exact lv_ifnull hexec hb hdg (kf a rfl)
theorem z_ifnonnull (hexec : p.tables.exec = Jvm.exec) (hb : c.code = cc) {x : Option Nat} {off : Int} {tgt : Nat} (hdg : decode cc pc = .ok (.ifnonnull off, 3)) (ht : (pc : Int) + off = (tgt : Int)) (kt : ∀ a, x = some a → W p l e R s m args below meth c H locs cells slots Qp (F0 m tgt ls rest)) (kf : x = none → W p l e R s m args below meth c H locs cells slots Qp (F0 m (pc + 3) ls rest)) : W p l e R s m args below meth c H locs cells slots Qp (F0 m pc ls (va_rf x :: rest)) := by
  cases x with
  | none => exact lv_ifnonnullN hexec hb hdg (kf rfl)
  | some a => exact lv_ifnonnull hexec hb hdg ht (kt a rfl)
/-- the stack said in another way -/
theorem z_stk {st st' : List Value} (h : st = st') (k : W p l e R s m args below meth c H locs cells slots Qp (F0 m pc ls st')) : W p l e R s m args below meth c H locs cells slots Qp (F0 m pc ls st) := by rw [h]; exact k
theorem z_castn (hexec : p.tables.exec = Jvm.exec) (hb : c.code = cc) {index : Nat} (hdg : decode cc pc = .ok (.checkcast index, 3)) {x : Option Nat} (hx : x = none)
    (k : W p l e R s m args below meth c H locs cells slots Qp (F0 m (pc + 3) ls (va_rf x :: rest))) : W p l e R s m args below meth c H locs cells slots Qp (F0 m pc ls (va_rf x :: rest)) := by
  subst hx; exact lv_castN hexec hb hdg k
-- typed calls: not throwing
theorem z_calli {st0 : List Value} {Qk : Int32 → z_T → z_I → z_Q → Prop} (hr : z_Run p l e R s m args below meth c H locs cells slots mc' ms' (F0 m pc ls st0) rest G P' T I Q (z_qi Qk) z_no) (hB : z_HB G P A s.heap T0 I0 Q0 T I Q H locs) (hpp : ∀ k, P' k → P k)
    (kk : ∀ (r : Int32) (T1 : z_T) (I1 : z_I) (Q1 : z_Q) (H1 : Heap) (locs1 : List Loc), Qk r T1 I1 Q1 → z_Fr P' T I Q T1 I1 Q1 → z_HB G P A s.heap T0 I0 Q0 T1 I1 Q1 H1 locs1 → W p l e R s m args below meth c H1 locs1 (cells + mc') (slots + ms') Qp (F0 m (pc + 3) ls (.int r :: rest))) : W p l e R s m args below meth c H locs cells slots Qp (F0 m pc ls st0) := by
  refine z_call hr hB hpp (fun v T1 I1 Q1 H1 locs1 hq hF hB1 => ?_) (fun _ _ _ _ _ _ _ _ hq => hq.elim)
  obtain ⟨r, rfl, hq⟩ := hq
  exact kk r T1 I1 Q1 H1 locs1 hq hF hB1
theorem z_callz {st0 : List Value} {Qk : Int32 → z_T → z_I → z_Q → Prop} (hr : z_Run p l e R s m args below meth c H locs cells slots mc' ms' (F0 m pc ls st0) rest G P' T I Q (z_qz Qk) z_no) (hB : z_HB G P A s.heap T0 I0 Q0 T I Q H locs) (hpp : ∀ k, P' k → P k)
    (kk : ∀ (r : Int32) (T1 : z_T) (I1 : z_I) (Q1 : z_Q) (H1 : Heap) (locs1 : List Loc), (r = 0 ∨ r = 1) → Qk r T1 I1 Q1 → z_Fr P' T I Q T1 I1 Q1 → z_HB G P A s.heap T0 I0 Q0 T1 I1 Q1 H1 locs1 → W p l e R s m args below meth c H1 locs1 (cells + mc') (slots + ms') Qp (F0 m (pc + 3) ls (.int r :: rest))) : W p l e R s m args below meth c H locs cells slots Qp (F0 m pc ls st0) := by
  refine z_call hr hB hpp (fun v T1 I1 Q1 H1 locs1 hq hF hB1 => ?_) (fun _ _ _ _ _ _ _ _ hq => hq.elim)
  obtain ⟨r, rfl, hz, hq⟩ := hq
  exact kk r T1 I1 Q1 H1 locs1 hz hq hF hB1
theorem z_callv {st0 : List Value} {Qk : z_T → z_I → z_Q → Prop} (hr : z_Run p l e R s m args below meth c H locs cells slots mc' ms' (F0 m pc ls st0) rest G P' T I Q (z_qv Qk) z_no) (hB : z_HB G P A s.heap T0 I0 Q0 T I Q H locs) (hpp : ∀ k, P' k → P k)
    (kk : ∀ (T1 : z_T) (I1 : z_I) (Q1 : z_Q) (H1 : Heap) (locs1 : List Loc), Qk T1 I1 Q1 → z_Fr P' T I Q T1 I1 Q1 → z_HB G P A s.heap T0 I0 Q0 T1 I1 Q1 H1 locs1 → W p l e R s m args below meth c H1 locs1 (cells + mc') (slots + ms') Qp (F0 m (pc + 3) ls rest)) : W p l e R s m args below meth c H locs cells slots Qp (F0 m pc ls st0) := by
  refine z_call hr hB hpp (fun v T1 I1 Q1 H1 locs1 hq hF hB1 => ?_) (fun _ _ _ _ _ _ _ _ hq => hq.elim)
  obtain ⟨rfl, hq⟩ := hq
  exact kk T1 I1 Q1 H1 locs1 hq hF hB1
theorem z_callr {st0 : List Value} {Qk : Option Nat → z_T → z_I → z_Q → Prop} (hr : z_Run p l e R s m args below meth c H locs cells slots mc' ms' (F0 m pc ls st0) rest G P' T I Q (z_qr Qk) z_no) (hB : z_HB G P A s.heap T0 I0 Q0 T I Q H locs) (hpp : ∀ k, P' k → P k)
    (kk : ∀ (r : Option Nat) (T1 : z_T) (I1 : z_I) (Q1 : z_Q) (H1 : Heap) (locs1 : List Loc), Qk r T1 I1 Q1 → z_Fr P' T I Q T1 I1 Q1 → z_HB G P A s.heap T0 I0 Q0 T1 I1 Q1 H1 locs1 → W p l e R s m args below meth c H1 locs1 (cells + mc') (slots + ms') Qp (F0 m (pc + 3) ls (va_rf r :: rest))) : W p l e R s m args below meth c H locs cells slots Qp (F0 m pc ls st0) := by
  refine z_call hr hB hpp (fun v T1 I1 Q1 H1 locs1 hq hF hB1 => ?_) (fun _ _ _ _ _ _ _ _ hq => hq.elim)
  obtain ⟨r, rfl, hq⟩ := hq
  exact kk r T1 I1 Q1 H1 locs1 hq hF hB1
-- pure callees
theorem z_callip {st0 : List Value} {Qk : Int32 → Prop} (hr : z_Run p l e R s m args below meth c H locs cells slots 0 0 (F0 m pc ls st0) rest G z_none T I Q (z_pi Qk T I Q) z_no) (hB : z_HB G P A s.heap T0 I0 Q0 T I Q H locs)
    (kk : ∀ (r : Int32) (H1 : Heap) (locs1 : List Loc), Qk r → z_HB G P A s.heap T0 I0 Q0 T I Q H1 locs1 → W p l e R s m args below meth c H1 locs1 cells slots Qp (F0 m (pc + 3) ls (.int r :: rest))) : W p l e R s m args below meth c H locs cells slots Qp (F0 m pc ls st0) := by
  refine z_call hr hB (fun _ h => h.elim) (fun v T1 I1 Q1 H1 locs1 hq hF hB1 => ?_) (fun _ _ _ _ _ _ _ _ hq => hq.elim)
  obtain ⟨r, rfl, hq, rfl, rfl, rfl⟩ := hq
  exact kk r H1 locs1 hq hB1
theorem z_callzp {st0 : List Value} {Qk : Int32 → Prop} (hr : z_Run p l e R s m args below meth c H locs cells slots 0 0 (F0 m pc ls st0) rest G z_none T I Q (z_pz Qk T I Q) z_no) (hB : z_HB G P A s.heap T0 I0 Q0 T I Q H locs)
    (kk : ∀ (r : Int32) (H1 : Heap) (locs1 : List Loc), (r = 0 ∨ r = 1) → Qk r → z_HB G P A s.heap T0 I0 Q0 T I Q H1 locs1 → W p l e R s m args below meth c H1 locs1 cells slots Qp (F0 m (pc + 3) ls (.int r :: rest))) : W p l e R s m args below meth c H locs cells slots Qp (F0 m pc ls st0) := by
  refine z_call hr hB (fun _ h => h.elim) (fun v T1 I1 Q1 H1 locs1 hq hF hB1 => ?_) (fun _ _ _ _ _ _ _ _ hq => hq.elim)
  obtain ⟨r, rfl, hz, hq, rfl, rfl, rfl⟩ := hq
  exact kk r H1 locs1 hz hq hB1
theorem z_callrp {st0 : List Value} {Qk : Option Nat → Prop} (hr : z_Run p l e R s m args below meth c H locs cells slots 0 0 (F0 m pc ls st0) rest G z_none T I Q (z_pr Qk T I Q) z_no) (hB : z_HB G P A s.heap T0 I0 Q0 T I Q H locs)
    (kk : ∀ (r : Option Nat) (H1 : Heap) (locs1 : List Loc), Qk r → z_HB G P A s.heap T0 I0 Q0 T I Q H1 locs1 → W p l e R s m args below meth c H1 locs1 cells slots Qp (F0 m (pc + 3) ls (va_rf r :: rest))) : W p l e R s m args below meth c H locs cells slots Qp (F0 m pc ls st0) := by
  refine z_call hr hB (fun _ h => h.elim) (fun v T1 I1 Q1 H1 locs1 hq hF hB1 => ?_) (fun _ _ _ _ _ _ _ _ hq => hq.elim)
  obtain ⟨r, rfl, hq, rfl, rfl, rfl⟩ := hq
  exact kk r H1 locs1 hq hB1
theorem z_callvp {st0 : List Value} {Qk : Prop} (hr : z_Run p l e R s m args below meth c H locs cells slots 0 0 (F0 m pc ls st0) rest G z_none T I Q (z_pv Qk T I Q) z_no) (hB : z_HB G P A s.heap T0 I0 Q0 T I Q H locs)
    (kk : ∀ (H1 : Heap) (locs1 : List Loc), Qk → z_HB G P A s.heap T0 I0 Q0 T I Q H1 locs1 → W p l e R s m args below meth c H1 locs1 cells slots Qp (F0 m (pc + 3) ls rest)) : W p l e R s m args below meth c H locs cells slots Qp (F0 m pc ls st0) := by
  refine z_call hr hB (fun _ h => h.elim) (fun v T1 I1 Q1 H1 locs1 hq hF hB1 => ?_) (fun _ _ _ _ _ _ _ _ hq => hq.elim)
  obtain ⟨rfl, hq, rfl, rfl, rfl⟩ := hq
  exact kk H1 locs1 hq hB1
end ZN
