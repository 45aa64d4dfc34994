/-! BASE 6: the reference's state as one function M: field number, place -/
set_option maxRecDepth 100000
abbrev z_M : Type := Nat → Nat → Int32
/-- which fields of the reference are arrays, and how long -/
def z_ln : Nat → Nat
  | 1 => 8 | 2 => 8
  | 3 => 3 | 4 => 3 | 5 => 12 | 6 => 3 | 7 => 3 | 8 => 3 | 9 => 3
  | 10 => 3 | 11 => 3 | 12 => 90 | 13 => 3 | 14 => 3 | 15 => 3 | 16 => 3 | 17 => 3 | 18 => 3 | 19 => 3 | 20 => 3 | 21 => 3
  | 22 => 30 | 23 => 30 | 24 => 30 | 25 => 30 | 26 => 30 | 27 => 30 | 28 => 30 | 29 => 30 | 30 => 30 | 31 => 30
  | 32 => 96 | 41 => 3 | 42 => 3 | 43 => 3 | 47 => 3 | 48 => 80 | 49 => 40 | 50 => 240
  | 55 => 3438 | 56 => 573 | 57 => 573 | 58 => 573
  | _ => 0
/-- the reference lies at o, its arrays at b -/
def z_lie (T : z_T) (Q : z_Q) (o : Nat) (b : Nat → Nat) : Prop := T o = (2, 0, 1) ∧ (∀ f, z_ln f ≠ 0 → Q o f = some (b f) ∧ T (b f) = (100, z_ln f, 1)) ∧ (∀ f g, z_ln f ≠ 0 → z_ln g ≠ 0 → b f = b g → f = g)
/-- what it holds -/
def z_of (I : z_I) (o : Nat) (b : Nat → Nat) : z_M := fun f i => if z_ln f = 0 then I o f else I (b f) i
def z_us (M : z_M) (f : Nat) (v : Int32) : z_M := fun g i => if g = f then v else M g i
theorem z_of_s {T : z_T} {Q : z_Q} {I : z_I} {o : Nat} {b : Nat → Nat} {f : Nat} {v : Int32} (h : z_lie T Q o b) (hf : z_ln f = 0) : z_of (z_up I o f v) o b = z_us (z_of I o b) f v := by
  obtain ⟨h1, h2, h3⟩ := h
  funext g i
  by_cases e : g = f
  · subst e; simp [z_of, z_us, hf, z_up]
  · by_cases e0 : z_ln g = 0
    · simp [z_of, z_us, e, e0, z_up]
    · have hne : b g ≠ o := by
        intro e9
        have h4 := (h2 g e0).2
        rw [e9, h1] at h4
        cases h4
      simp [z_of, z_us, e, e0, z_up, hne]
theorem z_of_a {T : z_T} {Q : z_Q} {I : z_I} {o : Nat} {b : Nat → Nat} {f k : Nat} {v : Int32} (h : z_lie T Q o b) (hf : z_ln f ≠ 0) : z_of (z_up I (b f) k v) o b = z_up (z_of I o b) f k v := by
  obtain ⟨h1, h2, h3⟩ := h
  funext g i
  have hno : o ≠ b f := by
    intro e9
    have h4 := (h2 f hf).2
    rw [← e9, h1] at h4
    cases h4
  by_cases e0 : z_ln g = 0
  · have : g ≠ f := by intro e; subst e; exact hf e0
    simp [z_of, z_up, e0, hno, this]
  · by_cases e : g = f
    · subst e; simp [z_of, z_up, e0]
    · have : b g ≠ b f := fun e9 => e (h3 g f e0 hf e9)
      simp [z_of, z_up, e0, e, this]
abbrev z_P1c : Nat → Prop := fun k => k = 1
/-- the world of the reference's methods -/
def z_MB (G : z_E) (P A : Nat → Prop) (H0 : Heap) (T : z_T) (I0 : z_I) (Q : z_Q) (o : Nat) (b : Nat → Nat) (M : z_M) (H : Heap) (locs : List Loc) : Prop :=
  z_lie T Q o b ∧ ∃ I, z_HB G P A H0 T I0 Q T I Q H locs ∧ z_of I o b = M
def z_mi (Qk : Int32 → z_M → Prop) (T : z_T) (R : z_Q) (o : Nat) (b : Nat → Nat) : Option Value → z_T → z_I → z_Q → Prop := fun v T1 I1 R1 => ∃ r : Int32, v = some (.int r) ∧ Qk r (z_of I1 o b) ∧ T1 = T ∧ R1 = R
def z_mz (Qk : Int32 → z_M → Prop) (T : z_T) (R : z_Q) (o : Nat) (b : Nat → Nat) : Option Value → z_T → z_I → z_Q → Prop := fun v T1 I1 R1 => ∃ r : Int32, v = some (.int r) ∧ (r = 0 ∨ r = 1) ∧ Qk r (z_of I1 o b) ∧ T1 = T ∧ R1 = R
def z_mv_ (Qk : z_M → Prop) (T : z_T) (R : z_Q) (o : Nat) (b : Nat → Nat) : Option Value → z_T → z_I → z_Q → Prop := fun v T1 I1 R1 => v = none ∧ Qk (z_of I1 o b) ∧ T1 = T ∧ R1 = R
def z_mf (Qk : UInt32 → z_M → Prop) (T : z_T) (R : z_Q) (o : Nat) (b : Nat → Nat) : Option Value → z_T → z_I → z_Q → Prop := fun v T1 I1 R1 => ∃ r : UInt32, v = some (.float r) ∧ Qk r (z_of I1 o b) ∧ T1 = T ∧ R1 = R
def z_md (Qk : UInt64 → z_M → Prop) (T : z_T) (R : z_Q) (o : Nat) (b : Nat → Nat) : Option Value → z_T → z_I → z_Q → Prop := fun v T1 I1 R1 => ∃ r : UInt64, v = some (.double r) ∧ Qk r (z_of I1 o b) ∧ T1 = T ∧ R1 = R
section ZM
variable {p : Program} {l : Launch} {e : Env} {R : Room} {s : State} {m : MethodId} {args : Array Value} {below : List Frame} {meth : Method} {c : Code} {H : Heap} {locs : List Loc} {cells slots : Nat} {Qp : State → Prop}
variable {cc : ByteArray} {pc : Nat} {ls : Array Slot} {rest : List Value} {G : z_E} {P A : Nat → Prop} {T : z_T} {I0 : z_I} {Q : z_Q} {nL mc ms fr lo fr' lo' : Nat} {nm : String} {ret : Option FieldType} {o : Nat} {b : Nat → Nat} {M : z_M}
abbrev z_XM (l : Launch) (G : z_E) (A : Nat → Prop) (p : Program) (R : Room) (s : State) (m : MethodId) (args : Array Value) (meth : Method) (c : Code) (cc : ByteArray) (nL : Nat) (nm : String) (ret : Option FieldType) (fr lo : Nat) : Prop := z_X l G A p R s m args meth c cc nL RX5 nm ret 0 0 fr lo
theorem z_mgets {index j : Nat} (X : z_XM l G A p R s m args meth c cc nL nm ret fr lo) (hB : z_MB G P A s.heap T I0 Q o b M H locs) (hlink : Cond.fieldLink RX5 index RX5 (TX5 j).2.1 (TX5 j).2.2.1 ∈ lw_all) (hown : (TX5 j).1 = RX5) (hj : j < 63) (hsg : (z_sg 1)[j]? = some 0) (hln : z_ln j = 0) (hdg : decode cc pc = .ok (.getfield index, 3))
    (kk : W p l e R s m args below meth c H locs cells slots Qp (F0 m (pc + 3) ls (.int (M j 0) :: rest))) : W p l e R s m args below meth c H locs cells slots Qp (F0 m pc ls (.ref o :: rest)) := by
  obtain ⟨hL, I, hB, rfl⟩ := hB
  have e : z_of I o b j 0 = I o j := if_pos hln
  rw [e] at kk
  exact z_get (t := 0) X hB.1 kc_X5 in_X5 hj hlink (fun _ h => by rw [hown] at h; exact h) hsg (by decide) (by rw [hL.1]) hdg kk
theorem z_mgeta {index j : Nat} (X : z_XM l G A p R s m args meth c cc nL nm ret fr lo) (hB : z_MB G P A s.heap T I0 Q o b M H locs) (hlink : Cond.fieldLink RX5 index RX5 (TX5 j).2.1 (TX5 j).2.2.1 ∈ lw_all) (hown : (TX5 j).1 = RX5) (hj : j < 63) (hsg : (z_sg 1)[j]? = some 1) (hln : z_ln j ≠ 0) (hdg : decode cc pc = .ok (.getfield index, 3))
    (kk : W p l e R s m args below meth c H locs cells slots Qp (F0 m (pc + 3) ls (.ref (b j) :: rest))) : W p l e R s m args below meth c H locs cells slots Qp (F0 m pc ls (.ref o :: rest)) := by
  obtain ⟨hL, I, hB, rfl⟩ := hB
  have e : z_v 1 (I o j) (Q o j) = .ref (b j) := by rw [(hL.2.1 j hln).1]; rfl
  refine z_get (t := 1) X hB.1 kc_X5 in_X5 hj hlink (fun _ h => by rw [hown] at h; exact h) hsg (by decide) (by rw [hL.1]) hdg ?_
  rw [e]
  exact kk
theorem z_mputs {index j : Nat} {x : Int32} {ty : FieldType} (X : z_XM l G A p R s m args meth c cc nL nm ret fr lo) (hB : z_MB G P A s.heap T I0 Q o b M H locs) (hlink : Cond.fieldLink RX5 index RX5 (TX5 j).2.1 (TX5 j).2.2.1 ∈ lw_all) (hown : (TX5 j).1 = RX5) (hj : j < 63) (hfin : (TX5 j).2.2.2 = false) (hsg : (z_sg 1)[j]? = some 0) (hln : z_ln j = 0) (hd : tyX5 j = ty) (hty : ty = .int ∨ (ty = .boolean ∧ (x = 0 ∨ x = 1))) (hp : P 1) (hdg : decode cc pc = .ok (.putfield index, 3))
    (kk : ∀ (H1 : Heap) (locs1 : List Loc), z_MB G P A s.heap T I0 Q o b (z_us M j x) H1 locs1 → W p l e R s m args below meth c H1 locs1 cells slots Qp (F0 m (pc + 3) ls rest)) : W p l e R s m args below meth c H locs cells slots Qp (F0 m pc ls (.int x :: .ref o :: rest)) := by
  obtain ⟨hL, I, hB, rfl⟩ := hB
  have hn : narrow ty (.int x) = .int x := by
    rcases hty with rfl | ⟨rfl, rfl | rfl⟩ <;> first | rfl | decide
  have hfit : fits ty (.int x) = true := by
    rcases hty with rfl | ⟨rfl, rfl | rfl⟩ <;> first | rfl | decide
  refine z_put (t := 0) (I1 := z_up I o j x) (Q1 := Q) tyX5 X hB kc_X5 in_X5 tyX5_ok nmX5 hj hlink (fun _ h => by rw [hown] at h; exact h) hfin hsg (by decide) (by rw [hL.1]) (by rw [hL.1]; exact hp) hd hn hfit (by simp [z_v, z_up]) (fun q h => z_up_ne h) (fun _ _ => rfl) (fun y h => by simp [z_up, h]) (fun _ _ => rfl) hdg (fun H1 locs1 hB1 => ?_)
  exact kk H1 locs1 ⟨hL, _, hB1, z_of_s hL hln⟩
theorem z_mald {f : Nat} {i : Int32} (X : z_XM l G A p R s m args meth c cc nL nm ret fr lo) (hB : z_MB G P A s.heap T I0 Q o b M H locs) (hln : z_ln f ≠ 0) (hin : vp_in i (z_ln f)) (hdg : decode cc pc = .ok (.iaload, 1))
    (kk : W p l e R s m args below meth c H locs cells slots Qp (F0 m (pc + 1) ls (.int (M f i.toNatClampNeg) :: rest))) : W p l e R s m args below meth c H locs cells slots Qp (F0 m pc ls (.int i :: .ref (b f) :: rest)) := by
  obtain ⟨hL, I, hB, rfl⟩ := hB
  have e : z_of I o b f i.toNatClampNeg = I (b f) i.toNatClampNeg := if_neg hln
  rw [e] at kk
  have hT := (hL.2.1 f hln).2
  exact z_iald X hB.1 (by rw [hT]) (by rw [hT]; exact hin) hdg kk
theorem z_malen {f : Nat} (X : z_XM l G A p R s m args meth c cc nL nm ret fr lo) (hB : z_MB G P A s.heap T I0 Q o b M H locs) (hln : z_ln f ≠ 0) (hdg : decode cc pc = .ok (.arraylength, 1))
    (kk : W p l e R s m args below meth c H locs cells slots Qp (F0 m (pc + 1) ls (.int (nI (z_ln f)) :: rest))) : W p l e R s m args below meth c H locs cells slots Qp (F0 m pc ls (.ref (b f) :: rest)) := by
  obtain ⟨hL, I, hB, rfl⟩ := hB
  have hT := (hL.2.1 f hln).2
  refine z_alen (k := 0) X hB.1 (by decide) (by rw [hT]) hdg ?_
  rw [hT]
  exact kk
theorem z_mast {f : Nat} {i x : Int32} (hp : P 1) (X : z_XM l G A p R s m args meth c cc nL nm ret fr lo) (hB : z_MB G P A s.heap T I0 Q o b M H locs) (hln : z_ln f ≠ 0) (hin : vp_in i (z_ln f)) (hdg : decode cc pc = .ok (.iastore, 1))
    (kk : ∀ (H1 : Heap) (locs1 : List Loc), z_MB G P A s.heap T I0 Q o b (z_up M f i.toNatClampNeg x) H1 locs1 → W p l e R s m args below meth c H1 locs1 cells slots Qp (F0 m (pc + 1) ls rest)) : W p l e R s m args below meth c H locs cells slots Qp (F0 m pc ls (.int x :: .int i :: .ref (b f) :: rest)) := by
  obtain ⟨hL, I, hB, rfl⟩ := hB
  have hT := (hL.2.1 f hln).2
  refine z_iast X hB (by rw [hT]) (by rw [hT]; exact hp) (by rw [hT]; exact hin) hdg (fun H1 locs1 hB1 => ?_)
  exact kk H1 locs1 ⟨hL, _, hB1, z_of_a hL hln⟩
-- calls of the reference's own methods
theorem z_mrecv {I : z_I} (hL : z_lie T Q o b) : (T o).1 = 1 + 1 := by rw [hL.1]
theorem z_mcall {st0 : List Value} (hpp : ∀ k, z_P1c k → P k) {QR' : Option Value → z_T → z_I → z_Q → Prop} (hr : ∀ I, z_HB G P A s.heap T I0 Q T I Q H locs → z_of I o b = M → z_Run p l e R s m args below meth c H locs cells slots 0 0 (F0 m pc ls st0) rest G z_P1c T I Q QR' z_no) (hB : z_MB G P A s.heap T I0 Q o b M H locs)
    (kk : ∀ (v : Option Value) (T1 : z_T) (I1 : z_I) (Q1 : z_Q) (H1 : Heap) (locs1 : List Loc), QR' v T1 I1 Q1 → (T1 = T → Q1 = Q → z_MB G P A s.heap T I0 Q o b (z_of I1 o b) H1 locs1) → W p l e R s m args below meth c H1 locs1 cells slots Qp (F0 m (pc + 3) ls (v.toList ++ rest))) : W p l e R s m args below meth c H locs cells slots Qp (F0 m pc ls st0) := by
  obtain ⟨hL, I, hB, hM⟩ := hB
  refine z_call (hr I hB hM) hB hpp (fun v T1 I1 Q1 H1 locs1 hq hF hB1 => ?_) (fun _ _ _ _ _ _ _ _ hq => hq.elim)
  refine kk v T1 I1 Q1 H1 locs1 hq (fun e1 e2 => ?_)
  subst e1; subst e2
  exact ⟨hL, I1, hB1, rfl⟩
theorem z_mcalli {st0 : List Value} (hpp : ∀ k, z_P1c k → P k) {Qk : Int32 → z_M → Prop} (hr : ∀ I, z_HB G P A s.heap T I0 Q T I Q H locs → z_of I o b = M → z_Run p l e R s m args below meth c H locs cells slots 0 0 (F0 m pc ls st0) rest G z_P1c T I Q (z_mi Qk T Q o b) z_no) (hB : z_MB G P A s.heap T I0 Q o b M H locs)
    (kk : ∀ (r : Int32) (M1 : z_M) (H1 : Heap) (locs1 : List Loc), Qk r M1 → z_MB G P A s.heap T I0 Q o b M1 H1 locs1 → W p l e R s m args below meth c H1 locs1 cells slots Qp (F0 m (pc + 3) ls (.int r :: rest))) : W p l e R s m args below meth c H locs cells slots Qp (F0 m pc ls st0) := by
  refine z_mcall hpp hr hB (fun v T1 I1 Q1 H1 locs1 hq hB1 => ?_)
  obtain ⟨r, rfl, hq, e1, e2⟩ := hq
  exact kk r _ H1 locs1 hq (hB1 e1 e2)
theorem z_mcallz {st0 : List Value} (hpp : ∀ k, z_P1c k → P k) {Qk : Int32 → z_M → Prop} (hr : ∀ I, z_HB G P A s.heap T I0 Q T I Q H locs → z_of I o b = M → z_Run p l e R s m args below meth c H locs cells slots 0 0 (F0 m pc ls st0) rest G z_P1c T I Q (z_mz Qk T Q o b) z_no) (hB : z_MB G P A s.heap T I0 Q o b M H locs)
    (kk : ∀ (r : Int32) (M1 : z_M) (H1 : Heap) (locs1 : List Loc), (r = 0 ∨ r = 1) → Qk r M1 → z_MB G P A s.heap T I0 Q o b M1 H1 locs1 → W p l e R s m args below meth c H1 locs1 cells slots Qp (F0 m (pc + 3) ls (.int r :: rest))) : W p l e R s m args below meth c H locs cells slots Qp (F0 m pc ls st0) := by
  refine z_mcall hpp hr hB (fun v T1 I1 Q1 H1 locs1 hq hB1 => ?_)
  obtain ⟨r, rfl, hz, hq, e1, e2⟩ := hq
  exact kk r _ H1 locs1 hz hq (hB1 e1 e2)
theorem z_mcallv {st0 : List Value} (hpp : ∀ k, z_P1c k → P k) {Qk : z_M → Prop} (hr : ∀ I, z_HB G P A s.heap T I0 Q T I Q H locs → z_of I o b = M → z_Run p l e R s m args below meth c H locs cells slots 0 0 (F0 m pc ls st0) rest G z_P1c T I Q (z_mv_ Qk T Q o b) z_no) (hB : z_MB G P A s.heap T I0 Q o b M H locs)
    (kk : ∀ (M1 : z_M) (H1 : Heap) (locs1 : List Loc), Qk M1 → z_MB G P A s.heap T I0 Q o b M1 H1 locs1 → W p l e R s m args below meth c H1 locs1 cells slots Qp (F0 m (pc + 3) ls rest)) : W p l e R s m args below meth c H locs cells slots Qp (F0 m pc ls st0) := by
  refine z_mcall hpp hr hB (fun v T1 I1 Q1 H1 locs1 hq hB1 => ?_)
  obtain ⟨rfl, hq, e1, e2⟩ := hq
  exact kk _ H1 locs1 hq (hB1 e1 e2)
-- pure ones
theorem z_mcallip {st0 : List Value} {Qk : Int32 → Prop} (hr : ∀ I, z_HB G P A s.heap T I0 Q T I Q H locs → z_of I o b = M → z_Run p l e R s m args below meth c H locs cells slots 0 0 (F0 m pc ls st0) rest G z_none T I Q (z_pi Qk T I Q) z_no) (hB : z_MB G P A s.heap T I0 Q o b M H locs)
    (kk : ∀ (r : Int32) (H1 : Heap) (locs1 : List Loc), Qk r → z_MB G P A s.heap T I0 Q o b M H1 locs1 → W p l e R s m args below meth c H1 locs1 cells slots Qp (F0 m (pc + 3) ls (.int r :: rest))) : W p l e R s m args below meth c H locs cells slots Qp (F0 m pc ls st0) := by
  obtain ⟨hL, I, hB, hM⟩ := hB
  exact z_callip (hr I hB hM) hB (fun r H1 locs1 hq hB1 => kk r H1 locs1 hq ⟨hL, I, hB1, hM⟩)
theorem z_mcallzp {st0 : List Value} {Qk : Int32 → Prop} (hr : ∀ I, z_HB G P A s.heap T I0 Q T I Q H locs → z_of I o b = M → z_Run p l e R s m args below meth c H locs cells slots 0 0 (F0 m pc ls st0) rest G z_none T I Q (z_pz Qk T I Q) z_no) (hB : z_MB G P A s.heap T I0 Q o b M H locs)
    (kk : ∀ (r : Int32) (H1 : Heap) (locs1 : List Loc), (r = 0 ∨ r = 1) → Qk r → z_MB G P A s.heap T I0 Q o b M H1 locs1 → W p l e R s m args below meth c H1 locs1 cells slots Qp (F0 m (pc + 3) ls (.int r :: rest))) : W p l e R s m args below meth c H locs cells slots Qp (F0 m pc ls st0) := by
  obtain ⟨hL, I, hB, hM⟩ := hB
  exact z_callzp (hr I hB hM) hB (fun r H1 locs1 hz hq hB1 => kk r H1 locs1 hz hq ⟨hL, I, hB1, hM⟩)
end ZM
