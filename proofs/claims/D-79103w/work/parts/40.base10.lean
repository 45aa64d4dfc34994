/-! BASE 10: methods with handlers -/
set_option maxRecDepth 100000
theorem z_bodyW {l : Launch} {G : z_E} {y : MethodName} {cc : ByteArray} {nL : Nat} {ret : Option FieldType} {own nm : String} {fr lo mc ms : Nat} {av : List Value} {P : Nat → Prop} {T : z_T} {I : z_I} {Q : z_Q} {QR : Option Value → z_T → z_I → z_Q → Prop} {QX : String → Nat → z_T → z_I → z_Q → Prop} {hh : List (Nat × Nat × Nat × Nat)}
    (hy : plainName y.cls = true) (ho : y.cls = own) (hn : y.name = nm) (hh9 : z_hn own nm = true) (hnl : (lg_sl av).length ≤ nL)
    (body : ∀ (p : Program) (e : Env) (R : Room) (s : State) (m : MethodId) (below : List Frame) (meth : Method) (c : Code) (A : Nat → Prop) (ls : Array Slot), z_X l G A p R s m av.toArray meth c cc nL own nm ret mc ms fr lo → c.exceptionTable.toList = tableOf hh → z_HB G P A s.heap T I Q T I Q s.heap [] → lv_has ls nL (lv_args 0 av) →
      W p l e R s m av.toArray below meth c s.heap [] 0 0 (z_MQ below G P A T I Q QR QX av.toArray s mc ms) (F0 m 0 ls [])) : z_GM l G y (wsW_ y cc nL ret hh) fr lo mc ms av P T I Q QR QX := by
  intro sz
  refine vx_ofWH (cc := cc) (maxL := nL) (ret := ret) (hh := hh) hy rfl ?_
  intro p e s m args below meth c s₁ B hml hv
  obtain ⟨rfl, hsz, hE, hH, hP0⟩ := hv
  subst hsz
  have hts0 := atoms_spec (ws := wsW_ y cc nL ret hh) B.pre
  have hts : ∀ w ∈ lw_all, w.before _ s = true := fun w h => hts0 w (List.mem_cons_of_mem _ h)
  have hown : s.vm.findClass own = some m.cls := by rw [← ho]; exact findClass_of_methodNamed B.named
  have hnm : meth.name = nm := by rw [← hn]; exact (name_of_methodNamed B.named B.method).1
  have hT : c.exceptionTable.toList = tableOf hh := vx_table (x := y) B (hts0 _ List.mem_cons_self)
  rw [lg_entry_eq]
  exact body p e _ s m below meth c (z_AT T s.heap.size) _ ⟨B.exec, B.bytes, hml, hown, hts, hE, B.returns, B.notSynchronized, hnm, Nat.le_refl _, Nat.le_refl _, Nat.le_refl _, Nat.le_refl _, fun h => by rw [hh9] at h; cases h⟩ hT
    ⟨hH, va_S.rf, fun a h1 h2 => Or.inl ⟨h1, h2⟩, fun q h => Or.inr h, z_Fr_rf, fun a h h2 => absurd h h2, hP0⟩ (lv_entry av hnl)
section ZW
variable {p : Program} {l : Launch} {e : Env} {R : Room} {s : State} {m : MethodId} {args : Array Value} {below : List Frame} {meth : Method} {c : Code} {H : Heap} {locs : List Loc} {cells slots : Nat} {Qp : State → Prop}
variable {cc : ByteArray} {pc : Nat} {ls : Array Slot} {rest : List Value} {G : z_E} {P P' A : Nat → Prop} {T0 T : z_T} {I0 I : z_I} {Q0 Q : z_Q} {nL mc ms fr lo mc' ms' fr' lo' : Nat} {own nm : String} {ret : Option FieldType}
variable {QR QR' : Option Value → z_T → z_I → z_Q → Prop} {QX QX' : String → Nat → z_T → z_I → z_Q → Prop}
abbrev z_PSW (y : MethodName) (b : ByteArray) (L : Nat) (r : Option FieldType) (hh : List (Nat × Nat × Nat × Nat)) (n : Nat) : Prop :=
  Cond.static y ∈ lw_all ∧ Cond.initialized y.cls ∈ lw_all ∧ Cond.codeWith y b L r hh ∈ lw_all ∧ (y.cls ≠ "java/lang/invoke/MethodHandle" ∧ y.cls ≠ "java/lang/invoke/VarHandle" ∧ (parseMethodDescriptor y.desc).map (fun d => d.parameters.length) = some n)
abbrev z_PVW (C : String) (y : MethodName) (b : ByteArray) (L : Nat) (r : Option FieldType) (hh : List (Nat × Nat × Nat × Nat)) (n : Nat) : Prop :=
  Cond.instanceMethod y ∈ lw_all ∧ Cond.selects C y y ∈ lw_all ∧ Cond.initialized C ∈ lw_all ∧ Cond.codeWith y b L r hh ∈ lw_all ∧ (y.cls = C ∧ y.cls ≠ "java/lang/invoke/MethodHandle" ∧ y.cls ≠ "java/lang/invoke/VarHandle" ∧ (parseMethodDescriptor y.desc).map (fun d => d.parameters.length) = some n)
theorem z_runSW {y : MethodName} {b : ByteArray} {L n index : Nat} {r : Option FieldType} {hh : List (Nat × Nat × Nat × Nat)} (As : List Value) (pk : z_PSW y b L r hh n) (hM : z_GM l G y (wsW_ y b L r hh) fr' lo' mc' ms' As P' T I Q QR' QX') (X : z_X l G A p R s m args meth c cc nL own nm ret mc ms fr lo) (hB : z_HB G P A s.heap T0 I0 Q0 T I Q H locs) (hP' : ¬ P' 0) (hlink : Cond.methodLink own index y ∈ lw_all) (hn : As.length = n) (hsize : ls.size = nL) (hW : (rest.map fun v => v.category).sum ≤ 8) (hdg : decode cc pc = .ok (.invokestatic index, 3)) (h1 : cells + mc' ≤ mc) (h2 : slots + ms' ≤ ms) (h3 : fr' + 1 ≤ fr) (h4 : 8 + (L + 11) + lo' ≤ lo) :
    z_Run p l e R s m args below meth c H locs cells slots mc' ms' (F0 m pc ls (As.reverse ++ rest)) rest G P' T I Q QR' QX' := by
  have hpre := z_pre (av := As) X hB hP'
  obtain ⟨hx, hb, hml, hown, hts, hE, -, -, -, hR1, hR2, hR3, hR4, -⟩ := X
  obtain ⟨p1, p2, p3, p4⟩ := pk
  exact vx_runSX (nL := nL) (As := As) ⟨hx, hb, hml, hown, hts⟩ (hM H.size) (vx_cwSW n hts (lw_SW hlink p1 p2 p3) rfl rfl rfl p4 ⟨Nat.le_trans h3 hR3, Nat.le_trans h4 hR4⟩) ⟨z_blind, hpre⟩ rfl hn hsize rfl (by show 2 * 0 + _ ≤ 8; omega) hdg ⟨Nat.le_trans h1 hR1, Nat.le_trans h2 hR2⟩
theorem z_runVW {C : String} {y : MethodName} {b : ByteArray} {L n index k o : Nat} {r : Option FieldType} {hh : List (Nat × Nat × Nat × Nat)} {Tc : u_T} {N : Nat} (As : List Value) (pk : z_PVW C y b L r hh n) (hM : z_GM l G y (wsW_ y b L r hh) fr' lo' mc' ms' (.ref o :: As) P' T I Q QR' QX') (X : z_X l G A p R s m args meth c cc nL own nm ret mc ms fr lo) (hB : z_HB G P A s.heap T0 I0 Q0 T I Q H locs) (hP' : ¬ P' 0) (hlink : Cond.methodLink own index y ∈ lw_all) (hc : z_cl[k]? = some (C, Tc, N)) (hk : k < 89) (ho : (T o).1 = k + 1) (hn : As.length = n) (hsize : ls.size = nL) (hW : (rest.map fun v => v.category).sum ≤ 8) (hdg : decode cc pc = .ok (.invokevirtual index, 3)) (h1 : cells + mc' ≤ mc) (h2 : slots + ms' ≤ ms) (h3 : fr' + 1 ≤ fr) (h4 : 8 + (L + 11) + lo' ≤ lo) :
    z_Run p l e R s m args below meth c H locs cells slots mc' ms' (F0 m pc ls (As.reverse ++ .ref o :: rest)) rest G P' T I Q QR' QX' := by
  have hr := z_recv X hB.1 hc hk ho
  have hpre := z_pre (av := .ref o :: As) X hB hP'
  obtain ⟨hx, hb, hml, hown, hts, hE, -, -, -, hR1, hR2, hR3, hR4, -⟩ := X
  obtain ⟨p1, p2, p3, p4, p5⟩ := pk
  exact vx_runVX (nL := nL) (As := As) ⟨hx, hb, hml, hown, hts⟩ (hM H.size) (vx_cwVW n hts (lw_VW hlink p1 p2 p3 p4) rfl rfl rfl p5 ⟨Nat.le_trans h3 hR3, Nat.le_trans h4 hR4⟩) ⟨z_blind, hr, hpre⟩ rfl hn hsize rfl (by show 2 * 0 + _ ≤ 8; omega) hdg ⟨Nat.le_trans h1 hR1, Nat.le_trans h2 hR2⟩
/-- caught by name -/
theorem z_catch {E name : String} {q : Addr} {ce : Cell} {hh : List (Nat × Nat × Nat × Nat)} (pre : List ExceptionTableEntry) (x : ExceptionTableEntry) (suf : List ExceptionTableEntry) (X : z_X l G A p R s m args meth c cc nL own nm ret mc ms fr lo) (hT : c.exceptionTable.toList = tableOf hh) (hs : tableOf hh = pre ++ x :: suf)
    (hpass : ∀ z ∈ pre, covers z pc = false ∨ (z.catchType ≠ 0 ∧ ∃ nm : String, Cond.classLink own z.catchType nm ∈ lw_all ∧ (E, nm) ∈ z_nc)) (hx : covers x pc = true) (h0 : x.catchType ≠ 0) (hlink : Cond.classLink own x.catchType name ∈ lw_all) (hcast : Cond.castable E name ∈ lw_tbl) (hcell : H[q]? = some ce) (hv : ce.vm = .none) (hcl : s.vm.findClass E = some ce.cls)
    (kk : W p l e R s m args below meth c H locs cells slots Qp (F0 m x.handlerPc ls [.ref q])) : vx_W p l e R s m args below meth c H locs cells slots Qp (F0 m pc ls rest) q := by
  obtain ⟨-, hb, hml, hown, hts, hE, -⟩ := X
  refine vx_catch hown pre x suf (hT.trans hs) (fun z hz => ?_) hx h0 (hts _ hlink) (va_Nw.use rfl (hE.2.1 _ (z_in hcast rfl))) hcell hv hcl kk
  rcases hpass z hz with h | ⟨h1, nm, h2, h3⟩
  · exact Or.inl h
  · exact Or.inr ⟨h1, nm, hts _ h2, hE.2.2.2.2.2.2.2.2.2.2.2.1 (E, nm) h3⟩
/-- caught by a row for any -/
theorem z_catchAny {E : String} {q : Addr} {ce : Cell} {hh : List (Nat × Nat × Nat × Nat)} (pre : List ExceptionTableEntry) (x : ExceptionTableEntry) (suf : List ExceptionTableEntry) (X : z_X l G A p R s m args meth c cc nL own nm ret mc ms fr lo) (hT : c.exceptionTable.toList = tableOf hh) (hs : tableOf hh = pre ++ x :: suf)
    (hpass : ∀ z ∈ pre, covers z pc = false ∨ (z.catchType ≠ 0 ∧ ∃ nm : String, Cond.classLink own z.catchType nm ∈ lw_all ∧ (E, nm) ∈ z_nc)) (hx : covers x pc = true) (h0 : x.catchType = 0) (hcell : H[q]? = some ce) (hv : ce.vm = .none) (hcl : s.vm.findClass E = some ce.cls)
    (kk : W p l e R s m args below meth c H locs cells slots Qp (F0 m x.handlerPc ls [.ref q])) : vx_W p l e R s m args below meth c H locs cells slots Qp (F0 m pc ls rest) q := by
  obtain ⟨-, hb, hml, hown, hts, hE, -⟩ := X
  intro U hU XX
  have hpl : e.platform.magicAccessors = ({} : Platform).magicAccessors := by rw [XX.admits.platform]
  obtain ⟨vm', X', st⟩ := XX.thenCaughtThrough q (g := F0 m pc ls rest) rfl (Steps.refl _) (by rw [hU]; exact hcell) (by rw [hv]; rfl) (by obtain ⟨k9, h9, -⟩ := Vm.findClass_spec hcl; exact ⟨k9, h9⟩) pre x suf (hT.trans hs)
    (fun z hz => by
      rcases hpass z hz with h | ⟨hz0, nm, hl1, hn1⟩
      · exact Or.inl h
      · obtain ⟨c6, hc6, hcl6⟩ := Cond.classLink_spec hown (hts _ hl1) e.platform hpl
        obtain ⟨a8, b8, h1, h2, h3⟩ := hE.2.2.2.2.2.2.2.2.2.2.2.1 (E, nm) hn1
        cases Option.some.inj (h1.symm.trans hcl)
        cases Option.some.inj (h2.symm.trans hc6)
        exact Or.inr ⟨hz0, _, hcl6, h3⟩) hx (Or.inl h0)
  obtain ⟨t, a1, b1⟩ := kk (U.setVm vm') hU X'
  exact ⟨t, st.trans a1, b1⟩
/-- out, by rows that don't cover -/
theorem z_outW {q : Addr} {E : String} {ce : Cell} {hh : List (Nat × Nat × Nat × Nat)} (X : z_X l G A p R s m args meth c cc nL own nm ret mc ms fr lo) (hT : c.exceptionTable.toList = tableOf hh) (hcv : ∀ x ∈ tableOf hh, covers x pc = false) (hB : z_HB G P A s.heap T0 I0 Q0 T I Q H locs) (hcell : H[q]? = some ce) (hv : ce.vm = .none) (hcl : s.vm.findClass E = some ce.cls) (hq : QX E q T I Q) (h1 : cells ≤ mc) (h2 : slots ≤ ms) : vx_W p l e R s m args below meth c H locs cells slots (z_MQ below G P A T0 I0 Q0 QR QX args s mc ms) (F0 m pc ls rest) q := by
  obtain ⟨b1, b2, b3, b4, b5, b6, b7⟩ := hB
  obtain ⟨hx, hb, hml, hown, hts, hE, hr, hlk, -, -, -, -, -, -⟩ := X
  exact vx_out (fun x hx => hcv x (by rw [← hT]; exact hx)) hlk hcell hv hcl (fun t ht hW => ⟨⟨T, I, Q, hq, by rw [ht]; exact b1, b5, b6⟩, b2.F ht⟩) b2.2.2 h1 h2
/-- 'new E()' of a class that isn't tracked -/
theorem z_make0 {cls : String} {names : List String} {ik ic : Nat} (X : z_X l G A p R s m args meth c cc nL own nm ret mc ms fr lo) (hB : z_HB G P A s.heap T0 I0 Q0 T I Q H locs) (hcls : Bundle.fit cls = true) (hnames : ∀ n ∈ names, Bundle.fit n = true) (hk : Cond.classLink own ik cls ∈ lw_all) (hini : Cond.initialized cls ∈ lw_all)
    (hat : ∀ w ∈ vx_at0 own ic cls names, w ∈ lw_tbl ∧ (goodWord w = true ∨ z_mv w = true)) (hsize : ls.size = nL)
    (d0 : decode cc pc = .ok (.new ik, 3)) (d3 : decode cc (pc + 3) = .ok (.dup, 1)) (d4 : decode cc (pc + 4) = .ok (.invokespecial ic, 3))
    (hfr : names.length + 4 ≤ fr) (hlo : (rest.map fun v => v.category).sum + (13 * (names.length + 1) + 42) ≤ lo) (h1 : cells + 1 ≤ mc) (h2 : slots + 6 ≤ ms)
    (kk : ∀ (q : Nat) (ce : Cell) (H1 : Heap), z_HB G P A s.heap T0 I0 Q0 T I Q H1 locs → H1[q]? = some ce → ce.vm = .none → s.vm.findClass cls = some ce.cls → W p l e R s m args below meth c H1 locs (cells + 1) (slots + 6) Qp (F0 m (pc + 7) ls (.ref q :: rest))) :
    W p l e R s m args below meth c H locs cells slots Qp (F0 m pc ls rest) := by
  obtain ⟨hx, hb, hml, hown, hts, hE, hr, hlk, -, hR1, hR2, hR3, hR4, hnx⟩ := X
  have hb9 : ∀ w ∈ vx_at0 own ic cls names, w.before args s = true := fun w hw => by
    obtain ⟨g1, g2⟩ := hat w hw
    rcases g2 with g2 | g2
    · exact hts _ (lw_g g1 g2)
    · exact va_Nw.use (by cases w <;> first | rfl | exact absurd g2 (by simp [z_mv])) (hE.2.1 _ (z_in g1 g2))
  have hgood : ∀ w ∈ Cond.classLink own ik cls :: Cond.initialized cls :: vx_at0 own ic cls names, vx_ot w = true := fun w hw => by
    rcases List.mem_cons.mp hw with rfl | hw
    · rfl
    · rcases List.mem_cons.mp hw with rfl | hw
      · rfl
      · obtain ⟨g1, g2⟩ := hat w hw
        unfold vx_ot
        rcases g2 with g2 | g2
        · rw [g2]; simp
        · cases w <;> first | rfl | exact absurd g2 (by simp [z_mv])
  obtain ⟨b1, hS, b3, b4, b5, b6, b7⟩ := hB
  have hU := hE.2.2.2.2.2.2.2.1
  have hN := hE.2.2.2.2.2.2.2.2.1
  have hat := hb9
  have hk := hts _ hk
  have hini := hts _ hini
  intro U hT X
  subst hT
  have htr : e.platform.stackTraces = false := (show e.platform.stackTraces = l.stackTraces by rw [X.admits.platform]).trans hE.2.2.1
  have Y := vx_rebase X (R' := { frames := R.frames, locals := R.locals, cells := 1, slots := 6 }) (Nat.le_refl _) (Nat.le_refl _) (Nat.le_trans h1 hR1) (Nat.le_trans h2 hR2)
  obtain ⟨s', hA'⟩ : ∃ z, z = (U.setVm s.vm).setFrames (.invoking m args :: below) := ⟨_, rfl⟩
  rw [← hA'] at Y
  have hvm : s'.vm = s.vm := by rw [hA']; rfl
  have hhp : s'.heap = U.heap := by rw [hA']; rfl
  have hW0 : s.WarmedH s'.vm := by rw [hvm]; exact State.WarmedH.refl s
  have hat' : ∀ w ∈ vx_at0 own ic cls names, w.before args s' = true := fun w hw => vx_ot_at hW0 hvm.symm (hgood w (List.mem_cons_of_mem _ (List.mem_cons_of_mem _ hw))) (hat w hw)
  have hk' : (Cond.classLink own ik cls).before args s' = true := vx_ot_at hW0 hvm.symm (hgood _ List.mem_cons_self) hk
  have hini' : (Cond.initialized cls).before args s' = true := vx_ot_at hW0 hvm.symm (hgood _ (List.mem_cons_of_mem _ List.mem_cons_self)) hini
  have hU' : vx_Zq Bundle.tN "UNASSIGNED_STACK" Bundle.steD A s' s'.heap := by rw [hhp]; exact vx_Zq.moved hW0.alike (hU.kept hS.2.1)
  have hN' : vx_Zq Bundle.tN "SUPPRESSED_SENTINEL" Bundle.listD A s' s'.heap := by rw [hhp]; exact vx_Zq.moved hW0.alike (hN.kept hS.2.1)
  have h : ∀ w ∈ Bundle.ownAtoms0 own ic cls names, w.before args s' = true := vx_own hat' (vx_isRefq hU'.1) (vx_isRefq hN'.1) hU'.2.word hN'.2.word
  have hown' : s'.vm.findClass own = some m.cls := by rw [hvm]; exact hown
  have hins : (Cond.instantiable cls 6).before args s' = true := h _ (by simp [Bundle.ownAtoms0])
  obtain ⟨vm₁, cX, kX, hfX, hkX, -, -, X₁, st1⟩ := Y.newCold hx (own := own) (C := cls) (index := ik) (n := 6) hown' hk' hins hini'
    (g := F0 m pc ls rest) rfl (by rw [hb]; exact d0) (Nat.le_refl _) (Nat.le_refl _)
  generalize hT1 : (U.setVm vm₁).pushCell { cls := cX, slots := kX.instanceTypes.map defaultValue, vm := .none } = T1 at X₁ st1
  have hcat : (Value.ref U.heap.size).category = 1 := rfl
  have hcellA : T1.heap[U.heap.size]? = some (freshCell cX kX) := by rw [← hT1]; exact State.heap_pushCell_size _ _
  have d3' : decode c.code (pc + 3) = .ok (.dup, 1) := by rw [hb]; exact d3
  obtain ⟨V, ce, L, Z, hL, hlt, hcl9, hvm9, st⟩ := vx_ctorMade0 X₁ hx htr (own := own) (cls := cls) (names := names) (ic := ic) hown' hcls hnames h (fun x hx => nomatch hx) hfX hkX hcellA (by rw [hhp]; exact Nat.le_refl _)
    (g := { method := m, pc := pc + 4, locals := ls, stack := .ref U.heap.size :: .ref U.heap.size :: rest, locked := none }) rfl (by rw [hml]; exact hsize) (rest := rest) rfl
    (by rw [hb]; exact d4) (by show names.length + 3 < R.frames; omega) (by simp only [List.map_cons, List.sum_cons, hcat]; show 2 * 0 + _ + _ ≤ R.locals; omega)
  have Z0 := Stand.forget (locs := []) Z (fun y hy => by rw [hL y hy, hhp]; exact Nat.le_refl _)
  obtain ⟨f1, f2⟩ := vx_frame Z0.same
  rw [hhp] at f1 f2
  have hcid : s.vm.findClass cls = some ce.cls := by rw [hcl9, ← hvm]; exact hfX
  have hh : (V.setCell U.heap.size ce).heap[U.heap.size]? = some ce := heapAt_setCell_self (s := V) ce hlt
  subst hA'
  have X5 := vx_back9 X Y Z0
  have X6 : Stand p l e R s m args below meth c (V.setCell U.heap.size ce) locs (cells + 1) (slots + 6) := { X5 with same := X5.same.mono (by omega) (by omega) }
  have hk9 : ∀ q : Nat, q < U.heap.size → (V.setCell U.heap.size ce).heap[q]? = U.heap[q]? := fun q hq => f2 q hq (fun z hz => nomatch hz)
  obtain ⟨t, a1, b9⟩ := kk U.heap.size ce (V.setCell U.heap.size ce).heap ⟨fun a ha9 => z_at_kept (b1 a ha9) (hk9 a (z_at_lt (b1 a ha9))), ⟨Nat.le_trans hS.1 f1, fun q h1 h2 => (hk9 q (Nat.lt_of_lt_of_le h1 hS.1)).trans (hS.2.1 q h1 h2), hS.2.2⟩, b3, b4, b5, b6, b7⟩ hh hvm9 hcid _ rfl X6
  refine ⟨t, st1 _ ?_, b9⟩
  show Steps p.tables e below (T1.setTop { method := m, pc := pc + 3, locals := ls, stack := .ref U.heap.size :: rest, locked := none }) _
  jvm_step X₁.here [X₁.here.top, hx, hb, d3, Value.category]
  exact st _ a1
theorem z_callXf {st0 : List Value} {Qk : UInt32 → z_T → z_I → z_Q → Prop} (hr : z_Run p l e R s m args below meth c H locs cells slots mc' ms' (F0 m pc ls st0) rest G P' T I Q (z_qf Qk) QX') (hB : z_HB G P A s.heap T0 I0 Q0 T I Q H locs) (hpp : ∀ k, P' k → P k) (kx : z_kx p l e R s m args below meth c cells slots mc' ms' pc ls rest G P A P' T0 I0 Q0 T I Q QX' Qp)
    (kk : ∀ (r : UInt32) (T1 : z_T) (I1 : z_I) (Q1 : z_Q) (H1 : Heap) (locs1 : List Loc), Qk r T1 I1 Q1 → z_Fr P' T I Q T1 I1 Q1 → z_HB G P A s.heap T0 I0 Q0 T1 I1 Q1 H1 locs1 → W p l e R s m args below meth c H1 locs1 (cells + mc') (slots + ms') Qp (F0 m (pc + 3) ls (.float r :: rest))) : W p l e R s m args below meth c H locs cells slots Qp (F0 m pc ls st0) := by
  refine z_call hr hB hpp (fun v T1 I1 Q1 H1 locs1 hq hF hB1 => ?_) kx
  obtain ⟨r, rfl, hq⟩ := hq
  exact kk r T1 I1 Q1 H1 locs1 hq hF hB1
theorem z_callXd {st0 : List Value} {Qk : UInt64 → z_T → z_I → z_Q → Prop} (hr : z_Run p l e R s m args below meth c H locs cells slots mc' ms' (F0 m pc ls st0) rest G P' T I Q (z_qd Qk) QX') (hB : z_HB G P A s.heap T0 I0 Q0 T I Q H locs) (hpp : ∀ k, P' k → P k) (kx : z_kx p l e R s m args below meth c cells slots mc' ms' pc ls rest G P A P' T0 I0 Q0 T I Q QX' Qp)
    (kk : ∀ (r : UInt64) (T1 : z_T) (I1 : z_I) (Q1 : z_Q) (H1 : Heap) (locs1 : List Loc), Qk r T1 I1 Q1 → z_Fr P' T I Q T1 I1 Q1 → z_HB G P A s.heap T0 I0 Q0 T1 I1 Q1 H1 locs1 → W p l e R s m args below meth c H1 locs1 (cells + mc') (slots + ms') Qp (F0 m (pc + 3) ls (.double r :: rest))) : W p l e R s m args below meth c H locs cells slots Qp (F0 m pc ls st0) := by
  refine z_call hr hB hpp (fun v T1 I1 Q1 H1 locs1 hq hF hB1 => ?_) kx
  obtain ⟨r, rfl, hq⟩ := hq
  exact kk r T1 I1 Q1 H1 locs1 hq hF hB1
theorem z_putX {C ref : String} {Tc : u_T} {N index k j t a : Nat} {ty : FieldType} {v : Value} {I1 : z_I} {Q1 : z_Q} (tyf : Nat → FieldType) (X : z_X l G A p R s m args meth c cc nL own nm ret mc ms fr lo) (hB : z_HB G P A s.heap T0 I0 Q0 T I Q H locs) (hc : z_cl[k]? = some (C, Tc, N)) (hin : ∀ w ∈ u_ws C Tc N, w ∈ lw_all) (hty : ∀ k, k < N → parseFieldDescriptor (Tc k).2.2.1 = some (tyf k)) (hnm : ∀ a, a < N → ∀ b, b < N → a ≠ b → (Tc a).2.1 ≠ (Tc b).2.1) (hj : j < N) (hlink : Cond.fieldLink own index ref (Tc j).2.1 (Tc j).2.2.1 ∈ lw_all) (hsame : ∀ x, s.fieldFound? (Tc j).1 (Tc j).2.1 (Tc j).2.2.1 = some x → s.fieldFound? ref (Tc j).2.1 (Tc j).2.2.1 = some x) (hfin : (Tc j).2.2.2 = false) (hsg : (z_sg k)[j]? = some t) (hk : k < 89) (ha : (T a).1 = k + 1) (hp : P (T a).2.2) (hd : tyf j = ty) (hn : narrow ty v = v) (hfit : fits ty v = true)
    (hv : v = z_v t (I1 a j) (Q1 a j)) (hI : ∀ q, q ≠ a → I1 q = I q) (hQ : ∀ q, q ≠ a → Q1 q = Q q) (hIj : ∀ x, x ≠ j → I1 a x = I a x) (hQj : ∀ x, x ≠ j → Q1 a x = Q a x) (hdg : decode cc pc = .ok (.putfield index, 3))
    (kk : ∀ (H1 : Heap) (locs1 : List Loc), z_HB G P A s.heap T0 I0 Q0 T I1 Q1 H1 locs1 → (∀ q : Nat, q ≠ a → H1[q]? = H[q]?) → W p l e R s m args below meth c H1 locs1 cells slots Qp (F0 m (pc + 3) ls rest)) : W p l e R s m args below meth c H locs cells slots Qp (F0 m pc ls (v :: .ref a :: rest)) := by
  obtain ⟨hx, hb, hml, hown, hts, hE, -⟩ := X
  have hap := va_apart (own := own) hts hin tyf hty hnm hE.1 hc
  obtain ⟨r, h1, cell, q1, q2, q3, q4⟩ := z_obj hB.1 ha hk
  have hr : r = (C, Tc, N) := Option.some.inj (h1.symm.trans hc)
  subst hr
  obtain ⟨hS, hfc, kC, hkC, hkind⟩ := hE.1.1 k _ hc
  obtain ⟨cf, kf, fi, f, hi, hsl⟩ := hS j hj
  have hlay := hts _ (hin _ (u_in_lay hj))
  unfold u_lay at hlay
  rw [if_neg (by rw [hfin]; decide)] at hlay
  have hst := (u_facts hfc hkC (u_lays hts hin hj) hi).1
  have h6 := u_store hfc hkC hkind hlay hi (by rw [hty j hj, hd]) hn hfit
  refine W.putK hx hb (f := f) ⟨hown, hts _ hlink, ⟨_, _, _, hsame _ hi⟩, hst⟩ (by rw [q2]; exact h6) q1 q3 (by rw [hsl]; exact k2_hasslot (q4 j hj)) rfl rfl hdg fun H' e1 e2 e3 => ?_
  rw [hsl] at e1 ⊢
  have hl : j < (z_fv (z_sg k) 0 (I a) (Q a)).length := by rw [z_fv_len]; exact (List.getElem?_eq_some_iff.mp hsg).1
  exact kk H' _ (z_put_eff hB hc hsg hk ha hp hv hI hQ hIj hQj ⟨_, hc, t_OB.to (V := updV (vp_V (z_fv (z_sg k) 0 (I a) (Q a))) j v) ⟨_, e1, q2, q3, t_set q4 hap hj v⟩ (fun x _ => vp_updV_set hl v x)⟩ e2 e3) e3
theorem z_castCmd {x : Option Nat} {index : Nat} (X : z_X l G A p R s m args meth c cc nL own nm ret mc ms fr lo) (hH : z_H G T I Q H) (hx : ∀ b, x = some b → (T b).1 = 13 ∨ (T b).1 = 14 ∨ (T b).1 = 15) (hlink : Cond.classLink own index "RobotCell$Command" ∈ lw_all) (hdg : decode cc pc = .ok (.checkcast index, 3))
    (kk : W p l e R s m args below meth c H locs cells slots Qp (F0 m (pc + 3) ls (va_rf x :: rest))) : W p l e R s m args below meth c H locs cells slots Qp (F0 m pc ls (va_rf x :: rest)) := by
  cases x with
  | none => exact lv_castN X.1 X.2.1 hdg kk
  | some a =>
    rcases hx a rfl with h | h | h
    · exact z_castY X hH kc_X15 (by decide) h hlink (Or.inr q3758) hdg kk
    · exact z_castY X hH kc_X16 (by decide) h hlink (Or.inr q3759) hdg kk
    · exact z_castY X hH kc_X17 (by decide) h hlink (Or.inr q3760) hdg kk
theorem z_lcmp (hexec : p.tables.exec = Jvm.exec) (hb : c.code = cc) {x y : Int64} (hdg : decode cc pc = .ok (.lcmp, 1))
    (k : W p l e R s m args below meth c H locs cells slots Qp (F0 m (pc + 1) ls (.int (if x > y then 1 else if x == y then 0 else -1) :: rest))) : W p l e R s m args below meth c H locs cells slots Qp (F0 m pc ls (.long y :: .long x :: rest)) := by
  intro T hT X
  obtain ⟨t, a, b⟩ := k T hT X
  refine ⟨t, ?_, b⟩
  jvm_step X.here [X.here.top, hexec, hb, hdg]
  by_cases h1 : x > y
  · simp only [h1, if_true] at a ⊢; exact a
  · by_cases h2 : x = y
    · simp [h2] at a ⊢; exact a
    · simp [h1, h2] at a ⊢; exact a
theorem z_lawi {st0 : List Value} {o : Nat} {b : Nat → Nat} {Qk : Int32 → z_M → Prop} (hr : z_Run p l e R s m args below meth c H locs cells slots 0 0 (F0 m pc ls st0) rest G z_P1c T I Q (z_mi Qk T Q o b) z_no) (hB : z_HB G P A s.heap T0 I0 Q0 T I Q H locs) (hpp : ∀ k, z_P1c k → P k)
    (kk : ∀ (r : Int32) (I1 : z_I) (H1 : Heap) (locs1 : List Loc), Qk r (z_of I1 o b) → z_Fr z_P1c T I Q T I1 Q → z_HB G P A s.heap T0 I0 Q0 T I1 Q H1 locs1 → W p l e R s m args below meth c H1 locs1 cells slots Qp (F0 m (pc + 3) ls (.int r :: rest))) : W p l e R s m args below meth c H locs cells slots Qp (F0 m pc ls st0) := by
  refine z_call hr hB hpp (fun v T1 I1 Q1 H1 locs1 hq hF hB1 => ?_) (fun _ _ _ _ _ _ _ _ hq => hq.elim)
  obtain ⟨r, rfl, hq, rfl, rfl⟩ := hq
  exact kk r I1 H1 locs1 hq hF hB1
theorem z_lawf {st0 : List Value} {o : Nat} {b : Nat → Nat} {Qk : UInt32 → z_M → Prop} (hr : z_Run p l e R s m args below meth c H locs cells slots 0 0 (F0 m pc ls st0) rest G z_P1c T I Q (z_mf Qk T Q o b) z_no) (hB : z_HB G P A s.heap T0 I0 Q0 T I Q H locs) (hpp : ∀ k, z_P1c k → P k)
    (kk : ∀ (r : UInt32) (I1 : z_I) (H1 : Heap) (locs1 : List Loc), Qk r (z_of I1 o b) → z_Fr z_P1c T I Q T I1 Q → z_HB G P A s.heap T0 I0 Q0 T I1 Q H1 locs1 → W p l e R s m args below meth c H1 locs1 cells slots Qp (F0 m (pc + 3) ls (.float r :: rest))) : W p l e R s m args below meth c H locs cells slots Qp (F0 m pc ls st0) := by
  refine z_call hr hB hpp (fun v T1 I1 Q1 H1 locs1 hq hF hB1 => ?_) (fun _ _ _ _ _ _ _ _ hq => hq.elim)
  obtain ⟨r, rfl, hq, rfl, rfl⟩ := hq
  exact kk r I1 H1 locs1 hq hF hB1
theorem z_lawd {st0 : List Value} {o : Nat} {b : Nat → Nat} {Qk : UInt64 → z_M → Prop} (hr : z_Run p l e R s m args below meth c H locs cells slots 0 0 (F0 m pc ls st0) rest G z_P1c T I Q (z_md Qk T Q o b) z_no) (hB : z_HB G P A s.heap T0 I0 Q0 T I Q H locs) (hpp : ∀ k, z_P1c k → P k)
    (kk : ∀ (r : UInt64) (I1 : z_I) (H1 : Heap) (locs1 : List Loc), Qk r (z_of I1 o b) → z_Fr z_P1c T I Q T I1 Q → z_HB G P A s.heap T0 I0 Q0 T I1 Q H1 locs1 → W p l e R s m args below meth c H1 locs1 cells slots Qp (F0 m (pc + 3) ls (.double r :: rest))) : W p l e R s m args below meth c H locs cells slots Qp (F0 m pc ls st0) := by
  refine z_call hr hB hpp (fun v T1 I1 Q1 H1 locs1 hq hF hB1 => ?_) (fun _ _ _ _ _ _ _ _ hq => hq.elim)
  obtain ⟨r, rfl, hq, rfl, rfl⟩ := hq
  exact kk r I1 H1 locs1 hq hF hB1
theorem z_lawz {st0 : List Value} {o : Nat} {b : Nat → Nat} {Qk : Int32 → z_M → Prop} (hr : z_Run p l e R s m args below meth c H locs cells slots 0 0 (F0 m pc ls st0) rest G z_P1c T I Q (z_mz Qk T Q o b) z_no) (hB : z_HB G P A s.heap T0 I0 Q0 T I Q H locs) (hpp : ∀ k, z_P1c k → P k)
    (kk : ∀ (r : Int32) (I1 : z_I) (H1 : Heap) (locs1 : List Loc), (r = 0 ∨ r = 1) → Qk r (z_of I1 o b) → z_Fr z_P1c T I Q T I1 Q → z_HB G P A s.heap T0 I0 Q0 T I1 Q H1 locs1 → W p l e R s m args below meth c H1 locs1 cells slots Qp (F0 m (pc + 3) ls (.int r :: rest))) : W p l e R s m args below meth c H locs cells slots Qp (F0 m pc ls st0) := by
  refine z_call hr hB hpp (fun v T1 I1 Q1 H1 locs1 hq hF hB1 => ?_) (fun _ _ _ _ _ _ _ _ hq => hq.elim)
  obtain ⟨r, rfl, hz, hq, rfl, rfl⟩ := hq
  exact kk r I1 H1 locs1 hz hq hF hB1
theorem z_1L : ∀ k, z_P1c k → z_PL k := fun k e => by have e : k = 1 := e; show 1 ≤ k; omega
abbrev z_scr (A : Nat → Prop) (s : State) (o L : Nat) (xs : Nat → Int32) : Prop := va_X o L xs s s.heap ∧ o < s.heap.size ∧ ¬ A o
theorem z_sld {o L : Nat} {xs : Nat → Int32} (hS : z_scr A s o L xs) (X : z_X l G A p R s m args meth c cc nL own nm ret mc ms fr lo) (hB : z_HB G P A s.heap T0 I0 Q0 T I Q H locs) {i : Int32} (hin : vp_in i L) (hdg : decode cc pc = .ok (.iaload, 1))
    (kk : W p l e R s m args below meth c H locs cells slots Qp (F0 m (pc + 1) ls (.int (xs i.toNatClampNeg) :: rest))) : W p l e R s m args below meth c H locs cells slots Qp (F0 m pc ls (.int i :: .ref o :: rest)) := va_sld X.1 X.2.1 hS.1 hS.2.1 hS.2.2 hB.2.1 hin hdg kk
theorem z_slen {o L : Nat} {xs : Nat → Int32} (hS : z_scr A s o L xs) (X : z_X l G A p R s m args meth c cc nL own nm ret mc ms fr lo) (hB : z_HB G P A s.heap T0 I0 Q0 T I Q H locs) (hdg : decode cc pc = .ok (.arraylength, 1))
    (kk : W p l e R s m args below meth c H locs cells slots Qp (F0 m (pc + 1) ls (.int (Int32.ofNat L) :: rest))) : W p l e R s m args below meth c H locs cells slots Qp (F0 m pc ls (.ref o :: rest)) := va_slen X.1 X.2.1 hS.1 hS.2.1 hS.2.2 hB.2.1 hdg kk
end ZW
