/-! BASE 7: other calls (inherited, overridden, abstract, by an interface, nest mates), calls that may throw, throws -/
set_option maxRecDepth 100000
section ZG
variable {p : Program} {l : Launch} {e : Env} {R : Room} {s : State} {m : MethodId} {args : Array Value} {below : List Frame} {meth : Method} {c : Code} {H : Heap} {locs : List Loc} {cells slots : Nat} {Qp : State → Prop}
variable {cc : ByteArray} {pc : Nat} {ls : Array Slot} {rest : List Value} {G : z_E} {P P' A : Nat → Prop} {T0 T : z_T} {I0 I : z_I} {Q0 Q : z_Q} {nL mc ms fr lo mc' ms' fr' lo' : Nat} {own nm : String} {ret : Option FieldType}
variable {QR QR' : Option Value → z_T → z_I → z_Q → Prop} {QX QX' : String → Nat → z_T → z_I → z_Q → Prop}
abbrev z_PU (C owner : String) (x y : MethodName) (b : ByteArray) (L : Nat) (r : Option FieldType) (n : Nat) : Prop :=
  Cond.sameMethod x.cls owner x.name x.desc ∈ lw_all ∧ Cond.selects C x y ∈ lw_all ∧ Cond.instanceMethod y ∈ lw_all ∧ Cond.initialized y.cls ∈ lw_all ∧ Cond.code y b L r ∈ lw_all ∧ (owner ≠ "java/lang/invoke/MethodHandle" ∧ owner ≠ "java/lang/invoke/VarHandle" ∧ (parseMethodDescriptor x.desc).map (fun d => d.parameters.length) = some n)
theorem z_goodU {C owner : String} {x y : MethodName} {b : ByteArray} {L n index : Nat} {r : Option FieldType} (pk : z_PU C owner x y b L r n) (hlink : Cond.methodLink own index x ∈ lw_all) : GoodIn lw_all (va_wsU own index C owner x y (ws_ y b L r)) := by
  obtain ⟨p1, p2, p3, p4, p5, -⟩ := pk
  refine lw_app ?_ (lw_meth p5)
  intro w hw
  simp only [List.mem_cons, List.not_mem_nil, or_false] at hw
  rcases hw with e | e | e | e | e
  · rw [e]; exact hlink
  · rw [e]; exact p1
  · rw [e]; exact p2
  · rw [e]; exact p3
  · rw [e]; exact p4
theorem z_goodO {C owner : String} {x y : MethodName} {b : ByteArray} {L n index : Nat} {r : Option FieldType} (pk : z_PU C owner x y b L r n) (h0 : Cond.instanceMethod ⟨owner, x.name, x.desc⟩ ∈ lw_all) (hlink : Cond.methodLink own index x ∈ lw_all) : GoodIn lw_all (va_wsO own index C owner x y (ws_ y b L r)) := by
  obtain ⟨p1, p2, p3, p4, p5, -⟩ := pk
  refine lw_app ?_ (lw_meth p5)
  intro w hw
  simp only [List.mem_cons, List.not_mem_nil, or_false] at hw
  rcases hw with e | e | e | e | e | e
  · rw [e]; exact hlink
  · rw [e]; exact p1
  · rw [e]; exact h0
  · rw [e]; exact p2
  · rw [e]; exact p3
  · rw [e]; exact p4
/-- a method of a class above -/
theorem z_runU {C owner : String} {x y : MethodName} {b : ByteArray} {L n index k o : Nat} {r : Option FieldType} {Tc : u_T} {N : Nat} (As : List Value) (pk : z_PU C owner x y b L r n) (hyx : y = ⟨owner, x.name, x.desc⟩) (hM : z_GM l G y (ws_ y b L r) fr' lo' mc' ms' (.ref o :: As) P' T I Q QR' QX') (X : z_X l G A p R s m args meth c cc nL own nm ret mc ms fr lo) (hB : z_HB G P A s.heap T0 I0 Q0 T I Q H locs) (hP' : ¬ P' 0) (hlink : Cond.methodLink own index x ∈ lw_all) (hc : z_cl[k]? = some (C, Tc, N)) (hk : k < 89) (ho : (T o).1 = k + 1) (hn : As.length = n) (hsize : ls.size = nL) (hW : (rest.map fun v => v.category).sum ≤ 8) (hdg : decode cc pc = .ok (.invokevirtual index, 3)) (h1 : cells + mc' ≤ mc) (h2 : slots + ms' ≤ ms) (h3 : fr' + 1 ≤ fr) (h4 : 8 + (L + 11) + lo' ≤ lo) :
    z_Run p l e R s m args below meth c H locs cells slots mc' ms' (F0 m pc ls (As.reverse ++ .ref o :: rest)) rest G P' T I Q QR' QX' := by
  have hr := z_recv X hB.1 hc hk ho
  have hpre := z_pre (av := .ref o :: As) X hB hP'
  obtain ⟨hx, hb, hml, hown, hts, hE, -, -, -, hR1, hR2, hR3, hR4, -⟩ := X
  exact vx_runU (nL := nL) (As := As) ⟨hx, hb, hml, hown, hts⟩ (hM H.size) (va_cwU n hts (z_goodU pk hlink) rfl rfl rfl hyx pk.2.2.2.2.2 ⟨Nat.le_trans h3 hR3, Nat.le_trans h4 hR4⟩) ⟨z_blind, hr, hpre⟩ rfl hn hsize rfl (by show 2 * 0 + _ ≤ 8; omega) hdg ⟨Nat.le_trans h1 hR1, Nat.le_trans h2 hR2⟩
/-- an overriding method -/
theorem z_runO {C owner : String} {x y : MethodName} {b b0 : ByteArray} {L n index k o m0 : Nat} {r r0 : Option FieldType} {Tc : u_T} {N : Nat} (As : List Value) (pk : z_PU C owner x y b L r n) (hi0 : Cond.instanceMethod ⟨owner, x.name, x.desc⟩ ∈ lw_all) (hc0 : Cond.code ⟨owner, x.name, x.desc⟩ b0 m0 r0 ∈ lw_all) (hM : z_GM l G y (ws_ y b L r) fr' lo' mc' ms' (.ref o :: As) P' T I Q QR' QX') (X : z_X l G A p R s m args meth c cc nL own nm ret mc ms fr lo) (hB : z_HB G P A s.heap T0 I0 Q0 T I Q H locs) (hP' : ¬ P' 0) (hlink : Cond.methodLink own index x ∈ lw_all) (hc : z_cl[k]? = some (C, Tc, N)) (hk : k < 89) (ho : (T o).1 = k + 1) (hn : As.length = n) (hsize : ls.size = nL) (hW : (rest.map fun v => v.category).sum ≤ 8) (hdg : decode cc pc = .ok (.invokevirtual index, 3)) (h1 : cells + mc' ≤ mc) (h2 : slots + ms' ≤ ms) (h3 : fr' + 1 ≤ fr) (h4 : 8 + (L + 11) + lo' ≤ lo) :
    z_Run p l e R s m args below meth c H locs cells slots mc' ms' (F0 m pc ls (As.reverse ++ .ref o :: rest)) rest G P' T I Q QR' QX' := by
  have hr := z_recv X hB.1 hc hk ho
  have hpre := z_pre (av := .ref o :: As) X hB hP'
  obtain ⟨hx, hb, hml, hown, hts, hE, -, -, -, hR1, hR2, hR3, hR4, -⟩ := X
  exact vx_runU (nL := nL) (As := As) ⟨hx, hb, hml, hown, hts⟩ (hM H.size) (va_cwO n hts (z_goodO pk hi0 hlink) rfl rfl rfl hc0 pk.2.2.2.2.2 ⟨Nat.le_trans h3 hR3, Nat.le_trans h4 hR4⟩) ⟨z_blind, hr, hpre⟩ rfl hn hsize rfl (by show 2 * 0 + _ ≤ 8; omega) hdg ⟨Nat.le_trans h1 hR1, Nat.le_trans h2 hR2⟩
/-- an abstract method, by its receiver's class -/
theorem z_runA {C owner : String} {x y : MethodName} {b : ByteArray} {L n index k o : Nat} {r : Option FieldType} {Tc : u_T} {N : Nat} (As : List Value) (pk : z_PU C owner x y b L r n) (hz : Cond.declares ⟨owner, x.name, x.desc⟩ ∈ lw_tbl) (hM : z_GM l G y (ws_ y b L r) fr' lo' mc' ms' (.ref o :: As) P' T I Q QR' QX') (X : z_X l G A p R s m args meth c cc nL own nm ret mc ms fr lo) (hB : z_HB G P A s.heap T0 I0 Q0 T I Q H locs) (hP' : ¬ P' 0) (hlink : Cond.methodLink own index x ∈ lw_all) (hc : z_cl[k]? = some (C, Tc, N)) (hk : k < 89) (ho : (T o).1 = k + 1) (hn : As.length = n) (hsize : ls.size = nL) (hW : (rest.map fun v => v.category).sum ≤ 8) (hdg : decode cc pc = .ok (.invokevirtual index, 3)) (h1 : cells + mc' ≤ mc) (h2 : slots + ms' ≤ ms) (h3 : fr' + 1 ≤ fr) (h4 : 8 + (L + 11) + lo' ≤ lo) :
    z_Run p l e R s m args below meth c H locs cells slots mc' ms' (F0 m pc ls (As.reverse ++ .ref o :: rest)) rest G P' T I Q QR' QX' := by
  have hr := z_recv X hB.1 hc hk ho
  have hpre := z_pre (av := .ref o :: As) X hB hP'
  obtain ⟨hx, hb, hml, hown, hts, hE, -, -, -, hR1, hR2, hR3, hR4, -⟩ := X
  exact vx_runU (nL := nL) (As := As) ⟨hx, hb, hml, hown, hts⟩ (hM H.size) (va_cwA n hts (z_goodU pk hlink) rfl rfl rfl (hE.2.1 _ (z_in hz rfl)) pk.2.2.2.2.2 ⟨Nat.le_trans h3 hR3, Nat.le_trans h4 hR4⟩) ⟨z_blind, hr, hpre⟩ rfl hn hsize rfl (by show 2 * 0 + _ ≤ 8; omega) hdg ⟨Nat.le_trans h1 hR1, Nat.le_trans h2 hR2⟩
/-- Integer.intValue and its like, on a box -/
theorem z_runVI {y : MethodName} {b : ByteArray} {L n index o : Nat} {r : Option FieldType} (As : List Value) (pk : z_PV RJ21 y b L r n) (hM : z_GM l G y (ws_ y b L r) fr' lo' mc' ms' (.ref o :: As) P' T I Q QR' QX') (X : z_X l G A p R s m args meth c cc nL own nm ret mc ms fr lo) (hB : z_HB G P A s.heap T0 I0 Q0 T I Q H locs) (hP' : ¬ P' 0) (hlink : Cond.methodLink own index y ∈ lw_all) (ho : (T o).1 = 26 ∨ (T o).1 = 99) (hn : As.length = n) (hsize : ls.size = nL) (hW : (rest.map fun v => v.category).sum ≤ 8) (hdg : decode cc pc = .ok (.invokevirtual index, 3)) (h1 : cells + mc' ≤ mc) (h2 : slots + ms' ≤ ms) (h3 : fr' + 1 ≤ fr) (h4 : 8 + (L + 11) + lo' ≤ lo) :
    z_Run p l e R s m args below meth c H locs cells slots mc' ms' (F0 m pc ls (As.reverse ++ .ref o :: rest)) rest G P' T I Q QR' QX' := by
  have hr := z_recvI X hB.1 ho
  have hpre := z_pre (av := .ref o :: As) X hB hP'
  obtain ⟨hx, hb, hml, hown, hts, hE, -, -, -, hR1, hR2, hR3, hR4, -⟩ := X
  obtain ⟨p1, p2, p3, p4, p5⟩ := pk
  exact vx_runV (nL := nL) (As := As) ⟨hx, hb, hml, hown, hts⟩ (hM H.size) (cwV n hts (lw_V hlink p1 p2 p3 p4) rfl rfl rfl p5 ⟨Nat.le_trans h3 hR3, Nat.le_trans h4 hR4⟩) ⟨z_blind, hr, hpre⟩ rfl hn hsize rfl (by show 2 * 0 + _ ≤ 8; omega) hdg ⟨Nat.le_trans h1 hR1, Nat.le_trans h2 hR2⟩
/-- nest mates -/
theorem z_runVN {C host : String} {y : MethodName} {b : ByteArray} {L n index k o : Nat} {r : Option FieldType} {Tc : u_T} {N : Nat} (As : List Value) (pk : z_PV C y b L r n) (hM : z_GM l G y (ws_ y b L r) fr' lo' mc' ms' (.ref o :: As) P' T I Q QR' QX') (X : z_X l G A p R s m args meth c cc nL own nm ret mc ms fr lo) (hB : z_HB G P A s.heap T0 I0 Q0 T I Q H locs) (hP' : ¬ P' 0) (hlink : Cond.methodLinkNest own index y host ∈ lw_tbl) (hc : z_cl[k]? = some (C, Tc, N)) (hk : k < 89) (ho : (T o).1 = k + 1) (hn : As.length = n) (hsize : ls.size = nL) (hW : (rest.map fun v => v.category).sum ≤ 8) (hdg : decode cc pc = .ok (.invokevirtual index, 3)) (h1 : cells + mc' ≤ mc) (h2 : slots + ms' ≤ ms) (h3 : fr' + 1 ≤ fr) (h4 : 8 + (L + 11) + lo' ≤ lo) :
    z_Run p l e R s m args below meth c H locs cells slots mc' ms' (F0 m pc ls (As.reverse ++ .ref o :: rest)) rest G P' T I Q QR' QX' := by
  have hr := z_recv X hB.1 hc hk ho
  have hpre := z_pre (av := .ref o :: As) X hB hP'
  obtain ⟨hx, hb, hml, hown, hts, hE, -, -, -, hR1, hR2, hR3, hR4, -⟩ := X
  obtain ⟨p1, p2, p3, p4, p5⟩ := pk
  have p3' : Cond.initialized y.cls ∈ lw_all := by rw [p5.1]; exact p3
  exact vx_runVN (nL := nL) (As := As) ⟨hx, hb, hml, hown, hts⟩ (hM H.size) ⟨va_cnB n hts (lw_meth p4) rfl rfl rfl (hE.2.1 _ (z_in hlink rfl)) (hts _ p3') p5.2 ⟨Nat.le_trans h3 hR3, Nat.le_trans h4 hR4⟩, hts _ p1, hts _ p2⟩ ⟨z_blind, hr, hpre⟩ rfl hn hsize rfl (by show 2 * 0 + _ ≤ 8; omega) hdg ⟨Nat.le_trans h1 hR1, Nat.le_trans h2 hR2⟩
theorem z_runSN {host : String} {y : MethodName} {b : ByteArray} {L n index : Nat} {r : Option FieldType} (As : List Value) (pk : z_PS y b L r n) (hM : z_GM l G y (ws_ y b L r) fr' lo' mc' ms' As P' T I Q QR' QX') (X : z_X l G A p R s m args meth c cc nL own nm ret mc ms fr lo) (hB : z_HB G P A s.heap T0 I0 Q0 T I Q H locs) (hP' : ¬ P' 0) (hlink : Cond.methodLinkNest own index y host ∈ lw_tbl) (hn : As.length = n) (hsize : ls.size = nL) (hW : (rest.map fun v => v.category).sum ≤ 8) (hdg : decode cc pc = .ok (.invokestatic index, 3)) (h1 : cells + mc' ≤ mc) (h2 : slots + ms' ≤ ms) (h3 : fr' + 1 ≤ fr) (h4 : 8 + (L + 11) + lo' ≤ lo) :
    z_Run p l e R s m args below meth c H locs cells slots mc' ms' (F0 m pc ls (As.reverse ++ rest)) rest G P' T I Q QR' QX' := by
  have hpre := z_pre (av := As) X hB hP'
  obtain ⟨hx, hb, hml, hown, hts, hE, -, -, -, hR1, hR2, hR3, hR4, -⟩ := X
  obtain ⟨p1, p2, p3, p4⟩ := pk
  exact vx_runSN (nL := nL) (As := As) ⟨hx, hb, hml, hown, hts⟩ (hM H.size) ⟨va_cnB n hts (lw_meth p3) rfl rfl rfl (hE.2.1 _ (z_in hlink rfl)) (hts _ p2) p4 ⟨Nat.le_trans h3 hR3, Nat.le_trans h4 hR4⟩, hts _ p1, trivial⟩ ⟨z_blind, hpre⟩ rfl hn hsize rfl (by show 2 * 0 + _ ≤ 8; omega) hdg ⟨Nat.le_trans h1 hR1, Nat.le_trans h2 hR2⟩
theorem z_runIN {host : String} {y : MethodName} {b : ByteArray} {L n index o : Nat} (As : List Value) (pk : z_PI y b L n) (hM : z_GM l G y (ws_ y b L none) fr' lo' mc' ms' (.ref o :: As) P' T I Q QR' QX') (X : z_X l G A p R s m args meth c cc nL own nm ret mc ms fr lo) (hB : z_HB G P A s.heap T0 I0 Q0 T I Q H locs) (hP' : ¬ P' 0) (hlink : Cond.methodLinkNest own index y host ∈ lw_tbl) (hn : As.length = n) (hsize : ls.size = nL) (hW : (rest.map fun v => v.category).sum ≤ 8) (hdg : decode cc pc = .ok (.invokespecial index, 3)) (h1 : cells + mc' ≤ mc) (h2 : slots + ms' ≤ ms) (h3 : fr' + 1 ≤ fr) (h4 : 8 + (L + 11) + lo' ≤ lo) :
    z_Run p l e R s m args below meth c H locs cells slots mc' ms' (F0 m pc ls (As.reverse ++ .ref o :: rest)) rest G P' T I Q QR' QX' := by
  have hpre := z_pre (av := .ref o :: As) X hB hP'
  obtain ⟨hx, hb, hml, hown, hts, hE, -, -, -, hR1, hR2, hR3, hR4, -⟩ := X
  obtain ⟨p1, p2, p3, p4, p5⟩ := pk
  exact vx_runIN (nL := nL) (As := As) ⟨hx, hb, hml, hown, hts⟩ (hM H.size) ⟨va_cnB n hts (lw_meth p3) rfl rfl rfl (hE.2.1 _ (z_in hlink rfl)) (hts _ p2) p5 ⟨Nat.le_trans h3 hR3, Nat.le_trans h4 hR4⟩, p4, hts _ p1⟩ ⟨z_blind, hpre⟩ rfl hn hsize rfl (by show 2 * 0 + _ ≤ 8; omega) hdg ⟨Nat.le_trans h1 hR1, Nat.le_trans h2 hR2⟩
/-- by an interface -/
theorem z_runF {C : String} {x y : MethodName} {b : ByteArray} {L n index count k o : Nat} {r : Option FieldType} {Tc : u_T} {N : Nat} (As : List Value) (hf : (C, x, y) ∈ z_fw) (p1 : Cond.selects C x y ∈ lw_all) (p2 : Cond.instanceMethod y ∈ lw_all) (p3 : Cond.initialized y.cls ∈ lw_all) (p4 : Cond.code y b L r ∈ lw_all) (hd : x.cls ≠ "java/lang/invoke/MethodHandle" ∧ x.cls ≠ "java/lang/invoke/VarHandle" ∧ (parseMethodDescriptor x.desc).map (fun d => d.parameters.length) = some n) (hM : z_GM l G y (ws_ y b L r) fr' lo' mc' ms' (.ref o :: As) P' T I Q QR' QX') (X : z_X l G A p R s m args meth c cc nL own nm ret mc ms fr lo) (hB : z_HB G P A s.heap T0 I0 Q0 T I Q H locs) (hP' : ¬ P' 0) (hlink : Cond.methodLink own index x ∈ lw_all) (hc : z_cl[k]? = some (C, Tc, N)) (hk : k < 89) (ho : (T o).1 = k + 1) (hn : As.length = n) (hsize : ls.size = nL) (hW : (rest.map fun v => v.category).sum ≤ 8) (hdg : decode cc pc = .ok (.invokeinterface index count, 5)) (h1 : cells + mc' ≤ mc) (h2 : slots + ms' ≤ ms) (h3 : fr' + 1 ≤ fr) (h4 : 8 + (L + 11) + lo' ≤ lo) :
    z_Run5 p l e R s m args below meth c H locs cells slots mc' ms' (F0 m pc ls (As.reverse ++ .ref o :: rest)) rest G P' T I Q QR' QX' := by
  have hr := z_recv X hB.1 hc hk ho
  have hpre := z_pre (av := .ref o :: As) X hB hP'
  obtain ⟨hx, hb, hml, hown, hts, hE, -, -, -, hR1, hR2, hR3, hR4, -⟩ := X
  have hG : GoodIn lw_all (va_wsF own index C x y (ws_ y b L r)) := by
    refine lw_app ?_ (lw_meth p4)
    intro w hw
    simp only [List.mem_cons, List.not_mem_nil, or_false] at hw
    rcases hw with e | e | e | e
    · rw [e]; exact hlink
    · rw [e]; exact p1
    · rw [e]; exact p2
    · rw [e]; exact p3
  exact vx_runF (nL := nL) (As := As) (hE.1.1 k _ hc).2 ⟨hx, hb, hml, hown, hts⟩ (hM H.size) (va_cwF n hts hG rfl rfl rfl (hE.2.2.2.2.2.2.2.2.2.1 _ hf) hd ⟨Nat.le_trans h3 hR3, Nat.le_trans h4 hR4⟩) ⟨z_blind, hr, hpre⟩ rfl hn hsize rfl (by show 2 * 0 + _ ≤ 8; omega) hdg ⟨Nat.le_trans h1 hR1, Nat.le_trans h2 hR2⟩
/-- the exception goes on, out of a call -/
theorem z_on (hn : z_hn own nm = false) (X : z_X l G A p R s m args meth c cc nL own nm ret mc ms fr lo) (h1 : cells + mc' ≤ mc) (h2 : slots + ms' ≤ ms) : ∀ (q : Addr) (E : String) (ce : Cell) (T1 : z_T) (I1 : z_I) (Q1 : z_Q) (H1 : Heap) (locs1 : List Loc), QX E q T1 I1 Q1 → z_Fr P' T I Q T1 I1 Q1 → z_HB G P A s.heap T0 I0 Q0 T1 I1 Q1 H1 locs1 → H1[q]? = some ce → ce.vm = .none → s.vm.findClass E = some ce.cls → vx_W p l e R s m args below meth c H1 locs1 (cells + mc') (slots + ms') (z_MQ below G P A T0 I0 Q0 QR QX args s mc ms) (F0 m pc ls rest) q :=
  fun q E ce T1 I1 Q1 H1 locs1 hq hF hB h3 h4 h5 => z_out hn X hB h3 h4 h5 hq h1 h2
abbrev z_kx (p : Program) (l : Launch) (e : Env) (R : Room) (s : State) (m : MethodId) (args : Array Value) (below : List Frame) (meth : Method) (c : Code) (cells slots mc' ms' pc : Nat) (ls : Array Slot) (rest : List Value) (G : z_E) (P A P' : Nat → Prop) (T0 : z_T) (I0 : z_I) (Q0 : z_Q) (T : z_T) (I : z_I) (Q : z_Q) (QX' : String → Nat → z_T → z_I → z_Q → Prop) (Qp : State → Prop) : Prop :=
  ∀ (q : Addr) (E : String) (ce : Cell) (T1 : z_T) (I1 : z_I) (Q1 : z_Q) (H1 : Heap) (locs1 : List Loc), QX' E q T1 I1 Q1 → z_Fr P' T I Q T1 I1 Q1 → z_HB G P A s.heap T0 I0 Q0 T1 I1 Q1 H1 locs1 → H1[q]? = some ce → ce.vm = .none → s.vm.findClass E = some ce.cls → vx_W p l e R s m args below meth c H1 locs1 (cells + mc') (slots + ms') Qp (F0 m pc ls rest) q
theorem z_callXi {st0 : List Value} {Qk : Int32 → z_T → z_I → z_Q → Prop} (hr : z_Run p l e R s m args below meth c H locs cells slots mc' ms' (F0 m pc ls st0) rest G P' T I Q (z_qi Qk) QX') (hB : z_HB G P A s.heap T0 I0 Q0 T I Q H locs) (hpp : ∀ k, P' k → P k) (kx : z_kx p l e R s m args below meth c cells slots mc' ms' pc ls rest G P A P' T0 I0 Q0 T I Q QX' Qp)
    (kk : ∀ (r : Int32) (T1 : z_T) (I1 : z_I) (Q1 : z_Q) (H1 : Heap) (locs1 : List Loc), Qk r T1 I1 Q1 → z_Fr P' T I Q T1 I1 Q1 → z_HB G P A s.heap T0 I0 Q0 T1 I1 Q1 H1 locs1 → W p l e R s m args below meth c H1 locs1 (cells + mc') (slots + ms') Qp (F0 m (pc + 3) ls (.int r :: rest))) : W p l e R s m args below meth c H locs cells slots Qp (F0 m pc ls st0) := by
  refine z_call hr hB hpp (fun v T1 I1 Q1 H1 locs1 hq hF hB1 => ?_) kx
  obtain ⟨r, rfl, hq⟩ := hq
  exact kk r T1 I1 Q1 H1 locs1 hq hF hB1
theorem z_callXz {st0 : List Value} {Qk : Int32 → z_T → z_I → z_Q → Prop} (hr : z_Run p l e R s m args below meth c H locs cells slots mc' ms' (F0 m pc ls st0) rest G P' T I Q (z_qz Qk) QX') (hB : z_HB G P A s.heap T0 I0 Q0 T I Q H locs) (hpp : ∀ k, P' k → P k) (kx : z_kx p l e R s m args below meth c cells slots mc' ms' pc ls rest G P A P' T0 I0 Q0 T I Q QX' Qp)
    (kk : ∀ (r : Int32) (T1 : z_T) (I1 : z_I) (Q1 : z_Q) (H1 : Heap) (locs1 : List Loc), (r = 0 ∨ r = 1) → Qk r T1 I1 Q1 → z_Fr P' T I Q T1 I1 Q1 → z_HB G P A s.heap T0 I0 Q0 T1 I1 Q1 H1 locs1 → W p l e R s m args below meth c H1 locs1 (cells + mc') (slots + ms') Qp (F0 m (pc + 3) ls (.int r :: rest))) : W p l e R s m args below meth c H locs cells slots Qp (F0 m pc ls st0) := by
  refine z_call hr hB hpp (fun v T1 I1 Q1 H1 locs1 hq hF hB1 => ?_) kx
  obtain ⟨r, rfl, hz, hq⟩ := hq
  exact kk r T1 I1 Q1 H1 locs1 hz hq hF hB1
theorem z_callXv {st0 : List Value} {Qk : z_T → z_I → z_Q → Prop} (hr : z_Run p l e R s m args below meth c H locs cells slots mc' ms' (F0 m pc ls st0) rest G P' T I Q (z_qv Qk) QX') (hB : z_HB G P A s.heap T0 I0 Q0 T I Q H locs) (hpp : ∀ k, P' k → P k) (kx : z_kx p l e R s m args below meth c cells slots mc' ms' pc ls rest G P A P' T0 I0 Q0 T I Q QX' Qp)
    (kk : ∀ (T1 : z_T) (I1 : z_I) (Q1 : z_Q) (H1 : Heap) (locs1 : List Loc), Qk T1 I1 Q1 → z_Fr P' T I Q T1 I1 Q1 → z_HB G P A s.heap T0 I0 Q0 T1 I1 Q1 H1 locs1 → W p l e R s m args below meth c H1 locs1 (cells + mc') (slots + ms') Qp (F0 m (pc + 3) ls rest)) : W p l e R s m args below meth c H locs cells slots Qp (F0 m pc ls st0) := by
  refine z_call hr hB hpp (fun v T1 I1 Q1 H1 locs1 hq hF hB1 => ?_) kx
  obtain ⟨rfl, hq⟩ := hq
  exact kk T1 I1 Q1 H1 locs1 hq hF hB1
theorem z_callXr {st0 : List Value} {Qk : Option Nat → z_T → z_I → z_Q → Prop} (hr : z_Run p l e R s m args below meth c H locs cells slots mc' ms' (F0 m pc ls st0) rest G P' T I Q (z_qr Qk) QX') (hB : z_HB G P A s.heap T0 I0 Q0 T I Q H locs) (hpp : ∀ k, P' k → P k) (kx : z_kx p l e R s m args below meth c cells slots mc' ms' pc ls rest G P A P' T0 I0 Q0 T I Q QX' Qp)
    (kk : ∀ (r : Option Nat) (T1 : z_T) (I1 : z_I) (Q1 : z_Q) (H1 : Heap) (locs1 : List Loc), Qk r T1 I1 Q1 → z_Fr P' T I Q T1 I1 Q1 → z_HB G P A s.heap T0 I0 Q0 T1 I1 Q1 H1 locs1 → W p l e R s m args below meth c H1 locs1 (cells + mc') (slots + ms') Qp (F0 m (pc + 3) ls (va_rf r :: rest))) : W p l e R s m args below meth c H locs cells slots Qp (F0 m pc ls st0) := by
  refine z_call hr hB hpp (fun v T1 I1 Q1 H1 locs1 hq hF hB1 => ?_) kx
  obtain ⟨r, rfl, hq⟩ := hq
  exact kk r T1 I1 Q1 H1 locs1 hq hF hB1
-- by an interface
theorem z_call5r {st0 : List Value} {Qk : Option Nat → z_T → z_I → z_Q → Prop} (hr : z_Run5 p l e R s m args below meth c H locs cells slots mc' ms' (F0 m pc ls st0) rest G P' T I Q (z_qr Qk) z_no) (hB : z_HB G P A s.heap T0 I0 Q0 T I Q H locs) (hpp : ∀ k, P' k → P k)
    (kk : ∀ (r : Option Nat) (T1 : z_T) (I1 : z_I) (Q1 : z_Q) (H1 : Heap) (locs1 : List Loc), Qk r T1 I1 Q1 → z_Fr P' T I Q T1 I1 Q1 → z_HB G P A s.heap T0 I0 Q0 T1 I1 Q1 H1 locs1 → W p l e R s m args below meth c H1 locs1 (cells + mc') (slots + ms') Qp (F0 m (pc + 5) ls (va_rf r :: rest))) : W p l e R s m args below meth c H locs cells slots Qp (F0 m pc ls st0) := by
  refine z_call5 hr hB hpp (fun v T1 I1 Q1 H1 locs1 hq hF hB1 => ?_) (fun _ _ _ _ _ _ _ _ hq => hq.elim)
  obtain ⟨r, rfl, hq⟩ := hq
  exact kk r T1 I1 Q1 H1 locs1 hq hF hB1
theorem z_call5zp {st0 : List Value} {Qk : Int32 → Prop} (hr : z_Run5 p l e R s m args below meth c H locs cells slots 0 0 (F0 m pc ls st0) rest G z_none T I Q (z_pz Qk T I Q) z_no) (hB : z_HB G P A s.heap T0 I0 Q0 T I Q H locs)
    (kk : ∀ (r : Int32) (H1 : Heap) (locs1 : List Loc), (r = 0 ∨ r = 1) → Qk r → z_HB G P A s.heap T0 I0 Q0 T I Q H1 locs1 → W p l e R s m args below meth c H1 locs1 cells slots Qp (F0 m (pc + 5) ls (.int r :: rest))) : W p l e R s m args below meth c H locs cells slots Qp (F0 m pc ls st0) := by
  refine z_call5 hr hB (fun _ h => h.elim) (fun v T1 I1 Q1 H1 locs1 hq hF hB1 => ?_) (fun _ _ _ _ _ _ _ _ hq => hq.elim)
  obtain ⟨r, rfl, hz, hq, rfl, rfl, rfl⟩ := hq
  exact kk r H1 locs1 hz hq hB1
-- stores by kind
theorem z_eff0 {a j : Nat} {x : Int32} {I1 : z_I} (h : I1 = z_up I a j x) : Value.int x = z_v 0 (I1 a j) (Q a j) ∧ (∀ q, q ≠ a → I1 q = I q) ∧ (∀ y, y ≠ j → I1 a y = I a y) := by
  subst h
  exact ⟨by simp [z_v, z_up], fun q hq => z_up_ne hq, fun y hy => by simp [z_up, hy]⟩
theorem z_eff1 {a j : Nat} {x : Option Nat} {Q1 : z_Q} (h : Q1 = z_up Q a j x) : va_rf x = z_v 1 (I a j) (Q1 a j) ∧ (∀ q, q ≠ a → Q1 q = Q q) ∧ (∀ y, y ≠ j → Q1 a y = Q a y) := by
  subst h
  exact ⟨by simp [z_v, z_up], fun q hq => z_up_ne hq, fun y hy => by simp [z_up, hy]⟩
theorem z_nri {x : Int32} {ty : FieldType} (h : ty = .int ∨ (ty = .boolean ∧ (x = 0 ∨ x = 1))) : narrow ty (.int x) = .int x ∧ fits ty (.int x) = true := by
  rcases h with rfl | ⟨rfl, rfl | rfl⟩
  · exact ⟨rfl, rfl⟩
  · exact ⟨by decide, by decide⟩
  · exact ⟨by decide, by decide⟩
theorem z_nrq {x : Option Nat} {ty : FieldType} (h : (∃ C, ty = .object C) ∨ ∃ t, ty = .array t) : narrow ty (va_rf x) = va_rf x ∧ fits ty (va_rf x) = true := by
  rcases h with ⟨C, rfl⟩ | ⟨t, rfl⟩ <;> cases x <;> exact ⟨rfl, rfl⟩
/-- 'throw new E()' -/
theorem z_thr {cls : String} {names : List String} {ik ic : Nat} (hn : z_hn own nm = false) (X : z_X l G A p R s m args meth c cc nL own nm ret mc ms fr lo) (hB : z_HB G P A s.heap T0 I0 Q0 T I Q H locs) (hcls : Bundle.fit cls = true) (hnames : ∀ n ∈ names, Bundle.fit n = true) (hk : Cond.classLink own ik cls ∈ lw_all) (hini : Cond.initialized cls ∈ lw_all)
    (hat : ∀ w ∈ vx_at0 own ic cls names, w ∈ lw_tbl ∧ (goodWord w = true ∨ z_mv w = true)) (hsize : ls.size = nL)
    (d0 : decode cc pc = .ok (.new ik, 3)) (d3 : decode cc (pc + 3) = .ok (.dup, 1)) (d4 : decode cc (pc + 4) = .ok (.invokespecial ic, 3)) (d7 : decode cc (pc + 7) = .ok (.athrow, 1))
    (hfr : names.length + 4 ≤ fr) (hlo : (rest.map fun v => v.category).sum + (13 * (names.length + 1) + 42) ≤ lo) (h1 : cells + 1 ≤ mc) (h2 : slots + 6 ≤ ms) (hq : ∀ q, QX cls q T I Q) :
    W p l e R s m args below meth c H locs cells slots (z_MQ below G P A T0 I0 Q0 QR QX args s mc ms) (F0 m pc ls rest) := by
  obtain ⟨hx, hb, hml, hown, hts, hE, hr, hlk, -, hR1, hR2, hR3, hR4, hnx⟩ := X
  have hb9 : ∀ w ∈ vx_at0 own ic cls names, w.before args s = true := fun w hw => by
    obtain ⟨g1, g2⟩ := hat w hw
    rcases g2 with g2 | g2
    · exact hts _ (lw_g g1 g2)
    · exact va_Nw.use (by cases w <;> first | rfl | exact absurd g2 (by simp [z_mv])) (hE.2.1 _ (z_in g1 g2))
  have hgood : ∀ w ∈ Cond.classLink own ik cls :: Cond.initialized cls :: vx_at0 own ic cls names, vx_ot w = true := fun w hw => by
    rcases List.mem_cons.mp hw with rfl | hw
    · rfl
    · rcases List.mem_cons.mp hw with rfl | hw
      · rfl
      · obtain ⟨g1, g2⟩ := hat w hw
        unfold vx_ot
        rcases g2 with g2 | g2
        · rw [g2]; simp
        · cases w <;> first | rfl | exact absurd g2 (by simp [z_mv])
  obtain ⟨b1, b2, b3, b4, b5, b6, b7⟩ := hB
  refine vx_throw0 (names := names) hx hb hE.2.2.1 hown hcls hnames (hts _ hk) (hts _ hini) hb9 hgood hE.2.2.2.2.2.2.2.1 hE.2.2.2.2.2.2.2.2.1 b2 (by rw [hml]; exact hsize) d0 d3 d4 d7 (fun x hx => (hnx hn x hx).elim) (by omega) (Nat.le_trans hlo hR4) (Nat.le_trans h1 hR1) (Nat.le_trans h2 hR2) hlk ?_ b2.2.2 h1 h2
  intro t ha hz hk9
  have hH1 : z_H G T I Q t.heap := fun a ha9 => z_at_kept (b1 a ha9) (hk9 a (z_at_lt (b1 a ha9)))
  exact ⟨⟨T, I, Q, hq _, hH1, b5, b6⟩, ⟨Nat.le_trans b2.1 hz, fun q h1 h2 => (hk9 q (Nat.lt_of_lt_of_le h1 b2.1)).trans (b2.2.1 q h1 h2)⟩⟩
end ZG
section ZH
variable {p : Program} {l : Launch} {e : Env} {R : Room} {s : State} {m : MethodId} {args : Array Value} {below : List Frame} {meth : Method} {c : Code} {H : Heap} {locs : List Loc} {cells slots : Nat} {Qp : State → Prop}
variable {cc : ByteArray} {pc : Nat} {ls : Array Slot} {rest : List Value} {G : z_E} {P P' A : Nat → Prop} {T0 T : z_T} {I0 I I1 : z_I} {Q0 Q Q1 : z_Q} {nL mc ms fr lo : Nat} {own nm : String} {ret : Option FieldType}
variable {QR : Option Value → z_T → z_I → z_Q → Prop} {QX : String → Nat → z_T → z_I → z_Q → Prop}
theorem z_geti {C ref : String} {Tc : u_T} {N index k j a : Nat} (X : z_X l G A p R s m args meth c cc nL own nm ret mc ms fr lo) (hH : z_H G T I Q H) (hc : z_cl[k]? = some (C, Tc, N)) (hin : ∀ w ∈ u_ws C Tc N, w ∈ lw_all) (hj : j < N) (hlink : Cond.fieldLink own index ref (Tc j).2.1 (Tc j).2.2.1 ∈ lw_all) (hsame : ∀ x, s.fieldFound? (Tc j).1 (Tc j).2.1 (Tc j).2.2.1 = some x → s.fieldFound? ref (Tc j).2.1 (Tc j).2.2.1 = some x) (hsg : (z_sg k)[j]? = some 0) (hk : k < 89) (ha : (T a).1 = k + 1) (hdg : decode cc pc = .ok (.getfield index, 3))
    (kk : W p l e R s m args below meth c H locs cells slots Qp (F0 m (pc + 3) ls (.int (I a j) :: rest))) : W p l e R s m args below meth c H locs cells slots Qp (F0 m pc ls (.ref a :: rest)) := z_get (t := 0) X hH hc hin hj hlink hsame hsg hk ha hdg kk
theorem z_getq {C ref : String} {Tc : u_T} {N index k j a : Nat} (X : z_X l G A p R s m args meth c cc nL own nm ret mc ms fr lo) (hH : z_H G T I Q H) (hc : z_cl[k]? = some (C, Tc, N)) (hin : ∀ w ∈ u_ws C Tc N, w ∈ lw_all) (hj : j < N) (hlink : Cond.fieldLink own index ref (Tc j).2.1 (Tc j).2.2.1 ∈ lw_all) (hsame : ∀ x, s.fieldFound? (Tc j).1 (Tc j).2.1 (Tc j).2.2.1 = some x → s.fieldFound? ref (Tc j).2.1 (Tc j).2.2.1 = some x) (hsg : (z_sg k)[j]? = some 1) (hk : k < 89) (ha : (T a).1 = k + 1) (hdg : decode cc pc = .ok (.getfield index, 3))
    (kk : W p l e R s m args below meth c H locs cells slots Qp (F0 m (pc + 3) ls (va_rf (Q a j) :: rest))) : W p l e R s m args below meth c H locs cells slots Qp (F0 m pc ls (.ref a :: rest)) := z_get (t := 1) X hH hc hin hj hlink hsame hsg hk ha hdg kk
theorem z_getf {C ref : String} {Tc : u_T} {N index k j a : Nat} (X : z_X l G A p R s m args meth c cc nL own nm ret mc ms fr lo) (hH : z_H G T I Q H) (hc : z_cl[k]? = some (C, Tc, N)) (hin : ∀ w ∈ u_ws C Tc N, w ∈ lw_all) (hj : j < N) (hlink : Cond.fieldLink own index ref (Tc j).2.1 (Tc j).2.2.1 ∈ lw_all) (hsame : ∀ x, s.fieldFound? (Tc j).1 (Tc j).2.1 (Tc j).2.2.1 = some x → s.fieldFound? ref (Tc j).2.1 (Tc j).2.2.1 = some x) (hsg : (z_sg k)[j]? = some 2) (hk : k < 89) (ha : (T a).1 = k + 1) (hdg : decode cc pc = .ok (.getfield index, 3))
    (kk : W p l e R s m args below meth c H locs cells slots Qp (F0 m (pc + 3) ls (.float (I a j).toUInt32 :: rest))) : W p l e R s m args below meth c H locs cells slots Qp (F0 m pc ls (.ref a :: rest)) := z_get (t := 2) X hH hc hin hj hlink hsame hsg hk ha hdg kk
theorem z_getiN {C ref host : String} {Tc : u_T} {N index k j a : Nat} (X : z_X l G A p R s m args meth c cc nL own nm ret mc ms fr lo) (hH : z_H G T I Q H) (hc : z_cl[k]? = some (C, Tc, N)) (hin : ∀ w ∈ u_ws C Tc N, w ∈ lw_all) (hj : j < N) (hlink : Cond.fieldLinkNest own index ref (Tc j).2.1 (Tc j).2.2.1 host ∈ lw_tbl) (hsame : ∀ x, s.fieldFound? (Tc j).1 (Tc j).2.1 (Tc j).2.2.1 = some x → s.fieldFound? ref (Tc j).2.1 (Tc j).2.2.1 = some x) (hsg : (z_sg k)[j]? = some 0) (hk : k < 89) (ha : (T a).1 = k + 1) (hdg : decode cc pc = .ok (.getfield index, 3))
    (kk : W p l e R s m args below meth c H locs cells slots Qp (F0 m (pc + 3) ls (.int (I a j) :: rest))) : W p l e R s m args below meth c H locs cells slots Qp (F0 m pc ls (.ref a :: rest)) := z_getN (t := 0) X hH hc hin hj hlink hsame hsg hk ha hdg kk
theorem z_getqN {C ref host : String} {Tc : u_T} {N index k j a : Nat} (X : z_X l G A p R s m args meth c cc nL own nm ret mc ms fr lo) (hH : z_H G T I Q H) (hc : z_cl[k]? = some (C, Tc, N)) (hin : ∀ w ∈ u_ws C Tc N, w ∈ lw_all) (hj : j < N) (hlink : Cond.fieldLinkNest own index ref (Tc j).2.1 (Tc j).2.2.1 host ∈ lw_tbl) (hsame : ∀ x, s.fieldFound? (Tc j).1 (Tc j).2.1 (Tc j).2.2.1 = some x → s.fieldFound? ref (Tc j).2.1 (Tc j).2.2.1 = some x) (hsg : (z_sg k)[j]? = some 1) (hk : k < 89) (ha : (T a).1 = k + 1) (hdg : decode cc pc = .ok (.getfield index, 3))
    (kk : W p l e R s m args below meth c H locs cells slots Qp (F0 m (pc + 3) ls (va_rf (Q a j) :: rest))) : W p l e R s m args below meth c H locs cells slots Qp (F0 m pc ls (.ref a :: rest)) := z_getN (t := 1) X hH hc hin hj hlink hsame hsg hk ha hdg kk
theorem z_puti {C ref : String} {Tc : u_T} {N index k j a : Nat} {ty : FieldType} {x : Int32} (e1 : I1 = z_up I a j x) (tyf : Nat → FieldType) (X : z_X l G A p R s m args meth c cc nL own nm ret mc ms fr lo) (hB : z_HB G P A s.heap T0 I0 Q0 T I Q H locs) (hc : z_cl[k]? = some (C, Tc, N)) (hin : ∀ w ∈ u_ws C Tc N, w ∈ lw_all) (hty : ∀ k, k < N → parseFieldDescriptor (Tc k).2.2.1 = some (tyf k)) (hnm : ∀ a, a < N → ∀ b, b < N → a ≠ b → (Tc a).2.1 ≠ (Tc b).2.1) (hj : j < N) (hlink : Cond.fieldLink own index ref (Tc j).2.1 (Tc j).2.2.1 ∈ lw_all) (hsame : ∀ x, s.fieldFound? (Tc j).1 (Tc j).2.1 (Tc j).2.2.1 = some x → s.fieldFound? ref (Tc j).2.1 (Tc j).2.2.1 = some x) (hfin : (Tc j).2.2.2 = false) (hsg : (z_sg k)[j]? = some 0) (hk : k < 89) (ha : (T a).1 = k + 1) (hp : P (T a).2.2) (hd : tyf j = ty) (ht : ty = .int ∨ (ty = .boolean ∧ (x = 0 ∨ x = 1))) (hdg : decode cc pc = .ok (.putfield index, 3))
    (kk : ∀ (H1 : Heap) (locs1 : List Loc), z_HB G P A s.heap T0 I0 Q0 T I1 Q H1 locs1 → W p l e R s m args below meth c H1 locs1 cells slots Qp (F0 m (pc + 3) ls rest)) : W p l e R s m args below meth c H locs cells slots Qp (F0 m pc ls (.int x :: .ref a :: rest)) := by
  obtain ⟨f1, f2, f3⟩ := z_eff0 (Q := Q) e1
  exact z_put (t := 0) tyf X hB hc hin hty hnm hj hlink hsame hfin hsg hk ha hp hd (z_nri ht).1 (z_nri ht).2 f1 f2 (fun _ _ => rfl) f3 (fun _ _ => rfl) hdg kk
theorem z_putq {C ref : String} {Tc : u_T} {N index k j a : Nat} {ty : FieldType} {x : Option Nat} (e1 : Q1 = z_up Q a j x) (tyf : Nat → FieldType) (X : z_X l G A p R s m args meth c cc nL own nm ret mc ms fr lo) (hB : z_HB G P A s.heap T0 I0 Q0 T I Q H locs) (hc : z_cl[k]? = some (C, Tc, N)) (hin : ∀ w ∈ u_ws C Tc N, w ∈ lw_all) (hty : ∀ k, k < N → parseFieldDescriptor (Tc k).2.2.1 = some (tyf k)) (hnm : ∀ a, a < N → ∀ b, b < N → a ≠ b → (Tc a).2.1 ≠ (Tc b).2.1) (hj : j < N) (hlink : Cond.fieldLink own index ref (Tc j).2.1 (Tc j).2.2.1 ∈ lw_all) (hsame : ∀ x, s.fieldFound? (Tc j).1 (Tc j).2.1 (Tc j).2.2.1 = some x → s.fieldFound? ref (Tc j).2.1 (Tc j).2.2.1 = some x) (hfin : (Tc j).2.2.2 = false) (hsg : (z_sg k)[j]? = some 1) (hk : k < 89) (ha : (T a).1 = k + 1) (hp : P (T a).2.2) (hd : tyf j = ty) (ht : (∃ C, ty = .object C) ∨ ∃ t, ty = .array t) (hdg : decode cc pc = .ok (.putfield index, 3))
    (kk : ∀ (H1 : Heap) (locs1 : List Loc), z_HB G P A s.heap T0 I0 Q0 T I Q1 H1 locs1 → W p l e R s m args below meth c H1 locs1 cells slots Qp (F0 m (pc + 3) ls rest)) : W p l e R s m args below meth c H locs cells slots Qp (F0 m pc ls (va_rf x :: .ref a :: rest)) := by
  obtain ⟨f1, f2, f3⟩ := z_eff1 (I := I) e1
  exact z_put (t := 1) tyf X hB hc hin hty hnm hj hlink hsame hfin hsg hk ha hp hd (z_nrq ht).1 (z_nrq ht).2 f1 (fun _ _ => rfl) f2 (fun _ _ => rfl) f3 hdg kk
theorem z_putiN {C ref host : String} {Tc : u_T} {N index k j a : Nat} {ty : FieldType} {x : Int32} (e1 : I1 = z_up I a j x) (tyf : Nat → FieldType) (X : z_X l G A p R s m args meth c cc nL own nm ret mc ms fr lo) (hB : z_HB G P A s.heap T0 I0 Q0 T I Q H locs) (hc : z_cl[k]? = some (C, Tc, N)) (hin : ∀ w ∈ u_ws C Tc N, w ∈ lw_all) (hty : ∀ k, k < N → parseFieldDescriptor (Tc k).2.2.1 = some (tyf k)) (hnm : ∀ a, a < N → ∀ b, b < N → a ≠ b → (Tc a).2.1 ≠ (Tc b).2.1) (hj : j < N) (hlink : Cond.fieldLinkNest own index ref (Tc j).2.1 (Tc j).2.2.1 host ∈ lw_tbl) (hsame : ∀ x, s.fieldFound? (Tc j).1 (Tc j).2.1 (Tc j).2.2.1 = some x → s.fieldFound? ref (Tc j).2.1 (Tc j).2.2.1 = some x) (hfin : (Tc j).2.2.2 = false) (hsg : (z_sg k)[j]? = some 0) (hk : k < 89) (ha : (T a).1 = k + 1) (hp : P (T a).2.2) (hd : tyf j = ty) (ht : ty = .int ∨ (ty = .boolean ∧ (x = 0 ∨ x = 1))) (hdg : decode cc pc = .ok (.putfield index, 3))
    (kk : ∀ (H1 : Heap) (locs1 : List Loc), z_HB G P A s.heap T0 I0 Q0 T I1 Q H1 locs1 → W p l e R s m args below meth c H1 locs1 cells slots Qp (F0 m (pc + 3) ls rest)) : W p l e R s m args below meth c H locs cells slots Qp (F0 m pc ls (.int x :: .ref a :: rest)) := by
  obtain ⟨f1, f2, f3⟩ := z_eff0 (Q := Q) e1
  exact z_putN (t := 0) tyf X hB hc hin hty hnm hj hlink hsame hfin hsg hk ha hp hd (z_nri ht).1 (z_nri ht).2 f1 f2 (fun _ _ => rfl) f3 (fun _ _ => rfl) hdg kk
theorem z_putqN {C ref host : String} {Tc : u_T} {N index k j a : Nat} {ty : FieldType} {x : Option Nat} (e1 : Q1 = z_up Q a j x) (tyf : Nat → FieldType) (X : z_X l G A p R s m args meth c cc nL own nm ret mc ms fr lo) (hB : z_HB G P A s.heap T0 I0 Q0 T I Q H locs) (hc : z_cl[k]? = some (C, Tc, N)) (hin : ∀ w ∈ u_ws C Tc N, w ∈ lw_all) (hty : ∀ k, k < N → parseFieldDescriptor (Tc k).2.2.1 = some (tyf k)) (hnm : ∀ a, a < N → ∀ b, b < N → a ≠ b → (Tc a).2.1 ≠ (Tc b).2.1) (hj : j < N) (hlink : Cond.fieldLinkNest own index ref (Tc j).2.1 (Tc j).2.2.1 host ∈ lw_tbl) (hsame : ∀ x, s.fieldFound? (Tc j).1 (Tc j).2.1 (Tc j).2.2.1 = some x → s.fieldFound? ref (Tc j).2.1 (Tc j).2.2.1 = some x) (hfin : (Tc j).2.2.2 = false) (hsg : (z_sg k)[j]? = some 1) (hk : k < 89) (ha : (T a).1 = k + 1) (hp : P (T a).2.2) (hd : tyf j = ty) (ht : (∃ C, ty = .object C) ∨ ∃ t, ty = .array t) (hdg : decode cc pc = .ok (.putfield index, 3))
    (kk : ∀ (H1 : Heap) (locs1 : List Loc), z_HB G P A s.heap T0 I0 Q0 T I Q1 H1 locs1 → W p l e R s m args below meth c H1 locs1 cells slots Qp (F0 m (pc + 3) ls rest)) : W p l e R s m args below meth c H locs cells slots Qp (F0 m pc ls (va_rf x :: .ref a :: rest)) := by
  obtain ⟨f1, f2, f3⟩ := z_eff1 (I := I) e1
  exact z_putN (t := 1) tyf X hB hc hin hty hnm hj hlink hsame hfin hsg hk ha hp hd (z_nrq ht).1 (z_nrq ht).2 f1 (fun _ _ => rfl) f2 (fun _ _ => rfl) f3 hdg kk
theorem z_putiF {C ref : String} {Tc : u_T} {N index k j a : Nat} {ty : FieldType} {x : Int32} (e1 : I1 = z_up I a j x) (tyf : Nat → FieldType) (X : z_X l G A p R s m args meth c cc nL own "<init>" ret mc ms fr lo) (hB : z_HB G P A s.heap T0 I0 Q0 T I Q H locs) (hc : z_cl[k]? = some (C, Tc, N)) (hin : ∀ w ∈ u_ws C Tc N, w ∈ lw_all) (hty : ∀ k, k < N → parseFieldDescriptor (Tc k).2.2.1 = some (tyf k)) (hnm : ∀ a, a < N → ∀ b, b < N → a ≠ b → (Tc a).2.1 ≠ (Tc b).2.1) (hj : j < N) (hlink : Cond.fieldLink own index ref (Tc j).2.1 (Tc j).2.2.1 ∈ lw_all) (hsame : ∀ x, s.fieldFound? (Tc j).1 (Tc j).2.1 (Tc j).2.2.1 = some x → s.fieldFound? ref (Tc j).2.1 (Tc j).2.2.1 = some x) (hfin : (Tc j).2.2.2 = true) (hdecl : (Tc j).1 = own) (hsg : (z_sg k)[j]? = some 0) (hk : k < 89) (ha : (T a).1 = k + 1) (hp : P (T a).2.2) (hd : tyf j = ty) (ht : ty = .int ∨ (ty = .boolean ∧ (x = 0 ∨ x = 1))) (hdg : decode cc pc = .ok (.putfield index, 3))
    (kk : ∀ (H1 : Heap) (locs1 : List Loc), z_HB G P A s.heap T0 I0 Q0 T I1 Q H1 locs1 → W p l e R s m args below meth c H1 locs1 cells slots Qp (F0 m (pc + 3) ls rest)) : W p l e R s m args below meth c H locs cells slots Qp (F0 m pc ls (.int x :: .ref a :: rest)) := by
  obtain ⟨f1, f2, f3⟩ := z_eff0 (Q := Q) e1
  exact z_putF (t := 0) tyf X hB hc hin hty hnm hj hlink hsame hfin hdecl hsg hk ha hp hd (z_nri ht).1 (z_nri ht).2 f1 f2 (fun _ _ => rfl) f3 (fun _ _ => rfl) hdg kk
theorem z_putqF {C ref : String} {Tc : u_T} {N index k j a : Nat} {ty : FieldType} {x : Option Nat} (e1 : Q1 = z_up Q a j x) (tyf : Nat → FieldType) (X : z_X l G A p R s m args meth c cc nL own "<init>" ret mc ms fr lo) (hB : z_HB G P A s.heap T0 I0 Q0 T I Q H locs) (hc : z_cl[k]? = some (C, Tc, N)) (hin : ∀ w ∈ u_ws C Tc N, w ∈ lw_all) (hty : ∀ k, k < N → parseFieldDescriptor (Tc k).2.2.1 = some (tyf k)) (hnm : ∀ a, a < N → ∀ b, b < N → a ≠ b → (Tc a).2.1 ≠ (Tc b).2.1) (hj : j < N) (hlink : Cond.fieldLink own index ref (Tc j).2.1 (Tc j).2.2.1 ∈ lw_all) (hsame : ∀ x, s.fieldFound? (Tc j).1 (Tc j).2.1 (Tc j).2.2.1 = some x → s.fieldFound? ref (Tc j).2.1 (Tc j).2.2.1 = some x) (hfin : (Tc j).2.2.2 = true) (hdecl : (Tc j).1 = own) (hsg : (z_sg k)[j]? = some 1) (hk : k < 89) (ha : (T a).1 = k + 1) (hp : P (T a).2.2) (hd : tyf j = ty) (ht : (∃ C, ty = .object C) ∨ ∃ t, ty = .array t) (hdg : decode cc pc = .ok (.putfield index, 3))
    (kk : ∀ (H1 : Heap) (locs1 : List Loc), z_HB G P A s.heap T0 I0 Q0 T I Q1 H1 locs1 → W p l e R s m args below meth c H1 locs1 cells slots Qp (F0 m (pc + 3) ls rest)) : W p l e R s m args below meth c H locs cells slots Qp (F0 m pc ls (va_rf x :: .ref a :: rest)) := by
  obtain ⟨f1, f2, f3⟩ := z_eff1 (I := I) e1
  exact z_putF (t := 1) tyf X hB hc hin hty hnm hj hlink hsame hfin hdecl hsg hk ha hp hd (z_nrq ht).1 (z_nrq ht).2 f1 (fun _ _ => rfl) f2 (fun _ _ => rfl) f3 hdg kk
theorem z_putfF {C ref : String} {Tc : u_T} {N index k j a : Nat} {x : UInt32} (e1 : I1 = z_up I a j x.toInt32) (tyf : Nat → FieldType) (X : z_X l G A p R s m args meth c cc nL own "<init>" ret mc ms fr lo) (hB : z_HB G P A s.heap T0 I0 Q0 T I Q H locs) (hc : z_cl[k]? = some (C, Tc, N)) (hin : ∀ w ∈ u_ws C Tc N, w ∈ lw_all) (hty : ∀ k, k < N → parseFieldDescriptor (Tc k).2.2.1 = some (tyf k)) (hnm : ∀ a, a < N → ∀ b, b < N → a ≠ b → (Tc a).2.1 ≠ (Tc b).2.1) (hj : j < N) (hlink : Cond.fieldLink own index ref (Tc j).2.1 (Tc j).2.2.1 ∈ lw_all) (hsame : ∀ x, s.fieldFound? (Tc j).1 (Tc j).2.1 (Tc j).2.2.1 = some x → s.fieldFound? ref (Tc j).2.1 (Tc j).2.2.1 = some x) (hfin : (Tc j).2.2.2 = true) (hdecl : (Tc j).1 = own) (hsg : (z_sg k)[j]? = some 2) (hk : k < 89) (ha : (T a).1 = k + 1) (hp : P (T a).2.2) (hd : tyf j = .float) (hdg : decode cc pc = .ok (.putfield index, 3))
    (kk : ∀ (H1 : Heap) (locs1 : List Loc), z_HB G P A s.heap T0 I0 Q0 T I1 Q H1 locs1 → W p l e R s m args below meth c H1 locs1 cells slots Qp (F0 m (pc + 3) ls rest)) : W p l e R s m args below meth c H locs cells slots Qp (F0 m pc ls (.float x :: .ref a :: rest)) := by
  obtain ⟨f1, f2, f3⟩ := z_eff0 (Q := Q) e1
  exact z_putF (t := 2) tyf X hB hc hin hty hnm hj hlink hsame hfin hdecl hsg hk ha hp hd (ty := .float) rfl rfl (by subst e1; simp [z_v, z_up]) f2 (fun _ _ => rfl) f3 (fun _ _ => rfl) hdg kk
theorem z_objInit {a idx : Nat} (X : z_X l G A p R s m args meth c cc nL own nm ret mc ms fr lo) (hlink : Cond.methodLink own idx Lib.objectInit ∈ lw_all) (hsize : ls.size = nL) (hdg : decode cc pc = .ok (.invokespecial idx, 3)) (h3 : 1 ≤ fr) (h4 : (rest.map fun v => v.category).sum + 12 ≤ lo)
    (kk : W p l e R s m args below meth c H locs cells slots Qp (F0 m (pc + 3) ls rest)) : W p l e R s m args below meth c H locs cells slots Qp (F0 m pc ls (.ref a :: rest)) := by
  obtain ⟨hx, hb, hml, hown, hts, hE, -, -, -, hR1, hR2, hR3, hR4, -⟩ := X
  refine W.objInit hx hb hown (hts _ hlink) (hts _ (q170)) (hts _ (q171)) rfl (by rw [hml]; exact hsize) rfl hdg (Nat.le_trans h3 hR3) (by show 2 * 0 + _ + 12 ≤ _; omega) ?_
  exact W.eq (g2 := F0 m (pc + 3) ls rest) rfl kk
/-- classes that may stand in an Object[] -/
def z_sto (k : Nat) : Prop := k = 3 ∨ k = 6 ∨ k = 8 ∨ k = 13 ∨ k = 14 ∨ k = 15 ∨ k = 26 ∨ k = 99
theorem z_aastO {a o : Nat} {i : Int32} (X : z_X l G A p R s m args meth c cc nL own nm ret mc ms fr lo) (hB : z_HB G P A s.heap T0 I0 Q0 T I Q H locs) (ha : (T a).1 = 102) (hp : P (T a).2.2) (hin : vp_in i (T a).2.1) (ho : z_sto (T o).1) (hdg : decode cc pc = .ok (.aastore, 1))
    (kk : ∀ (H1 : Heap) (locs1 : List Loc), z_HB G P A s.heap T0 I0 Q0 T I (z_up Q a i.toNatClampNeg (some o)) H1 locs1 → W p l e R s m args below meth c H1 locs1 cells slots Qp (F0 m (pc + 1) ls rest)) : W p l e R s m args below meth c H locs cells slots Qp (F0 m pc ls (.ref o :: .int i :: .ref a :: rest)) := by
  have key : ∀ (ci : Nat) (C : String) (Tc : u_T) (N : Nat), z_cl[ci]? = some (C, Tc, N) → ci < 89 → (T o).1 = ci + 1 → Cond.castable C "java/lang/Object" ∈ lw_tbl → W p l e R s m args below meth c H locs cells slots Qp (F0 m pc ls (.ref o :: .int i :: .ref a :: rest)) := fun ci C Tc N h1 h2 h3 h4 => z_aast (k := 2) (E := "java/lang/Object") X hB (by simp) ha hp hin h1 h2 h3 (Or.inr h4) hdg kk
  rcases ho with h | h | h | h | h | h | h | h
  · exact key _ _ _ _ kc_X2 (by decide) h q3765
  · exact key _ _ _ _ kc_X6 (by decide) h q3789
  · exact key _ _ _ _ kc_X11 (by decide) h q3797
  · exact key _ _ _ _ kc_X15 (by decide) h q3801
  · exact key _ _ _ _ kc_X16 (by decide) h q3802
  · exact key _ _ _ _ kc_X17 (by decide) h q3803
  · exact key _ _ _ _ kc_J21 (by decide) h q3792
  · obtain ⟨hx, hb, hml, hown, hts, hE, -⟩ := X
    obtain ⟨t0, ht, hk1, hk2, hk3⟩ := z_cmp (G := G) 2 "java/lang/Object" (by simp)
    have h0 := z_ary (k := 2) hB.1 ha
    rw [hk3] at h0
    have hA : H[a]? = some (arrV (G.2.1 2) (T a).2.1 (fun j => va_rf (Q a j))) := h0
    have hlt : i.toNatClampNeg < (T a).2.1 := Nat.not_le.mp fun q => hin (Or.inr q)
    have hi0 : ¬ i < 0 := fun q => hin (Or.inl q)
    have hb9 := hB.1 o (by omega)
    unfold z_at at hb9
    rw [if_pos h] at hb9
    obtain ⟨cellV, g1, g2, g3, g4, g5⟩ := hb9
    have hcls := (hE.1.1 25 _ kc_J21).2
    obtain ⟨kA, comp, k1, k2, k3, -⟩ := (hE.1.2 t0 _ ht).2
    obtain ⟨kE, hkE, -⟩ := Vm.findClass_spec k3
    obtain ⟨kC, hkC, -⟩ := hcls.2
    obtain ⟨c0, t1, f1, f2, f3⟩ := Cond.castable_spec (va_Nw.use (A := args) rfl (hE.2.1 _ (z_in q3792 rfl)))
    cases hcls.1.symm.trans f1
    cases k3.symm.trans f2
    refine W.aast hx hb hA (fun q h => by cases h) (fun h => by cases h) k1 k2 rfl hkE ⟨hi0, by rw [arrV_size]; exact hlt⟩ g1 (fun q h => by rw [h] at g2; cases g2) (by rw [g4]; exact hkC) (by rw [g4]; exact f3) rfl rfl hdg fun H1 e1 z oq => ?_
    exact kk H1 _ (z_storeq hB hk3 ha hp e1 z oq)
/-- instanceof that fails: a list's node is no tree's -/
theorem z_instT {a index : Nat} (X : z_X l G A p R s m args meth c cc nL own nm ret mc ms fr lo) (hH : z_H G T I Q H) (ha : (T a).1 = 23) (hlink : Cond.classLink own index "java/util/HashMap$TreeNode" ∈ lw_all) (hdg : decode cc pc = .ok (.instanceof index, 3))
    (kk : W p l e R s m args below meth c H locs cells slots Qp (F0 m (pc + 3) ls (.int 0 :: rest))) : W p l e R s m args below meth c H locs cells slots Qp (F0 m pc ls (.ref a :: rest)) := by
  have hr := z_recv X hH kc_J42 (by decide) ha
  obtain ⟨hx, hb, hml, hown, hts, hE, -⟩ := X
  have hn := hE.2.2.2.2.2.2.2.2.2.2.2.1 ("java/util/LinkedHashMap$Entry", "java/util/HashMap$TreeNode") (by simp [z_nc])
  exact va_instNo hx hb hown (hts _ hlink) hn hr hdg kk
/-- a made exception of the class itself is thrown, and not caught here -/
theorem z_athr {a k : Nat} {C : String} {Tc : u_T} {N : Nat} (hn : z_hn own nm = false) (X : z_X l G A p R s m args meth c cc nL own nm ret mc ms fr lo) (hB : z_HB G P A s.heap T0 I0 Q0 T I Q H locs) (hc : z_cl[k]? = some (C, Tc, N)) (hk : k < 89) (ha : (T a).1 = k + 1) (hq : QX C a T I Q) (h1 : cells ≤ mc) (h2 : slots ≤ ms) (hdg : decode cc pc = .ok (.athrow, 1)) : W p l e R s m args below meth c H locs cells slots (z_MQ below G P A T0 I0 Q0 QR QX args s mc ms) (F0 m pc ls (.ref a :: rest)) := by
  obtain ⟨q', g0, cell, g1, g2, g3, -⟩ := z_obj hB.1 ha hk
  have hcl : s.vm.findClass C = some cell.cls := by rw [g2]; exact (X.2.2.2.2.2.1.1.1 k _ hc).2.1
  exact vx_athrow X.1 X.2.1 hdg (z_out hn X hB g1 g3 hcl hq h1 h2)
theorem z_gete0 {index : Nat} (X : z_X l G A p R s m args meth c cc nL own nm ret mc ms fr lo) (hB : z_HB G P A s.heap T0 I0 Q0 T I Q H locs) (hlink : Cond.fieldLink own index "java/util/ArrayList" "DEFAULTCAPACITY_EMPTY_ELEMENTDATA" "[Ljava/lang/Object;" ∈ lw_all) (hdg : decode cc pc = .ok (.getstatic index, 3))
    (kk : W p l e R s m args below meth c H locs cells slots Qp (F0 m (pc + 3) ls (.ref G.2.2.1.1 :: rest))) : W p l e R s m args below meth c H locs cells slots Qp (F0 m pc ls rest) := by
  obtain ⟨hx, hb, hml, hown, hts, hE, -⟩ := X
  exact va_gets hx hb hE.2.2.2.1 hB.2.1 hown (hts _ hlink) (fun _ h => h) hdg kk
theorem z_getpr {index : Nat} (X : z_X l G A p R s m args meth c cc nL own nm ret mc ms fr lo) (hB : z_HB G P A s.heap T0 I0 Q0 T I Q H locs) (hlink : Cond.fieldLink own index "java/util/HashSet" "PRESENT" "Ljava/lang/Object;" ∈ lw_all) (hdg : decode cc pc = .ok (.getstatic index, 3))
    (kk : W p l e R s m args below meth c H locs cells slots Qp (F0 m (pc + 3) ls (.ref G.2.2.1.2.1 :: rest))) : W p l e R s m args below meth c H locs cells slots Qp (F0 m pc ls rest) := by
  obtain ⟨hx, hb, hml, hown, hts, hE, -⟩ := X
  exact va_gets hx hb hE.2.2.2.2.1 hB.2.1 hown (hts _ hlink) (fun _ h => h) hdg kk
end ZH
