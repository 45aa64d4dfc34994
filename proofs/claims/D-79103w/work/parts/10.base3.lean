/-! BASE 3: arrays, new cells, casts, calls, ends -/
set_option maxRecDepth 100000
section ZS
variable {p : Program} {l : Launch} {e : Env} {R : Room} {s : State} {m : MethodId} {args : Array Value} {below : List Frame} {meth : Method} {c : Code} {H : Heap} {locs : List Loc} {cells slots : Nat} {Qp : State → Prop}
variable {cc : ByteArray} {pc : Nat} {ls : Array Slot} {rest : List Value} {G : z_E} {P A : Nat → Prop} {T0 T : z_T} {I0 I : z_I} {Q0 Q : z_Q} {nL mc ms fr lo : Nat} {own nm : String} {ret : Option FieldType}
theorem z_iald {a : Nat} {i : Int32} (X : z_X l G A p R s m args meth c cc nL own nm ret mc ms fr lo) (hH : z_H G T I Q H) (ha : (T a).1 = 100) (hin : vp_in i (T a).2.1) (hdg : decode cc pc = .ok (.iaload, 1))
    (kk : W p l e R s m args below meth c H locs cells slots Qp (F0 m (pc + 1) ls (.int (I a i.toNatClampNeg) :: rest))) : W p l e R s m args below meth c H locs cells slots Qp (F0 m pc ls (.int i :: .ref a :: rest)) := by
  obtain ⟨hx, hb, hml, hown, hts, hE, -⟩ := X
  exact va_iald (D := G.1) (f := I a) hx hb hE.1 (z_P1 (z_ary (k := 0) hH ha)) 0 0 rfl rfl hin hdg kk
theorem z_cald {a : Nat} {i : Int32} (X : z_X l G A p R s m args meth c cc nL own nm ret mc ms fr lo) (hH : z_H G T I Q H) (ha : (T a).1 = 101) (hin : vp_in i (T a).2.1) (hdg : decode cc pc = .ok (.caload, 1))
    (kk : W p l e R s m args below meth c H locs cells slots Qp (F0 m (pc + 1) ls (.int (I a i.toNatClampNeg) :: rest))) : W p l e R s m args below meth c H locs cells slots Qp (F0 m pc ls (.int i :: .ref a :: rest)) := by
  obtain ⟨hx, hb, hml, hown, hts, hE, -⟩ := X
  exact va_cald (D := G.1) (f := I a) hx hb hE.1 (z_P1 (z_ary (k := 1) hH ha)) 0 1 rfl rfl hin hdg kk
theorem z_lald {a : Nat} {i : Int32} (X : z_X l G A p R s m args meth c cc nL own nm ret mc ms fr lo) (hH : z_H G T I Q H) (ha : (T a).1 = 106) (hin : vp_in i (T a).2.1) (hdg : decode cc pc = .ok (.laload, 1))
    (kk : W p l e R s m args below meth c H locs cells slots Qp (F0 m (pc + 1) ls (.long (I a i.toNatClampNeg).toInt64 :: rest))) : W p l e R s m args below meth c H locs cells slots Qp (F0 m pc ls (.int i :: .ref a :: rest)) := by
  obtain ⟨hx, hb, hml, hown, hts, hE, -⟩ := X
  exact va_lald (D := G.1) (f := fun j => (I a j).toInt64) hx hb hE.1 (z_P1 (z_ary (k := 6) hH ha)) 0 6 rfl rfl hin hdg kk
theorem z_dald {a : Nat} {i : Int32} (X : z_X l G A p R s m args meth c cc nL own nm ret mc ms fr lo) (hH : z_H G T I Q H) (ha : (T a).1 = 107) (hin : vp_in i (T a).2.1) (hdg : decode cc pc = .ok (.daload, 1))
    (kk : W p l e R s m args below meth c H locs cells slots Qp (F0 m (pc + 1) ls (.double (z_dm (I a (2 * i.toNatClampNeg)) (I a (2 * i.toNatClampNeg + 1))) :: rest))) : W p l e R s m args below meth c H locs cells slots Qp (F0 m pc ls (.int i :: .ref a :: rest)) := by
  obtain ⟨hx, hb, hml, hown, hts, hE, -⟩ := X
  exact va_dald (D := G.1) (f := fun j => z_dm (I a (2 * j)) (I a (2 * j + 1))) hx hb hE.1 (z_P1 (z_ary (k := 7) hH ha)) 0 7 rfl rfl hin hdg kk
/-- aaload of an Object[] (102), Buffer[] (103), Arm[] (104), Node[] (105) -/
theorem z_aald {a k : Nat} {i : Int32} (X : z_X l G A p R s m args meth c cc nL own nm ret mc ms fr lo) (hH : z_H G T I Q H) (hk : 2 ≤ k ∧ k < 6) (ha : (T a).1 = 100 + k) (hin : vp_in i (T a).2.1) (hdg : decode cc pc = .ok (.aaload, 1))
    (kk : W p l e R s m args below meth c H locs cells slots Qp (F0 m (pc + 1) ls (va_rf (Q a i.toNatClampNeg) :: rest))) : W p l e R s m args below meth c H locs cells slots Qp (F0 m pc ls (.int i :: .ref a :: rest)) := by
  obtain ⟨hx, hb, hml, hown, hts, hE, -⟩ := X
  have h := z_ary (k := k) hH ha
  obtain ⟨h1, h2⟩ := hk
  have h9 : k = 2 ∨ k = 3 ∨ k = 4 ∨ k = 5 := by omega
  rcases h9 with rfl | rfl | rfl | rfl
  · exact va_aldq (D := G.1) (f := Q a) hx hb hE.1 (z_P1 h) 0 2 rfl rfl hin hdg kk
  · exact va_aldq (D := G.1) (f := Q a) hx hb hE.1 (z_P1 h) 0 3 rfl rfl hin hdg kk
  · exact va_aldq (D := G.1) (f := Q a) hx hb hE.1 (z_P1 h) 0 4 rfl rfl hin hdg kk
  · exact va_aldq (D := G.1) (f := Q a) hx hb hE.1 (z_P1 h) 0 5 rfl rfl hin hdg kk
theorem z_alen {a k : Nat} (X : z_X l G A p R s m args meth c cc nL own nm ret mc ms fr lo) (hH : z_H G T I Q H) (hk : k < 8) (ha : (T a).1 = 100 + k) (hdg : decode cc pc = .ok (.arraylength, 1))
    (kk : W p l e R s m args below meth c H locs cells slots Qp (F0 m (pc + 1) ls (.int (nI (T a).2.1) :: rest))) : W p l e R s m args below meth c H locs cells slots Qp (F0 m pc ls (.ref a :: rest)) := by
  obtain ⟨hx, hb, hml, hown, hts, hE, -⟩ := X
  have h := z_ary (k := k) hH ha
  have h9 : k = 0 ∨ k = 1 ∨ k = 2 ∨ k = 3 ∨ k = 4 ∨ k = 5 ∨ k = 6 ∨ k = 7 := by omega
  rcases h9 with rfl | rfl | rfl | rfl | rfl | rfl | rfl | rfl
  · exact va_alen (D := G.1) hx hb hE.1 (z_P1 h) 0 0 rfl (ty := .int) rfl rfl hdg kk
  · exact va_alen (D := G.1) hx hb hE.1 (z_P1 h) 0 1 rfl (ty := .char) rfl rfl hdg kk
  · exact va_alen (D := G.1) hx hb hE.1 (z_P1 h) 0 2 rfl (ty := .object "java/lang/Object") rfl rfl hdg kk
  · exact va_alen (D := G.1) hx hb hE.1 (z_P1 h) 0 3 rfl (ty := .object "RobotCell$Buffer") rfl rfl hdg kk
  · exact va_alen (D := G.1) hx hb hE.1 (z_P1 h) 0 4 rfl (ty := .object "RobotCell$Cell$Arm") rfl rfl hdg kk
  · exact va_alen (D := G.1) hx hb hE.1 (z_P1 h) 0 5 rfl (ty := .object "java/util/HashMap$Node") rfl rfl hdg kk
  · exact va_alen (D := G.1) hx hb hE.1 (z_P1 h) 0 6 rfl (ty := .long) rfl rfl hdg kk
  · exact va_alen (D := G.1) hx hb hE.1 (z_P1 h) 0 7 rfl (ty := .double) rfl rfl hdg kk
theorem z_atA {t : Nat × Nat × Nat} {i : Nat → Int32} {r : Nat → Option Nat} {H1 : Heap} {a k : Nat} (ha : t.1 = 100 + k) (h : H1[a]? = some (vp_cell (G.2.1 k) (t.2.1, z_arr k i r))) : z_at G t i r H1 a := by
  unfold z_at
  rw [if_neg (by omega)]
  unfold z_ent
  rw [if_neg (by omega), ha, show 100 + k - 100 = k by omega]
  exact h
theorem z_cell0 {cA : ClassId} {n : Nat} {i : Nat → Int32} {r : Nat → Option Nat} : vp_cell cA (n, z_arr 0 i r) = arrV cA n (fun j => .int (i j)) := rfl
theorem z_cell1 {cA : ClassId} {n : Nat} {i : Nat → Int32} {r : Nat → Option Nat} : vp_cell cA (n, z_arr 1 i r) = arrV cA n (fun j => .int (i j)) := rfl
theorem z_cell6 {cA : ClassId} {n : Nat} {i : Nat → Int32} {r : Nat → Option Nat} : vp_cell cA (n, z_arr 6 i r) = arrV cA n (fun j => .long (i j).toInt64) := rfl
theorem z_cell7 {cA : ClassId} {n : Nat} {i : Nat → Int32} {r : Nat → Option Nat} : vp_cell cA (n, z_arr 7 i r) = arrV cA n (fun j => .double (z_dm (i (2 * j)) (i (2 * j + 1)))) := rfl
theorem z_cellq {cA : ClassId} {n : Nat} {r : Nat → Option Nat} : vp_cell cA (n, .inr (.inr (.inr (.inr r)))) = arrV cA n (fun j => va_rf (r j)) := rfl
theorem z_iast {a : Nat} {i x : Int32} (X : z_X l G A p R s m args meth c cc nL own nm ret mc ms fr lo) (hB : z_HB G P A s.heap T0 I0 Q0 T I Q H locs) (ha : (T a).1 = 100) (hp : P (T a).2.2) (hin : vp_in i (T a).2.1) (hdg : decode cc pc = .ok (.iastore, 1))
    (kk : ∀ (H1 : Heap) (locs1 : List Loc), z_HB G P A s.heap T0 I0 Q0 T (z_up I a i.toNatClampNeg x) Q H1 locs1 → W p l e R s m args below meth c H1 locs1 cells slots Qp (F0 m (pc + 1) ls rest)) : W p l e R s m args below meth c H locs cells slots Qp (F0 m pc ls (.int x :: .int i :: .ref a :: rest)) := by
  obtain ⟨hx, hb, hml, hown, hts, hE, -⟩ := X
  have h : H[a]? = some (arrV (G.2.1 0) (T a).2.1 (fun j => .int (I a j))) := z_ary (k := 0) hB.1 ha
  refine W.iast hx hb h ((hE.1.2 0 _ rfl).1 _ (fun j => .int (I a j))) (fun q => by cases q) (by rw [arrV_size]; exact hin) rfl rfl hdg fun H1 e1 z oq => ?_
  refine kk H1 _ (z_HB_put hB (by omega) hp z oq (z_atA (k := 0) ha ?_) (fun q hq => z_up_ne hq) (fun q _ => rfl))
  rw [e1, z_up_at]
  rw [z_cell0, arrV_store]
  congr 2
  funext q
  by_cases hq : q = i.toNatClampNeg <;> simp [updV, hq]
theorem z_cast {a : Nat} {i x : Int32} (X : z_X l G A p R s m args meth c cc nL own nm ret mc ms fr lo) (hB : z_HB G P A s.heap T0 I0 Q0 T I Q H locs) (ha : (T a).1 = 101) (hp : P (T a).2.2) (hin : vp_in i (T a).2.1) (hdg : decode cc pc = .ok (.castore, 1))
    (kk : ∀ (H1 : Heap) (locs1 : List Loc), z_HB G P A s.heap T0 I0 Q0 T (z_up I a i.toNatClampNeg (vp_nar .char x)) Q H1 locs1 → W p l e R s m args below meth c H1 locs1 cells slots Qp (F0 m (pc + 1) ls rest)) : W p l e R s m args below meth c H locs cells slots Qp (F0 m pc ls (.int x :: .int i :: .ref a :: rest)) := by
  obtain ⟨hx, hb, hml, hown, hts, hE, -⟩ := X
  have h : H[a]? = some (arrV (G.2.1 1) (T a).2.1 (fun j => .int (I a j))) := z_ary (k := 1) hB.1 ha
  refine W.cast hx hb h ((hE.1.2 1 _ rfl).1 _ (fun j => .int (I a j))) (fun q => by cases q) (by rw [arrV_size]; exact hin) rfl rfl hdg fun H1 e1 z oq => ?_
  refine kk H1 _ (z_HB_put hB (by omega) hp z oq (z_atA (k := 1) ha ?_) (fun q hq => z_up_ne hq) (fun q _ => rfl))
  rw [e1, z_up_at]
  rw [z_cell1, arrV_store]
  congr 2
  funext q
  by_cases hq : q = i.toNatClampNeg
  · subst hq
    simp [updV, vp_nar]
    try rfl
  · simp [updV, hq]
theorem z_last {a : Nat} {i x : Int32} (X : z_X l G A p R s m args meth c cc nL own nm ret mc ms fr lo) (hB : z_HB G P A s.heap T0 I0 Q0 T I Q H locs) (ha : (T a).1 = 106) (hp : P (T a).2.2) (hin : vp_in i (T a).2.1) (hdg : decode cc pc = .ok (.lastore, 1))
    (kk : ∀ (H1 : Heap) (locs1 : List Loc), z_HB G P A s.heap T0 I0 Q0 T (z_up I a i.toNatClampNeg x) Q H1 locs1 → W p l e R s m args below meth c H1 locs1 cells slots Qp (F0 m (pc + 1) ls rest)) : W p l e R s m args below meth c H locs cells slots Qp (F0 m pc ls (.long x.toInt64 :: .int i :: .ref a :: rest)) := by
  obtain ⟨hx, hb, hml, hown, hts, hE, -⟩ := X
  have h : H[a]? = some (arrV (G.2.1 6) (T a).2.1 (fun j => .long (I a j).toInt64)) := z_ary (k := 6) hB.1 ha
  refine W.last hx hb h ((hE.1.2 6 _ rfl).1 _ (fun j => .long (I a j).toInt64)) (fun q => by cases q) (by rw [arrV_size]; exact hin) rfl rfl hdg fun H1 e1 z oq => ?_
  refine kk H1 _ (z_HB_put hB (by omega) hp z oq (z_atA (k := 6) ha ?_) (fun q hq => z_up_ne hq) (fun q _ => rfl))
  rw [e1, z_up_at]
  rw [z_cell6, arrV_store]
  congr 2
  funext q
  by_cases hq : q = i.toNatClampNeg <;> simp [updV, hq]
theorem z_dast {a : Nat} {i h0 l0 : Int32} {x : UInt64} (hxx : z_dm h0 l0 = x) (X : z_X l G A p R s m args meth c cc nL own nm ret mc ms fr lo) (hB : z_HB G P A s.heap T0 I0 Q0 T I Q H locs) (ha : (T a).1 = 107) (hp : P (T a).2.2) (hin : vp_in i (T a).2.1) (hdg : decode cc pc = .ok (.dastore, 1))
    (kk : ∀ (H1 : Heap) (locs1 : List Loc), z_HB G P A s.heap T0 I0 Q0 T (z_up (z_up I a (2 * i.toNatClampNeg) h0) a (2 * i.toNatClampNeg + 1) l0) Q H1 locs1 → W p l e R s m args below meth c H1 locs1 cells slots Qp (F0 m (pc + 1) ls rest)) : W p l e R s m args below meth c H locs cells slots Qp (F0 m pc ls (.double x :: .int i :: .ref a :: rest)) := by
  obtain ⟨hx, hb, hml, hown, hts, hE, -⟩ := X
  subst hxx
  have h : H[a]? = some (arrV (G.2.1 7) (T a).2.1 (fun j => .double (z_dm (I a (2 * j)) (I a (2 * j + 1))))) := z_ary (k := 7) hB.1 ha
  refine W.dast hx hb h ((hE.1.2 7 _ rfl).1 _ (fun j => .double (z_dm (I a (2 * j)) (I a (2 * j + 1))))) (fun q => by cases q) (by rw [arrV_size]; exact hin) rfl rfl hdg fun H1 e1 z oq => ?_
  refine kk H1 _ (z_HB_put hB (by omega) hp z oq (z_atA (k := 7) ha ?_) (fun q hq => by rw [z_up_ne hq, z_up_ne hq]) (fun q _ => rfl))
  rw [e1, z_up_at, z_up_at]
  rw [z_cell7, arrV_store]
  congr 2
  funext q
  by_cases hq : q = i.toNatClampNeg
  · subst hq
    simp [updV]
  · have h1 : ¬ 2 * q = 2 * i.toNatClampNeg := by omega
    have h2 : ¬ 2 * q = 2 * i.toNatClampNeg + 1 := by omega
    have h3 : ¬ 2 * q + 1 = 2 * i.toNatClampNeg := by omega
    simp [updV, hq, h1, h2, h3]
theorem z_cmp (k : Nat) (C : String) (hk : (k, C) ∈ [(2, "java/lang/Object"), (3, "RobotCell$Buffer"), (4, "RobotCell$Cell$Arm"), (5, "java/util/HashMap$Node")]) : ∃ t0 : Nat, (z_ty G)[t0]? = some (G.2.1 k, FieldType.object C) ∧ 2 ≤ k ∧ k < 6 ∧ ∀ (i : Nat → Int32) (r : Nat → Option Nat), z_arr k i r = Sum.inr (Sum.inr (Sum.inr (Sum.inr r))) := by
  simp only [List.mem_cons, Prod.mk.injEq, List.not_mem_nil, or_false] at hk
  rcases hk with ⟨rfl, rfl⟩ | ⟨rfl, rfl⟩ | ⟨rfl, rfl⟩ | ⟨rfl, rfl⟩
  · exact ⟨2, rfl, by decide, by decide, fun _ _ => rfl⟩
  · exact ⟨3, rfl, by decide, by decide, fun _ _ => rfl⟩
  · exact ⟨4, rfl, by decide, by decide, fun _ _ => rfl⟩
  · exact ⟨5, rfl, by decide, by decide, fun _ _ => rfl⟩
theorem z_storeq {a k : Nat} {i : Int32} {x : Option Nat} {H1 : Heap} {j : Nat} (hB : z_HB G P A s.heap T0 I0 Q0 T I Q H locs) (hk : ∀ (i : Nat → Int32) (r : Nat → Option Nat), z_arr k i r = Sum.inr (Sum.inr (Sum.inr (Sum.inr r)))) (ha : (T a).1 = 100 + k) (hp : P (T a).2.2) (e1 : H1[a]? = some ((arrV (G.2.1 k) (T a).2.1 (fun j => va_rf (Q a j))).setSlot i.toNatClampNeg (va_rf x))) (z : H1.size = H.size) (oq : ∀ q : Nat, q ≠ a → H1[q]? = H[q]?) : z_HB G P A s.heap T0 I0 Q0 T I (z_up Q a i.toNatClampNeg x) H1 (locs ++ [⟨a, j⟩]) := by
  refine z_HB_put hB (by omega) hp z oq (z_atA (k := k) ha ?_) (fun q _ => rfl) (fun q hq => z_up_ne hq)
  rw [e1, z_up_at, hk]
  rw [z_cellq, arrV_store]
  congr 2
  funext q
  by_cases hq : q = i.toNatClampNeg <;> simp [updV, hq]
/-- a reference that isn't null goes into an array; its class may stand there -/
theorem z_aast {a k o ci : Nat} {i : Int32} {C E : String} {Tc : u_T} {N : Nat} (X : z_X l G A p R s m args meth c cc nL own nm ret mc ms fr lo) (hB : z_HB G P A s.heap T0 I0 Q0 T I Q H locs) (hk : (k, E) ∈ [(2, "java/lang/Object"), (3, "RobotCell$Buffer"), (4, "RobotCell$Cell$Arm"), (5, "java/util/HashMap$Node")]) (ha : (T a).1 = 100 + k) (hp : P (T a).2.2) (hin : vp_in i (T a).2.1) (hc : z_cl[ci]? = some (C, Tc, N)) (hci : ci < 89) (ho : (T o).1 = ci + 1) (hca : C = E ∨ Cond.castable C E ∈ lw_tbl) (hdg : decode cc pc = .ok (.aastore, 1))
    (kk : ∀ (H1 : Heap) (locs1 : List Loc), z_HB G P A s.heap T0 I0 Q0 T I (z_up Q a i.toNatClampNeg (some o)) H1 locs1 → W p l e R s m args below meth c H1 locs1 cells slots Qp (F0 m (pc + 1) ls rest)) : W p l e R s m args below meth c H locs cells slots Qp (F0 m pc ls (.ref o :: .int i :: .ref a :: rest)) := by
  obtain ⟨hx, hb, hml, hown, hts, hE, -⟩ := X
  obtain ⟨t0, ht, hk1, hk2, hk3⟩ := z_cmp (G := G) k E hk
  have h0 := z_ary (k := k) hB.1 ha
  rw [hk3] at h0
  have h : H[a]? = some (arrV (G.2.1 k) (T a).2.1 (fun j => va_rf (Q a j))) := h0
  have hlt : i.toNatClampNeg < (T a).2.1 := Nat.not_le.mp fun q => hin (Or.inr q)
  have hi0 : ¬ i < 0 := fun q => hin (Or.inl q)
  obtain ⟨r', hr', cellV, g1, g2, g3, -⟩ := z_obj hB.1 ho hci
  have hcls := (hE.1.1 ci _ hc).2
  obtain ⟨kA, comp, k1, k2, k3, -⟩ := (hE.1.2 t0 _ ht).2
  obtain ⟨kE, hkE, -⟩ := Vm.findClass_spec k3
  obtain ⟨kC, hkC, -⟩ := hcls.2
  have hasg : s.vm.assignable cellV.cls comp = true := by
    rw [g2]
    rcases hca with rfl | hca
    · cases k3.symm.trans hcls.1
      exact va_assign hcls
    · obtain ⟨c0, t1, f1, f2, f3⟩ := Cond.castable_spec (va_Nw.use (A := args) rfl (hE.2.1 _ (z_in hca rfl)))
      cases hcls.1.symm.trans f1
      cases k3.symm.trans f2
      exact f3
  refine W.aast hx hb h (fun q h => by cases h) (fun h => by cases h) k1 k2 rfl hkE ⟨hi0, by rw [arrV_size]; exact hlt⟩ g1 (fun q h => by rw [g3] at h; cases h) (by rw [g2]; exact hkC) hasg rfl rfl hdg fun H1 e1 z oq => ?_
  exact kk H1 _ (z_storeq hB hk3 ha hp e1 z oq)
theorem z_aastN {a k : Nat} {i : Int32} {E : String} (X : z_X l G A p R s m args meth c cc nL own nm ret mc ms fr lo) (hB : z_HB G P A s.heap T0 I0 Q0 T I Q H locs) (hk : (k, E) ∈ [(2, "java/lang/Object"), (3, "RobotCell$Buffer"), (4, "RobotCell$Cell$Arm"), (5, "java/util/HashMap$Node")]) (ha : (T a).1 = 100 + k) (hp : P (T a).2.2) (hin : vp_in i (T a).2.1) (hdg : decode cc pc = .ok (.aastore, 1))
    (kk : ∀ (H1 : Heap) (locs1 : List Loc), z_HB G P A s.heap T0 I0 Q0 T I (z_up Q a i.toNatClampNeg none) H1 locs1 → W p l e R s m args below meth c H1 locs1 cells slots Qp (F0 m (pc + 1) ls rest)) : W p l e R s m args below meth c H locs cells slots Qp (F0 m pc ls (.null :: .int i :: .ref a :: rest)) := by
  obtain ⟨hx, hb, hml, hown, hts, hE, -⟩ := X
  obtain ⟨t0, ht, hk1, hk2, hk3⟩ := z_cmp (G := G) k E hk
  have h0 := z_ary (k := k) hB.1 ha
  rw [hk3] at h0
  have h : H[a]? = some (arrV (G.2.1 k) (T a).2.1 (fun j => va_rf (Q a j))) := h0
  refine va_WaastN (C := E) hx hb h ((hE.1.2 t0 _ ht).1 _ (fun j => va_rf (Q a j))) (fun h => by cases h) (by rw [arrV_size]; exact hin) rfl rfl hdg fun H1 e1 z oq => ?_
  exact kk H1 _ (z_storeq hB hk3 ha hp e1 z oq)
/-- new -/
theorem z_new {C : String} {Tc : u_T} {N index k col : Nat} (tyf : Nat → FieldType) (X : z_X l G A p R s m args meth c cc nL own nm ret mc ms fr lo) (hB : z_HB G P A s.heap T0 I0 Q0 T I Q H locs) (hc : z_cl[k]? = some (C, Tc, N)) (hin : ∀ w ∈ u_ws C Tc N, w ∈ lw_all) (hty : ∀ k, k < N → parseFieldDescriptor (Tc k).2.2.1 = some (tyf k)) (hcl : Cond.classLink own index C ∈ lw_all) (hinst : Cond.instantiable C N ∈ lw_all) (hini : Cond.initialized C ∈ lw_all) (hk : k < 89) (hfs : ∀ j, j < N → defaultValue (tyf j) = vp_V (z_fv (z_sg k) 0 (fun _ => 0) (fun _ => none)) j) (hp : P col) (h1 : cells + 1 ≤ mc) (h2 : slots + N ≤ ms) (hdg : decode cc pc = .ok (.new index, 3))
    (kk : ∀ (q : Nat) (H1 : Heap), (T q).1 = 0 → z_HB G P A s.heap T0 I0 Q0 (z_t T q (k + 1, 0, col)) (z_row I q (fun _ => 0)) (z_row Q q (fun _ => none)) H1 locs → W p l e R s m args below meth c H1 locs (cells + 1) (slots + N) Qp (F0 m (pc + 3) ls (.ref q :: rest))) : W p l e R s m args below meth c H locs cells slots Qp (F0 m pc ls rest) := by
  obtain ⟨hx, hb, hml, hown, hts, hE, -, -, -, hR1, hR2, -⟩ := X
  have hKn := hE.1.1 k _ hc
  refine W.newcK hx hb hown (hts _ hcl) (hts _ hinst) (hts _ hini) rfl hdg (Nat.le_trans h1 hR1) (Nat.le_trans h2 hR2) hKn.2.1 rfl fun H1 kC hkC e1 z1 o1 => ?_
  have hat : z_at G (k + 1, 0, col) (fun _ => 0) (fun _ => none) H1 H.size := by
    unfold z_at
    rw [if_neg (by show ¬ k + 1 = 99; omega)]
    unfold z_ent
    rw [if_pos (by show k + 1 < 90; omega)]
    exact ⟨_, hc, (u_born tyf hts hin hKn hkC e1 hty).to hfs⟩
  obtain ⟨g1, g2⟩ := z_HB_new hB (x := (k + 1, 0, col)) (by simp) hp z1 o1 hat
  exact kk H.size H1 g1 g2
/-- newarray of ints (0) and chars (1), longs (6), doubles (7) -/
theorem z_newa {atype : ArrayType} {k n col : Nat} {x : Int32} (ty : FieldType) (hty : newarray.typeOf atype = ty) (hkt : (k, ty) ∈ [(0, FieldType.int), (1, .char), (6, .long), (7, .double)]) (X : z_X l G A p R s m args meth c cc nL own nm ret mc ms fr lo) (hB : z_HB G P A s.heap T0 I0 Q0 T I Q H locs) (harr : Cond.arrayClass ty ∈ lw_all) (hn : ¬ x < 0) (hN : x.toNatClampNeg = n) (hby : n ≤ 60000000) (hp : P col) (h1 : cells + 1 ≤ mc) (h2 : slots + n ≤ ms) (hdg : decode cc pc = .ok (.newarray atype, 2))
    (kk : ∀ (q : Nat) (H1 : Heap), (T q).1 = 0 → z_HB G P A s.heap T0 I0 Q0 (z_t T q (100 + k, n, col)) (z_row I q (fun _ => 0)) (z_row Q q (fun _ => none)) H1 locs → W p l e R s m args below meth c H1 locs (cells + 1) (slots + n) Qp (F0 m (pc + 2) ls (.ref q :: rest))) : W p l e R s m args below meth c H locs cells slots Qp (F0 m pc ls (.int x :: rest)) := by
  obtain ⟨hx, hb, hml, hown, hts, hE, -, -, -, hR1, hR2, -⟩ := X
  subst hty
  have hbytes : n * componentBytes (newarray.typeOf atype) ≤ 536870912 := by
    have h8 : componentBytes (newarray.typeOf atype) ≤ 8 := by
      simp only [List.mem_cons, Prod.mk.injEq, List.not_mem_nil, or_false] at hkt
      rcases hkt with ⟨-, h⟩ | ⟨-, h⟩ | ⟨-, h⟩ | ⟨-, h⟩ <;> rw [h] <;> decide
    exact Nat.le_trans (Nat.mul_le_mul hby h8) (by decide)
  refine va_newaK hx hb (hts _ harr) rfl hdg rfl hn hN hbytes (Nat.le_trans h1 hR1) (Nat.le_trans h2 hR2) rfl fun H1 cA e1 z1 o1 hAr hNm => ?_
  have hcA : G.2.1 k = cA ∧ arrV cA n (fun _ => defaultValue (newarray.typeOf atype)) = vp_cell cA (n, z_arr k (fun _ => 0) (fun _ => none)) := by
    simp only [List.mem_cons, Prod.mk.injEq, List.not_mem_nil, or_false] at hkt
    rcases hkt with ⟨rfl, h⟩ | ⟨rfl, h⟩ | ⟨rfl, h⟩ | ⟨rfl, h⟩
    · rw [h] at hNm ⊢
      have h9 := (hE.1.2 0 _ rfl).2
      exact ⟨Option.some.inj (h9.symm.trans hNm), rfl⟩
    · rw [h] at hNm ⊢
      have h9 := (hE.1.2 1 _ rfl).2
      exact ⟨Option.some.inj (h9.symm.trans hNm), rfl⟩
    · rw [h] at hNm ⊢
      have h9 := (hE.1.2 6 _ rfl).2
      exact ⟨Option.some.inj (h9.symm.trans hNm), rfl⟩
    · rw [h] at hNm ⊢
      have h9 := (hE.1.2 7 _ rfl).2
      have h8 : z_dm 0 0 = 0 := by decide +kernel
      refine ⟨Option.some.inj (h9.symm.trans hNm), ?_⟩
      rw [z_cell7, h8]
      rfl
  have hat : z_at G (100 + k, n, col) (fun _ => 0) (fun _ => none) H1 H.size := z_atA (k := k) rfl (by rw [e1, hcA.2, hcA.1])
  obtain ⟨g1, g2⟩ := z_HB_new hB (x := (100 + k, n, col)) (by show 100 + k ≠ 0; omega) hp z1 o1 hat
  exact kk H.size H1 g1 g2
/-- anewarray -/
theorem z_newq {C : String} {index k n col : Nat} {x : Int32} (X : z_X l G A p R s m args meth c cc nL own nm ret mc ms fr lo) (hB : z_HB G P A s.heap T0 I0 Q0 T I Q H locs) (hk : (k, C) ∈ [(2, "java/lang/Object"), (3, "RobotCell$Buffer"), (4, "RobotCell$Cell$Arm"), (5, "java/util/HashMap$Node")]) (hcl : Cond.classLink own index C ∈ lw_all) (hn : ¬ x < 0) (hN : x.toNatClampNeg = n) (hby : n ≤ 60000000) (hp : P col) (h1 : cells + 1 ≤ mc) (h2 : slots + n ≤ ms) (hdg : decode cc pc = .ok (.anewarray index, 3))
    (kk : ∀ (q : Nat) (H1 : Heap), (T q).1 = 0 → z_HB G P A s.heap T0 I0 Q0 (z_t T q (100 + k, n, col)) (z_row I q (fun _ => 0)) (z_row Q q (fun _ => none)) H1 locs → W p l e R s m args below meth c H1 locs (cells + 1) (slots + n) Qp (F0 m (pc + 3) ls (.ref q :: rest))) : W p l e R s m args below meth c H locs cells slots Qp (F0 m pc ls (.int x :: rest)) := by
  obtain ⟨hx, hb, hml, hown, hts, hE, -, -, -, hR1, hR2, -⟩ := X
  obtain ⟨t0, ht, hk1, hk2, hk3⟩ := z_cmp (G := G) k C hk
  have hao : va_AO C s := hE.2.2.2.2.2.2.2.2.2.2.1 C (by
    simp only [List.mem_cons, Prod.mk.injEq, List.not_mem_nil, or_false] at hk
    rcases hk with ⟨-, rfl⟩ | ⟨-, rfl⟩ | ⟨-, rfl⟩ | ⟨-, rfl⟩ <;> simp [z_ao])
  subst hN
  refine W.anew hx hb hown (hts _ hcl) (va_AO.use hao) rfl hdg rfl hn (by omega) (Nat.le_trans h1 hR1) (Nat.le_trans h2 hR2) fun cA kA comp f1 f2 f3 f4 => ?_
  generalize hH1 : H.push ({ cls := cA, slots := Array.replicate x.toNatClampNeg .null, vm := .none } : Cell) = H1
  have z1 : H1.size = H.size + 1 := by rw [← hH1, Array.size_push]
  have e1 : H1[H.size]? = some (arrV cA x.toNatClampNeg (fun _ => .null)) := by rw [← hH1, Array.getElem?_push_size, ← arrV_new]
  have o1 : ∀ q : Nat, q < H.size → H1[q]? = H[q]? := fun q hq => by rw [← hH1, Array.getElem?_push, if_neg (Nat.ne_of_lt hq)]
  obtain ⟨-, kA', comp', -, -, -, h9⟩ := hE.1.2 t0 _ ht
  have hcA : G.2.1 k = cA := Option.some.inj (h9.symm.trans f1)
  have hat : z_at G (100 + k, x.toNatClampNeg, col) (fun _ => 0) (fun _ => none) H1 H.size := z_atA (k := k) rfl (by rw [e1, hcA, hk3]; rfl)
  obtain ⟨g1, g2⟩ := z_HB_new hB (x := (100 + k, x.toNatClampNeg, col)) (by show 100 + k ≠ 0; omega) hp z1 o1 hat
  exact kk H.size H1 g1 g2
theorem z_recv {b k : Nat} {C : String} {Tc : u_T} {N : Nat} (X : z_X l G A p R s m args meth c cc nL own nm ret mc ms fr lo) (hH : z_H G T I Q H) (hc : z_cl[k]? = some (C, Tc, N)) (hk : k < 89) (ha : (T b).1 = k + 1) : ∃ cell : Cell, H[b]? = some cell ∧ cell.vm.isStatics = false ∧ s.vm.findClass C = some cell.cls := by
  obtain ⟨hx, hb, hml, hown, hts, hE, -⟩ := X
  obtain ⟨q', h1, cell, g1, g2, g3, -⟩ := z_obj hH ha hk
  exact ⟨cell, g1, by rw [g3]; rfl, by rw [g2]; exact (hE.1.1 k _ hc).2.1⟩
/-- a box: made, or of the cache -/
theorem z_recvI {b : Nat} (X : z_X l G A p R s m args meth c cc nL own nm ret mc ms fr lo) (hH : z_H G T I Q H) (ha : (T b).1 = 26 ∨ (T b).1 = 99) : ∃ cell : Cell, H[b]? = some cell ∧ cell.vm.isStatics = false ∧ s.vm.findClass RJ21 = some cell.cls := by
  rcases ha with ha | ha
  · exact z_recv X hH kc_J21 (by decide) ha
  · obtain ⟨hx, hb, hml, hown, hts, hE, -⟩ := X
    have h := hH b (by omega)
    unfold z_at at h
    rw [if_pos ha] at h
    obtain ⟨cell, h1, h2, h3, h4, h5⟩ := h
    exact ⟨cell, h1, h2, by rw [h4]; exact (hE.1.1 25 _ kc_J21).2.1⟩
/-- checkcast of an object of a walked class -/
theorem z_castY {a k index : Nat} {C name : String} {Tc : u_T} {N : Nat} (X : z_X l G A p R s m args meth c cc nL own nm ret mc ms fr lo) (hH : z_H G T I Q H) (hc : z_cl[k]? = some (C, Tc, N)) (hk : k < 89) (ha : (T a).1 = k + 1) (hlink : Cond.classLink own index name ∈ lw_all) (hca : C = name ∨ Cond.castable C name ∈ lw_tbl) (hdg : decode cc pc = .ok (.checkcast index, 3))
    (kk : W p l e R s m args below meth c H locs cells slots Qp (F0 m (pc + 3) ls (.ref a :: rest))) : W p l e R s m args below meth c H locs cells slots Qp (F0 m pc ls (.ref a :: rest)) := by
  have hr := z_recv X hH hc hk ha
  obtain ⟨hx, hb, hml, hown, hts, hE, -⟩ := X
  rcases hca with rfl | hca
  · exact va_castS hx hb hown (hts _ hlink) (hE.1.1 k _ hc).2 hr hdg kk
  · exact va_castY hx hb hown (hts _ hlink) (hE.2.1 _ (z_in hca rfl)) hr hdg kk
theorem z_castI {a index : Nat} (X : z_X l G A p R s m args meth c cc nL own nm ret mc ms fr lo) (hH : z_H G T I Q H) (ha : (T a).1 = 26 ∨ (T a).1 = 99) (hlink : Cond.classLink own index RJ21 ∈ lw_all) (hdg : decode cc pc = .ok (.checkcast index, 3))
    (kk : W p l e R s m args below meth c H locs cells slots Qp (F0 m (pc + 3) ls (.ref a :: rest))) : W p l e R s m args below meth c H locs cells slots Qp (F0 m pc ls (.ref a :: rest)) := by
  have hr := z_recvI X hH ha
  obtain ⟨hx, hb, hml, hown, hts, hE, -⟩ := X
  exact va_castS hx hb hown (hts _ hlink) (hE.1.1 25 _ kc_J21).2 hr hdg kk
theorem z_instY {a k index : Nat} {C name : String} {Tc : u_T} {N : Nat} (X : z_X l G A p R s m args meth c cc nL own nm ret mc ms fr lo) (hH : z_H G T I Q H) (hc : z_cl[k]? = some (C, Tc, N)) (hk : k < 89) (ha : (T a).1 = k + 1) (hlink : Cond.classLink own index name ∈ lw_all) (hca : C = name ∨ Cond.castable C name ∈ lw_tbl) (hdg : decode cc pc = .ok (.instanceof index, 3))
    (kk : W p l e R s m args below meth c H locs cells slots Qp (F0 m (pc + 3) ls (.int 1 :: rest))) : W p l e R s m args below meth c H locs cells slots Qp (F0 m pc ls (.ref a :: rest)) := by
  have hr := z_recv X hH hc hk ha
  obtain ⟨hx, hb, hml, hown, hts, hE, -⟩ := X
  rcases hca with rfl | hca
  · exact va_instS hx hb hown (hts _ hlink) (hE.1.1 k _ hc).2 hr hdg kk
  · exact va_instY hx hb hown (hts _ hlink) (hE.2.1 _ (z_in hca rfl)) hr hdg kk
/-- getfield of a box -/
theorem z_getI {a index : Nat} (X : z_X l G A p R s m args meth c cc nL own nm ret mc ms fr lo) (hH : z_H G T I Q H) (ha : (T a).1 = 26 ∨ (T a).1 = 99) (hlink : Cond.fieldLink own index RJ21 "value" "I" ∈ lw_all) (hdg : decode cc pc = .ok (.getfield index, 3))
    (kk : W p l e R s m args below meth c H locs cells slots Qp (F0 m (pc + 3) ls (.int (I a 0) :: rest))) : W p l e R s m args below meth c H locs cells slots Qp (F0 m pc ls (.ref a :: rest)) := by
  rcases ha with ha | ha
  · exact z_get (t := 0) X hH kc_J21 in_J21 (j := 0) (by decide) hlink (fun _ h => h) rfl (by decide) ha hdg kk
  · obtain ⟨hx, hb, hml, hown, hts, hE, -⟩ := X
    have h := hH a (by omega)
    unfold z_at at h
    rw [if_pos ha] at h
    obtain ⟨cell, h1, h2, h3, h4, h5⟩ := h
    obtain ⟨hS, hfc, kC, hkC, hkind⟩ := hE.1.1 25 _ kc_J21
    obtain ⟨cf, kf, fi, f, hi, hsl⟩ := hS 0 (by decide)
    exact W.getf hx hb hown (hts _ hlink) hi (u_facts hfc hkC (u_lays hts in_J21 (k := 0) (by decide)) hi).1 h1 h3 (v := .int (I a 0)) (by rw [hsl]; exact h5) rfl rfl hdg kk
end ZS
