/-! BASE 1: the heap as three functions of the address: kinds (kind, length, colour), numbers, references -/
set_option maxRecDepth 100000
abbrev z_T : Type := Nat → Nat × Nat × Nat
abbrev z_I : Type := Nat → Nat → Int32
abbrev z_Q : Type := Nat → Nat → Option Nat
/-- constants: the empty list array, PRESENT, the cached boxes -/
abbrev z_K : Type := Nat × Nat × (Nat → Nat)
/-- classes by their dC, dI; array kinds; constants; the mirror of Object[] -/
abbrev z_E : Type := va_G × (Nat → ClassId) × z_K × Nat
abbrev z_cl : List vw_C := [(RX1, TX1, 5), (RX5, TX5, 63), (RX2, TX2, 12), (RX4, TX4, 14), (RX3, TX3, 6), (RX6, TX6, 5), (RX8, TX8, 7), (RX11, TX11, 1), (RX7, TX7, 2), (RX9, TX9, 3), (RX10, TX10, 8), (RX12, TX12, 2), (RX15, TX15, 2), (RX16, TX16, 2), (RX17, TX17, 3), (RX13, TX13, 7), (RJ31, TJ31, 3), (RJ46, TJ46, 4), (RJ30, TJ30, 3), (RJ47, TJ47, 4), (RJ3, TJ3, 1), (RJ6, TJ6, 12), (RJ42, TJ42, 6), (RJ35, TJ35, 2), (RJ39, TJ39, 5), (RJ21, TJ21, 1)]
def z_sg : Nat → List Nat
  | 0 => [1, 1, 1, 1, 0]
  | 1 => [0, 1, 1, 1, 1, 1, 1, 1, 1, 1, 1, 1, 1, 1, 1, 1, 1, 1, 1, 1, 1, 1, 1, 1, 1, 1, 1, 1, 1, 1, 1, 1, 1, 0, 0, 0, 0, 0, 0, 0, 0, 1, 1, 1, 0, 0, 0, 1, 1, 1, 1, 0, 0, 0, 0, 1, 1, 1, 1, 0, 0, 0, 0]
  | 2 => [1, 1, 1, 1, 1, 1, 0, 0, 0, 0, 0, 0]
  | 3 => [0, 0, 1, 1, 0, 0, 0, 0, 0, 0, 0, 0, 0, 1]
  | 4 => [1, 0, 0, 0, 0, 0]
  | 5 => [0, 1, 0, 0, 0]
  | 6 => [0, 0, 1, 0, 0, 0, 0]
  | 7 => [1]
  | 8 => [0, 0]
  | 9 => [0, 1, 1]
  | 10 => [0, 1, 1, 0, 0, 1, 0, 1]
  | 11 => [0, 1]
  | 12 => [1, 1]
  | 13 => [0, 1]
  | 14 => [0, 0, 1]
  | 15 => [1, 1, 1, 1, 1, 0, 0]
  | 16 => [1, 0, 0]
  | 17 => [0, 0, 0, 1]
  | 18 => [0, 1, 0]
  | 19 => [0, 0, 0, 1]
  | 20 => [1]
  | 21 => [1, 1, 0, 0, 0, 2, 1, 1, 1, 1, 0, 0]
  | 22 => [0, 1, 1, 1, 1, 1]
  | 23 => [0, 1]
  | 24 => [1, 1, 0, 0, 1]
  | 25 => [0]
  | _ => []
theorem kc_X1 : z_cl[0]? = some (RX1, TX1, 5) := rfl
theorem kc_X5 : z_cl[1]? = some (RX5, TX5, 63) := rfl
theorem kc_X2 : z_cl[2]? = some (RX2, TX2, 12) := rfl
theorem kc_X4 : z_cl[3]? = some (RX4, TX4, 14) := rfl
theorem kc_X3 : z_cl[4]? = some (RX3, TX3, 6) := rfl
theorem kc_X6 : z_cl[5]? = some (RX6, TX6, 5) := rfl
theorem kc_X8 : z_cl[6]? = some (RX8, TX8, 7) := rfl
theorem kc_X11 : z_cl[7]? = some (RX11, TX11, 1) := rfl
theorem kc_X7 : z_cl[8]? = some (RX7, TX7, 2) := rfl
theorem kc_X9 : z_cl[9]? = some (RX9, TX9, 3) := rfl
theorem kc_X10 : z_cl[10]? = some (RX10, TX10, 8) := rfl
theorem kc_X12 : z_cl[11]? = some (RX12, TX12, 2) := rfl
theorem kc_X15 : z_cl[12]? = some (RX15, TX15, 2) := rfl
theorem kc_X16 : z_cl[13]? = some (RX16, TX16, 2) := rfl
theorem kc_X17 : z_cl[14]? = some (RX17, TX17, 3) := rfl
theorem kc_X13 : z_cl[15]? = some (RX13, TX13, 7) := rfl
theorem kc_J31 : z_cl[16]? = some (RJ31, TJ31, 3) := rfl
theorem kc_J46 : z_cl[17]? = some (RJ46, TJ46, 4) := rfl
theorem kc_J30 : z_cl[18]? = some (RJ30, TJ30, 3) := rfl
theorem kc_J47 : z_cl[19]? = some (RJ47, TJ47, 4) := rfl
theorem kc_J3 : z_cl[20]? = some (RJ3, TJ3, 1) := rfl
theorem kc_J6 : z_cl[21]? = some (RJ6, TJ6, 12) := rfl
theorem kc_J42 : z_cl[22]? = some (RJ42, TJ42, 6) := rfl
theorem kc_J35 : z_cl[23]? = some (RJ35, TJ35, 2) := rfl
theorem kc_J39 : z_cl[24]? = some (RJ39, TJ39, 5) := rfl
theorem kc_J21 : z_cl[25]? = some (RJ21, TJ21, 1) := rfl

def z_up {α : Type} (f : Nat → Nat → α) (a k : Nat) (v : α) : Nat → Nat → α := fun b j => if b = a ∧ j = k then v else f b j
def z_row {α : Type} (f : Nat → Nat → α) (a : Nat) (g : Nat → α) : Nat → Nat → α := fun b => if b = a then g else f b
def z_t (T : z_T) (a : Nat) (x : Nat × Nat × Nat) : z_T := fun b => if b = a then x else T b
theorem z_up_ne {α : Type} {f : Nat → Nat → α} {a k b : Nat} {v : α} (h : b ≠ a) : z_up f a k v b = f b := by
  funext j; simp [z_up, h]
theorem z_up_at {α : Type} {f : Nat → Nat → α} {a k : Nat} {v : α} : z_up f a k v a = (fun j => if j = k then v else f a j) := by
  funext j; simp [z_up]
theorem z_row_ne {α : Type} {f : Nat → Nat → α} {a b : Nat} {g : Nat → α} (h : b ≠ a) : z_row f a g b = f b := if_neg h
theorem z_row_at {α : Type} {f : Nat → Nat → α} {a : Nat} {g : Nat → α} : z_row f a g a = g := if_pos rfl
theorem z_t_ne {T : z_T} {a b : Nat} {x : Nat × Nat × Nat} (h : b ≠ a) : z_t T a x b = T b := if_neg h
theorem z_t_at {T : z_T} {a : Nat} {x : Nat × Nat × Nat} : z_t T a x a = x := if_pos rfl
def z_v (t : Nat) (i : Int32) (r : Option Nat) : Value := match t with
  | 0 => .int i
  | 1 => va_rf r
  | _ => .float i.toUInt32
def z_fv : List Nat → Nat → (Nat → Int32) → (Nat → Option Nat) → List Value
  | [], _, _, _ => []
  | t :: ts, k, i, r => z_v t (i k) (r k) :: z_fv ts (k + 1) i r
theorem z_fv_len : ∀ (ts : List Nat) (k : Nat) (i : Nat → Int32) (r : Nat → Option Nat), (z_fv ts k i r).length = ts.length
  | [], _, _, _ => rfl
  | _ :: ts, k, i, r => by simp [z_fv, z_fv_len ts (k + 1) i r]
theorem z_fv_get : ∀ (ts : List Nat) (k j t : Nat) (i : Nat → Int32) (r : Nat → Option Nat), ts[j]? = some t → (z_fv ts k i r)[j]? = some (z_v t (i (k + j)) (r (k + j)))
  | [], k, j, t, i, r, h => by simp at h
  | u :: ts, k, 0, t, i, r, h => by
    simp at h; subst h; rfl
  | u :: ts, k, j + 1, t, i, r, h => by
    have h1 : ts[j]? = some t := by simpa using h
    have h2 := z_fv_get ts (k + 1) j t i r h1
    simp only [z_fv, List.getElem?_cons_succ, h2]
    rw [show k + 1 + j = k + (j + 1) by omega]
theorem z_fv_eq : ∀ (ts : List Nat) (k : Nat) (i i' : Nat → Int32) (r r' : Nat → Option Nat), (∀ j t, ts[j]? = some t → z_v t (i (k + j)) (r (k + j)) = z_v t (i' (k + j)) (r' (k + j))) → z_fv ts k i r = z_fv ts k i' r'
  | [], _, _, _, _, _, _ => rfl
  | u :: ts, k, i, i', r, r', h => by
    have h0 := h 0 u rfl
    have h1 := z_fv_eq ts (k + 1) i i' r r' (fun j t hj => by
      have := h (j + 1) t (by simpa using hj)
      rw [show k + 1 + j = k + (j + 1) by omega]; exact this)
    simp only [z_fv, h1]
    rw [Nat.add_zero] at h0
    rw [h0]
theorem z_fv_set (ts : List Nat) (j t : Nat) (i i' : Nat → Int32) (r r' : Nat → Option Nat) (hj : ts[j]? = some t) (hi : ∀ x, x ≠ j → i' x = i x) (hr : ∀ x, x ≠ j → r' x = r x) : (z_fv ts 0 i r).set j (z_v t (i' j) (r' j)) = z_fv ts 0 i' r' := by
  apply List.ext_getElem?
  intro x
  by_cases hx : x = j
  · subst hx
    rw [List.getElem?_set_self (by rw [z_fv_len]; exact (List.getElem?_eq_some_iff.mp hj).1), z_fv_get ts 0 x t i' r' hj]
    simp
  · rw [List.getElem?_set_ne (Ne.symm hx)]
    cases hq : ts[x]? with
    | none =>
      have h1 : ts.length ≤ x := List.getElem?_eq_none_iff.mp hq
      rw [List.getElem?_eq_none (by rw [z_fv_len]; exact h1), List.getElem?_eq_none (by rw [z_fv_len]; exact h1)]
    | some u =>
      rw [z_fv_get ts 0 x u i r hq, z_fv_get ts 0 x u i' r' hq, hi _ (by omega), hr _ (by omega)]
/-- a double out of two halves -/
def z_dm (h l : Int32) : UInt64 := UInt64.ofNat (h.toUInt32.toNat * 4294967296 + l.toUInt32.toNat)
theorem z_dm_of (x : UInt64) : ∃ h l : Int32, z_dm h l = x := by
  refine ⟨(UInt32.ofNat (x.toNat / 4294967296)).toInt32, (UInt32.ofNat (x.toNat % 4294967296)).toInt32, ?_⟩
  have hx : x.toNat < 18446744073709551616 := x.toNat_lt
  have h1 : (UInt32.ofNat (x.toNat / 4294967296)).toNat = x.toNat / 4294967296 := by
    rw [UInt32.toNat_ofNat']; omega
  have h2 : (UInt32.ofNat (x.toNat % 4294967296)).toNat = x.toNat % 4294967296 := by
    rw [UInt32.toNat_ofNat']; omega
  apply UInt64.toNat_inj.mp
  unfold z_dm
  simp only [UInt32.toUInt32_toInt32, h1, h2]
  rw [UInt64.toNat_ofNat']
  omega
/-- what an array of a kind holds: 0 int, 1 char, 2 Object, 3 Buffer, 4 Arm, 5 Node, 6 long, 7 double -/
def z_arr (k : Nat) (i : Nat → Int32) (r : Nat → Option Nat) : (Nat → Int32) ⊕ (Nat → Int64) ⊕ (Nat → UInt32) ⊕ (Nat → UInt64) ⊕ (Nat → Option Nat) :=
  if k < 2 then .inl i else if k < 6 then .inr (.inr (.inr (.inr r))) else if k = 6 then .inr (.inl fun j => (i j).toInt64) else .inr (.inr (.inr (.inl fun j => z_dm (i (2 * j)) (i (2 * j + 1)))))
def z_ent (G : z_E) (t : Nat × Nat × Nat) (i : Nat → Int32) (r : Nat → Option Nat) : va_E :=
  if t.1 < 90 then .inr (t.1 - 1, z_fv (z_sg (t.1 - 1)) 0 i r) else .inl (G.2.1 (t.1 - 100), t.2.1, z_arr (t.1 - 100) i r)
/-- a box of the cache: an old object, never written -/
def z_box (G : z_E) (H : Heap) (a : Nat) (x : Int32) : Prop := ∃ cell : Cell, H[a]? = some cell ∧ cell.vm.isStatics = false ∧ cell.vm ≠ .unknown ∧ cell.cls = G.1.1 25 ∧ cell.slots[G.1.2 25 0]? = some (.int x)
def z_at (G : z_E) (t : Nat × Nat × Nat) (i : Nat → Int32) (r : Nat → Option Nat) (H : Heap) (a : Nat) : Prop := if t.1 = 99 then z_box G H a (i 0) else va_at G.1 z_cl (a, z_ent G t i r) H
def z_H (G : z_E) (T : z_T) (I : z_I) (Q : z_Q) (H : Heap) : Prop := ∀ a, (T a).1 ≠ 0 → z_at G (T a) (I a) (Q a) H a
theorem z_at_lt {G : z_E} {t : Nat × Nat × Nat} {i : Nat → Int32} {r : Nat → Option Nat} {H : Heap} {a : Nat} (h : z_at G t i r H a) : a < H.size := by
  unfold z_at at h
  split at h
  · obtain ⟨cell, h1, -⟩ := h
    exact (Array.getElem?_eq_some_iff.mp h1).1
  · exact va_at.lt h
theorem z_at_kept {G : z_E} {t : Nat × Nat × Nat} {i : Nat → Int32} {r : Nat → Option Nat} {H H1 : Heap} {a : Nat} (h : z_at G t i r H a) (hq : H1[a]? = H[a]?) : z_at G t i r H1 a := by
  unfold z_at at h ⊢
  split at h
  · rename_i h9
    rw [if_pos h9]
    obtain ⟨cell, h1, h2⟩ := h
    exact ⟨cell, by rw [hq]; exact h1, h2⟩
  · rename_i h9
    rw [if_neg h9]
    exact va_at.kept h hq
theorem z_obj {G : z_E} {T : z_T} {I : z_I} {Q : z_Q} {H : Heap} {a k : Nat} (h : z_H G T I Q H) (ha : (T a).1 = k + 1) (hk : k < 89) : va_at G.1 z_cl (a, .inr (k, z_fv (z_sg k) 0 (I a) (Q a))) H := by
  have h1 := h a (by omega)
  unfold z_at at h1
  rw [if_neg (by omega)] at h1
  unfold z_ent at h1
  rw [if_pos (by omega)] at h1
  rw [ha] at h1
  exact h1
theorem z_ary {G : z_E} {T : z_T} {I : z_I} {Q : z_Q} {H : Heap} {a k : Nat} (h : z_H G T I Q H) (ha : (T a).1 = 100 + k) : va_at G.1 z_cl (a, .inl (G.2.1 k, (T a).2.1, z_arr k (I a) (Q a))) H := by
  have h1 := h a (by omega)
  unfold z_at at h1
  rw [if_neg (by omega)] at h1
  unfold z_ent at h1
  rw [if_neg (by omega), ha, show 100 + k - 100 = k by omega] at h1
  exact h1
theorem z_P1 {D : va_G} {cl : List vw_C} {q : Nat × va_E} {H : Heap} (h : va_at D cl q H) : va_P D cl [q] H := by
  intro k x hx
  cases k with
  | zero => cases hx; exact h
  | succ k => simp at hx
abbrev z_ty (G : z_E) : List (ClassId × FieldType) := [(G.2.1 0, .int), (G.2.1 1, .char), (G.2.1 2, .object "java/lang/Object"), (G.2.1 3, .object "RobotCell$Buffer"), (G.2.1 4, .object "RobotCell$Cell$Arm"), (G.2.1 5, .object "java/util/HashMap$Node"), (G.2.1 6, .long), (G.2.1 7, .double)]
/-- words that hold all through a run and don't ride in the list -/
def z_mv (w : Cond) : Bool := match w with
  | .fieldLinkNest _ _ _ _ _ _ => true
  | .methodLinkNest _ _ _ _ => true
  | .castable _ _ => true
  | .declares _ => true
  | _ => false
def z_nw : List Cond := lw_tbl.filter z_mv
theorem z_in {w : Cond} (h : w ∈ lw_tbl) (g : z_mv w = true) : w ∈ z_nw := List.mem_filter.mpr ⟨h, g⟩
theorem z_mv_moved {w : Cond} (h : z_mv w = true) {s U : State} (hW : s.WarmedH U.vm) (hZ : va_Nw w s) : va_Nw w U := by
  cases w <;> first | exact va_Nw.warmF hW hZ | exact va_Nw.warmM hW hZ | exact va_Nw.warmC hW hZ | exact va_Nw.warmD hW hZ | exact absurd h (by simp [z_mv])

