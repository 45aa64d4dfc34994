/-! THE REFERENCE: its methods' weakest preconditions -/
set_option maxRecDepth 100000
-- thrown()I  (P)
def wb_X5_thrown_0 (M : z_M) (Qk : Int32 → Prop) : Prop := Qk (M 0 0)
def wp_X5_thrown (M : z_M) (Qk : Int32 → Prop) : Prop := wb_X5_thrown_0 M Qk
-- has(II)Z  (N)
def wb_X5_has_14 (Qk : Int32 → Prop) (s0 : Int32) : Prop := (s0 = 0 ∨ s0 = 1) ∧ Qk s0
def wb_X5_has_0 (Qk : Int32 → Prop) (x0 : Int32) (x1 : Int32) : Prop := (¬ ((x0 >>> (x1 &&& 31)) &&& 1) = 1 → wb_X5_has_14 Qk 0) ∧ (((x0 >>> (x1 &&& 31)) &&& 1) = 1 → wb_X5_has_14 Qk 1)
def wp_X5_has (x0 : Int32) (x1 : Int32) (Qk : Int32 → Prop) : Prop := wb_X5_has_0 Qk x0 x1
-- locks(IIZ)V  (W)
def wb_X5_locks_69 (Qk : z_M → Prop) (M : z_M) (s0 : Nat) (s1 : Int32) (s2 : Int32) : Prop := vp_in s1 (z_ln s0) ∧ ∀ M4, M4 = z_up M s0 s1.toNatClampNeg s2 → Qk M4
def wb_X5_locks_34 (Qk : z_M → Prop) (M : z_M) (x1 : Int32) (x2 : Int32) (x3 : Int32) (s0 : Nat) (s1 : Int32) (s2 : Int32) : Prop := vp_in s1 (z_ln s0) ∧ ∀ M2, M2 = z_up M s0 s1.toNatClampNeg s2 → (x3 = 0 → vp_in x2 8 ∧ wb_X5_locks_69 Qk M2 1 x2 ((M2 1 x2.toNatClampNeg) &&& ((1 <<< (x1 &&& 31)) ^^^ (-1)))) ∧ (¬ x3 = 0 → vp_in x2 8 ∧ wb_X5_locks_69 Qk M2 1 x2 ((M2 1 x2.toNatClampNeg) ||| (1 <<< (x1 &&& 31))))
def wb_X5_locks_0 (Qk : z_M → Prop) (M : z_M) (x1 : Int32) (x2 : Int32) (x3 : Int32) : Prop := (x3 = 0 → vp_in x1 8 ∧ wb_X5_locks_34 Qk M x1 x2 x3 1 x1 ((M 1 x1.toNatClampNeg) &&& ((1 <<< (x2 &&& 31)) ^^^ (-1)))) ∧ (¬ x3 = 0 → vp_in x1 8 ∧ wb_X5_locks_34 Qk M x1 x2 x3 1 x1 ((M 1 x1.toNatClampNeg) ||| (1 <<< (x2 &&& 31))))
def wp_X5_locks (M : z_M) (x1 : Int32) (x2 : Int32) (x3 : Int32) (Qk : z_M → Prop) : Prop := wb_X5_locks_0 Qk M x1 x2 x3
-- zoneAt(II)I  (P)
def wl_X5_zoneAt_17 (M : z_M) (Qk : Int32 → Prop) : Nat → Int32 → Int32 → Int32 → Prop
  | 0 => fun _ _ _ => False
  | n + 1 => fun x2 x3 x4 => (x4 ≤ x2 → Qk ((x3 - x3 / 10 * 10) - 1)) ∧ (¬ x4 ≤ x2 → ∀ y4 : Int32, y4 = (x3 / 10) → ∀ y5 : Int32, y5 = x4 + (-1) → wl_X5_zoneAt_17 M Qk n x2 y4 y5)
def wb_X5_zoneAt_0 (M : z_M) (Qk : Int32 → Prop) (x1 : Int32) (x2 : Int32) : Prop := vp_in x1 30 ∧ ∀ y1 : Int32, y1 = (M 23 x1.toNatClampNeg) → vp_in x1 30 ∧ ∀ y2 : Int32, y2 = ((M 24 x1.toNatClampNeg) - 1) → ∃ w, wl_X5_zoneAt_17 M Qk w x2 y1 y2
def wp_X5_zoneAt (M : z_M) (x1 : Int32) (x2 : Int32) (Qk : Int32 → Prop) : Prop := wb_X5_zoneAt_0 M Qk x1 x2
-- zoneOf(I)I  (P)
def wb_X5_zoneOf_0 (M : z_M) (Qk : Int32 → Prop) (x1 : Int32) : Prop := vp_in x1 3 ∧ vp_in x1 3 ∧ wp_X5_zoneAt M (M 13 x1.toNatClampNeg) (M 15 x1.toNatClampNeg) (fun r1 => Qk r1)
def wp_X5_zoneOf (M : z_M) (x1 : Int32) (Qk : Int32 → Prop) : Prop := wb_X5_zoneOf_0 M Qk x1
-- holds(I)I  (P)
def wb_X5_holds_55 (M : z_M) (Qk : Int32 → Prop) (s0 : Int32) : Prop := Qk s0
def wb_X5_holds_0 (M : z_M) (Qk : Int32 → Prop) (x1 : Int32) : Prop := vp_in x1 3 ∧ (¬ (M 14 x1.toNatClampNeg) = 0 → wp_X5_zoneOf M x1 (fun r2 => ∀ y4 : Int32, y4 = (1 <<< (r2 &&& 31)) → vp_in x1 3 ∧ (¬ (M 14 x1.toNatClampNeg) = 2 → wb_X5_holds_55 M Qk y4) ∧ ((M 14 x1.toNatClampNeg) = 2 → vp_in x1 3 ∧ vp_in x1 3 ∧ wp_X5_zoneAt M (M 13 x1.toNatClampNeg) ((M 15 x1.toNatClampNeg) + 1) (fun r6 => wb_X5_holds_55 M Qk (y4 ||| (1 <<< (r6 &&& 31))))))) ∧ ((M 14 x1.toNatClampNeg) = 0 → Qk 0)
def wp_X5_holds (M : z_M) (x1 : Int32) (Qk : Int32 → Prop) : Prop := wb_X5_holds_0 M Qk x1
-- holderOf(I)I  (P)
def wl_X5_holderOf_2 (M : z_M) (Qk : Int32 → Prop) : Nat → Int32 → Int32 → Prop
  | 0 => fun _ _ => False
  | n + 1 => fun x1 x2 => (3 ≤ x2 → Qk (-1)) ∧ (¬ 3 ≤ x2 → wp_X5_holds M x2 (fun r2 => wp_X5_has r2 x1 (fun r4 => (r4 = 0 ∨ r4 = 1) → (r4 = 0 → ∀ y6 : Int32, y6 = x2 + 1 → wl_X5_holderOf_2 M Qk n x1 y6) ∧ (¬ r4 = 0 → Qk x2))))
def wb_X5_holderOf_0 (M : z_M) (Qk : Int32 → Prop) (x1 : Int32) : Prop := ∃ w, wl_X5_holderOf_2 M Qk w x1 0
def wp_X5_holderOf (M : z_M) (x1 : Int32) (Qk : Int32 → Prop) : Prop := wb_X5_holderOf_0 M Qk x1
-- isBetween(III)Z  (N)
def wb_X5_isBetween_15 (Qk : Int32 → Prop) (s0 : Int32) : Prop := (s0 = 0 ∨ s0 = 1) ∧ Qk s0
def wb_X5_isBetween_14 (Qk : Int32 → Prop) : Prop := wb_X5_isBetween_15 Qk 0
def wb_X5_isBetween_0 (Qk : Int32 → Prop) (x0 : Int32) (x1 : Int32) (x2 : Int32) : Prop := (x0 < x1 → wb_X5_isBetween_14 Qk) ∧ (¬ x0 < x1 → (x2 < x0 → wb_X5_isBetween_14 Qk) ∧ (¬ x2 < x0 → wb_X5_isBetween_15 Qk 1))
def wp_X5_isBetween (x0 : Int32) (x1 : Int32) (x2 : Int32) (Qk : Int32 → Prop) : Prop := wb_X5_isBetween_0 Qk x0 x1 x2
-- isZone(I)Z  (N)
def wb_X5_isZone_0 (Qk : Int32 → Prop) (x0 : Int32) : Prop := wp_X5_isBetween x0 0 7 (fun r1 => (r1 = 0 ∨ r1 = 1) → (r1 = 0 ∨ r1 = 1) ∧ Qk r1)
def wp_X5_isZone (x0 : Int32) (Qk : Int32 → Prop) : Prop := wb_X5_isZone_0 Qk x0
-- notLocked(IIZ)I  (P)
def wb_X5_notLocked_14 (M : z_M) (Qk : Int32 → Prop) : Prop := Qk 1
def wb_X5_notLocked_76 (M : z_M) (Qk : Int32 → Prop) (s0 : Int32) : Prop := Qk s0
def wb_X5_notLocked_75 (M : z_M) (Qk : Int32 → Prop) : Prop := wb_X5_notLocked_76 M Qk 0
def wb_X5_notLocked_0 (M : z_M) (Qk : Int32 → Prop) (x1 : Int32) (x2 : Int32) (x3 : Int32) : Prop := wp_X5_isZone x1 (fun r1 => (r1 = 0 ∨ r1 = 1) → (r1 = 0 → wb_X5_notLocked_14 M Qk) ∧ (¬ r1 = 0 → wp_X5_isZone x2 (fun r3 => (r3 = 0 ∨ r3 = 1) → (¬ r3 = 0 → (¬ x1 = x2 → wp_X5_holderOf M x1 (fun r6 => wp_X5_holderOf M x2 (fun r8 => (x3 = 0 → wb_X5_notLocked_75 M Qk) ∧ (¬ x3 = 0 → vp_in x1 8 ∧ wp_X5_has (M 1 x1.toNatClampNeg) x2 (fun r11 => (r11 = 0 ∨ r11 = 1) → (¬ r11 = 0 → wb_X5_notLocked_75 M Qk) ∧ (r11 = 0 → (r6 < 0 → wb_X5_notLocked_75 M Qk) ∧ (¬ r6 < 0 → (r8 < 0 → wb_X5_notLocked_75 M Qk) ∧ (¬ r8 < 0 → (r6 = r8 → wb_X5_notLocked_75 M Qk) ∧ (¬ r6 = r8 → wb_X5_notLocked_76 M Qk 3))))))))) ∧ (x1 = x2 → Qk 2)) ∧ (r3 = 0 → wb_X5_notLocked_14 M Qk))))
def wp_X5_notLocked (M : z_M) (x1 : Int32) (x2 : Int32) (x3 : Int32) (Qk : Int32 → Prop) : Prop := wb_X5_notLocked_0 M Qk x1 x2 x3
-- pass(I[I)I  (W)
def wb_X5_pass_17 (Qk : Int32 → z_M → Prop) (M : z_M) (x2 : Nat) (s0 : Int32) : Prop := vp_in (M 60 0) (z_ln x2) ∧ ∀ M2, M2 = z_up M x2 (M 60 0).toNatClampNeg s0 → ∀ M3, M3 = z_us M2 60 ((M2 60 0) + 1) → Qk s0 M3
def wb_X5_pass_0 (Qk : Int32 → z_M → Prop) (M : z_M) (x1 : Int32) (x2 : Nat) : Prop := ((M 62 0) = 0 → vp_in (M 60 0) (z_ln x2) ∧ wb_X5_pass_17 Qk M x2 (M x2 (M 60 0).toNatClampNeg)) ∧ (¬ (M 62 0) = 0 → wb_X5_pass_17 Qk M x2 x1)
def wp_X5_pass (M : z_M) (x1 : Int32) (x2 : Nat) (Qk : Int32 → z_M → Prop) : Prop := wb_X5_pass_0 Qk M x1 x2
-- passes([I[I)V  (W)
def wb_X5_passes_36 (k2 : z_M → Nat → Nat → Int32 → Prop) (Qk : z_M → Prop) (M : z_M) (x1 : Nat) (x2 : Nat) (x3 : Int32) : Prop := ∀ M5, M5 = z_us M 60 ((M 60 0) + 1) → ∀ y6 : Int32, y6 = x3 + 1 → k2 M5 x1 x2 y6
def wl_X5_passes_2 (Qk : z_M → Prop) : Nat → z_M → Nat → Nat → Int32 → Prop
  | 0 => fun _ _ _ _ => False
  | n + 1 => fun M x1 x2 x3 => ((nI (z_ln x1)) ≤ x3 → Qk M) ∧ (¬ (nI (z_ln x1)) ≤ x3 → ((M 62 0) = 0 → vp_in (M 60 0) (z_ln x2) ∧ vp_in x3 (z_ln x1) ∧ ∀ M3, M3 = z_up M x1 x3.toNatClampNeg (M x2 (M 60 0).toNatClampNeg) → wb_X5_passes_36 (wl_X5_passes_2 Qk n) Qk M3 x1 x2 x3) ∧ (¬ (M 62 0) = 0 → vp_in x3 (z_ln x1) ∧ vp_in (M 60 0) (z_ln x2) ∧ ∀ M4, M4 = z_up M x2 (M 60 0).toNatClampNeg (M x1 x3.toNatClampNeg) → wb_X5_passes_36 (wl_X5_passes_2 Qk n) Qk M4 x1 x2 x3))
def wb_X5_passes_0 (Qk : z_M → Prop) (M : z_M) (x1 : Nat) (x2 : Nat) : Prop := ∃ w, wl_X5_passes_2 Qk w M x1 x2 0
def wp_X5_passes (M : z_M) (x1 : Nat) (x2 : Nat) (Qk : z_M → Prop) : Prop := wb_X5_passes_0 Qk M x1 x2
-- passArms([I)V  (W)
def wb_X5_passArms_0 (Qk : z_M → Prop) (M : z_M) (x1 : Nat) : Prop := wp_X5_passes M 10 x1 (fun M2 => wp_X5_passes M2 11 x1 (fun M4 => wp_X5_passes M4 12 x1 (fun M6 => wp_X5_passes M6 13 x1 (fun M8 => wp_X5_passes M8 14 x1 (fun M10 => wp_X5_passes M10 15 x1 (fun M12 => wp_X5_passes M12 16 x1 (fun M14 => wp_X5_passes M14 17 x1 (fun M16 => wp_X5_passes M16 18 x1 (fun M18 => wp_X5_passes M18 19 x1 (fun M20 => wp_X5_passes M20 20 x1 (fun M22 => wp_X5_passes M22 21 x1 (fun M24 => Qk M24))))))))))))
def wp_X5_passArms (M : z_M) (x1 : Nat) (Qk : z_M → Prop) : Prop := wb_X5_passArms_0 Qk M x1
-- passJobs([I)V  (W)
def wb_X5_passJobs_0 (Qk : z_M → Prop) (M : z_M) (x1 : Nat) : Prop := wp_X5_passes M 22 x1 (fun M2 => wp_X5_passes M2 23 x1 (fun M4 => wp_X5_passes M4 24 x1 (fun M6 => wp_X5_passes M6 25 x1 (fun M8 => wp_X5_passes M8 26 x1 (fun M10 => wp_X5_passes M10 27 x1 (fun M12 => wp_X5_passes M12 28 x1 (fun M14 => wp_X5_passes M14 29 x1 (fun M16 => wp_X5_passes M16 30 x1 (fun M18 => wp_X5_passes M18 31 x1 (fun M20 => Qk M20))))))))))
def wp_X5_passJobs (M : z_M) (x1 : Nat) (Qk : z_M → Prop) : Prop := wb_X5_passJobs_0 Qk M x1
-- passAll([IIZ)V  (W)
def wb_X5_passAll_0 (Qk : z_M → Prop) (M : z_M) (x1 : Nat) (x2 : Int32) (x3 : Int32) : Prop := (x3 = 0 ∨ x3 = 1) ∧ ∀ M1, M1 = z_us M 62 x3 → ∀ M2, M2 = z_us M1 60 x2 → wp_X5_passes M2 1 x1 (fun M4 => wp_X5_passes M4 2 x1 (fun M6 => wp_X5_passes M6 3 x1 (fun M8 => wp_X5_passes M8 4 x1 (fun M10 => wp_X5_passes M10 5 x1 (fun M12 => wp_X5_passes M12 6 x1 (fun M14 => wp_X5_passes M14 7 x1 (fun M16 => wp_X5_passes M16 8 x1 (fun M18 => wp_X5_passes M18 9 x1 (fun M20 => wp_X5_passArms M20 x1 (fun M22 => wp_X5_passJobs M22 x1 (fun M24 => wp_X5_passes M24 32 x1 (fun M26 => wp_X5_pass M26 (M26 33 0) x1 (fun r27 M28 => ∀ M29, M29 = z_us M28 33 r27 → wp_X5_pass M29 (M29 34 0) x1 (fun r30 M31 => ∀ M32, M32 = z_us M31 34 r30 → wp_X5_pass M32 (M32 35 0) x1 (fun r33 M34 => ∀ M35, M35 = z_us M34 35 r33 → wp_X5_pass M35 (M35 36 0) x1 (fun r36 M37 => ∀ M38, M38 = z_us M37 36 r36 → wp_X5_pass M38 (M38 37 0) x1 (fun r39 M40 => ∀ M41, M41 = z_us M40 37 r39 → wp_X5_pass M41 (M41 38 0) x1 (fun r42 M43 => ∀ M44, M44 = z_us M43 38 r42 → wp_X5_pass M44 (M44 39 0) x1 (fun r45 M46 => ∀ M47, M47 = z_us M46 39 r45 → wp_X5_pass M47 (M47 40 0) x1 (fun r48 M49 => ∀ M50, M50 = z_us M49 40 r48 → Qk M50))))))))))))))))))))
def wp_X5_passAll (M : z_M) (x1 : Nat) (x2 : Int32) (x3 : Int32) (Qk : z_M → Prop) : Prop := wb_X5_passAll_0 Qk M x1 x2 x3
-- remembers()V  (W)
def wb_X5_remembers_50 (Qk : z_M → Prop) (M : z_M) : Prop := wp_X5_passAll M 55 (573 * (M 59 0)) 1 (fun M7 => ∀ M8, M8 = z_us M7 59 ((M7 59 0) + 1) → Qk M8)
def wl_X5_remembers_11 (Qk : z_M → Prop) : Nat → z_M → Int32 → Prop
  | 0 => fun _ _ => False
  | n + 1 => fun M x1 => (2865 ≤ x1 → ∀ M3, M3 = z_us M 59 ((M 59 0) - 1) → wb_X5_remembers_50 Qk M3) ∧ (¬ 2865 ≤ x1 → vp_in (x1 + 573) 3438 ∧ vp_in x1 3438 ∧ ∀ M4, M4 = z_up M 55 x1.toNatClampNeg (M 55 (x1 + 573).toNatClampNeg) → ∀ y5 : Int32, y5 = x1 + 1 → wl_X5_remembers_11 Qk n M4 y5)
def wb_X5_remembers_0 (Qk : z_M → Prop) (M : z_M) : Prop := (¬ (M 59 0) = 6 → wb_X5_remembers_50 Qk M) ∧ ((M 59 0) = 6 → ∃ w, wl_X5_remembers_11 Qk w M 0)
def wp_X5_remembers (M : z_M) (Qk : z_M → Prop) : Prop := wb_X5_remembers_0 Qk M
-- setInterlock(IIZ)Z  (W)
def wb_X5_setInterlock_0 (Qk : Int32 → z_M → Prop) (M : z_M) (x1 : Int32) (x2 : Int32) (x3 : Int32) : Prop := wp_X5_notLocked M x1 x2 x3 (fun r1 => ∀ M3, M3 = z_us M 0 r1 → ((M3 0 0) ≤ 0 → vp_in x1 8 ∧ wp_X5_has (M3 1 x1.toNatClampNeg) x2 (fun r5 => (r5 = 0 ∨ r5 = 1) → wp_X5_remembers M3 (fun M7 => wp_X5_locks M7 x1 x2 x3 (fun M9 => (r5 = 0 ∨ r5 = 1) ∧ Qk r5 M9)))) ∧ (¬ (M3 0 0) ≤ 0 → Qk 0 M3))
def wp_X5_setInterlock (M : z_M) (x1 : Int32) (x2 : Int32) (x3 : Int32) (Qk : Int32 → z_M → Prop) : Prop := wb_X5_setInterlock_0 Qk M x1 x2 x3
-- fails(I)I  (W)
def wb_X5_fails_0 (Qk : Int32 → z_M → Prop) (M : z_M) (x1 : Int32) : Prop := ∀ M1, M1 = z_us M 0 x1 → Qk 0 M1
def wp_X5_fails (M : z_M) (x1 : Int32) (Qk : Int32 → z_M → Prop) : Prop := wb_X5_fails_0 Qk M x1
-- isArm(I)Z  (N)
def wb_X5_isArm_0 (Qk : Int32 → Prop) (x0 : Int32) : Prop := wp_X5_isBetween x0 0 2 (fun r1 => (r1 = 0 ∨ r1 = 1) → (r1 = 0 ∨ r1 = 1) ∧ Qk r1)
def wp_X5_isArm (x0 : Int32) (Qk : Int32 → Prop) : Prop := wb_X5_isArm_0 Qk x0
-- setReach(II)I  (W)
def wb_X5_setReach_0 (Qk : Int32 → z_M → Prop) (M : z_M) (x1 : Int32) (x2 : Int32) : Prop := wp_X5_isArm x1 (fun r1 => (r1 = 0 ∨ r1 = 1) → (¬ r1 = 0 → wp_X5_isBetween x2 0 255 (fun r3 => (r3 = 0 ∨ r3 = 1) → (¬ r3 = 0 → ∀ M5, M5 = z_us M 0 0 → wp_X5_remembers M5 (fun M7 => vp_in x1 3 ∧ ∀ y8 : Int32, y8 = (M7 10 x1.toNatClampNeg) → vp_in x1 3 ∧ ∀ M9, M9 = z_up M7 10 x1.toNatClampNeg x2 → Qk y8 M9)) ∧ (r3 = 0 → wp_X5_fails M 2 (fun r10 M11 => Qk r10 M11)))) ∧ (r1 = 0 → wp_X5_fails M 1 (fun r12 M13 => Qk r12 M13)))
def wp_X5_setReach (M : z_M) (x1 : Int32) (x2 : Int32) (Qk : Int32 → z_M → Prop) : Prop := wb_X5_setReach_0 Qk M x1 x2
-- isBuffer(I)Z  (N)
def wb_X5_isBuffer_0 (Qk : Int32 → Prop) (x0 : Int32) : Prop := wp_X5_isBetween x0 0 2 (fun r1 => (r1 = 0 ∨ r1 = 1) → (r1 = 0 ∨ r1 = 1) ∧ Qk r1)
def wp_X5_isBuffer (x0 : Int32) (Qk : Int32 → Prop) : Prop := wb_X5_isBuffer_0 Qk x0
-- setCapacity(II)I  (W)
def wb_X5_setCapacity_0 (Qk : Int32 → z_M → Prop) (M : z_M) (x1 : Int32) (x2 : Int32) : Prop := wp_X5_isBuffer x1 (fun r1 => (r1 = 0 ∨ r1 = 1) → (¬ r1 = 0 → wp_X5_isBetween x2 1 4 (fun r3 => (r3 = 0 ∨ r3 = 1) → (¬ r3 = 0 → vp_in x1 3 ∧ vp_in x1 3 ∧ (((M 4 x1.toNatClampNeg) + (M 6 x1.toNatClampNeg)) ≤ x2 → ∀ M6, M6 = z_us M 0 0 → wp_X5_remembers M6 (fun M8 => vp_in x1 3 ∧ ∀ y9 : Int32, y9 = (M8 3 x1.toNatClampNeg) → vp_in x1 3 ∧ ∀ M10, M10 = z_up M8 3 x1.toNatClampNeg x2 → Qk y9 M10)) ∧ (¬ ((M 4 x1.toNatClampNeg) + (M 6 x1.toNatClampNeg)) ≤ x2 → wp_X5_fails M 3 (fun r11 M12 => Qk r11 M12))) ∧ (r3 = 0 → wp_X5_fails M 2 (fun r13 M14 => Qk r13 M14)))) ∧ (r1 = 0 → wp_X5_fails M 1 (fun r15 M16 => Qk r15 M16)))
def wp_X5_setCapacity (M : z_M) (x1 : Int32) (x2 : Int32) (Qk : Int32 → z_M → Prop) : Prop := wb_X5_setCapacity_0 Qk M x1 x2
-- comesPart(II)V  (W)
def wb_X5_comesPart_0 (Qk : z_M → Prop) (M : z_M) (x1 : Int32) (x2 : Int32) : Prop := vp_in x1 3 ∧ vp_in ((4 * x1) + (M 4 x1.toNatClampNeg)) 12 ∧ ∀ M1, M1 = z_up M 5 ((4 * x1) + (M 4 x1.toNatClampNeg)).toNatClampNeg x2 → vp_in x1 3 ∧ vp_in x1 3 ∧ ∀ M2, M2 = z_up M1 4 x1.toNatClampNeg ((M1 4 x1.toNatClampNeg) + 1) → vp_in x1 3 ∧ vp_in x1 3 ∧ ∀ M3, M3 = z_up M2 8 x1.toNatClampNeg ((M2 8 x1.toNatClampNeg) + 1) → Qk M3
def wp_X5_comesPart (M : z_M) (x1 : Int32) (x2 : Int32) (Qk : z_M → Prop) : Prop := wb_X5_comesPart_0 Qk M x1 x2
-- supply(I)I  (W)
def wb_X5_supply_0 (Qk : Int32 → z_M → Prop) (M : z_M) (x1 : Int32) : Prop := wp_X5_isBuffer x1 (fun r1 => (r1 = 0 ∨ r1 = 1) → (¬ r1 = 0 → vp_in x1 3 ∧ vp_in x1 3 ∧ vp_in x1 3 ∧ (((M 4 x1.toNatClampNeg) + (M 6 x1.toNatClampNeg)) < (M 3 x1.toNatClampNeg) → ∀ M4, M4 = z_us M 0 0 → wp_X5_remembers M4 (fun M6 => wp_X5_comesPart M6 x1 (M6 35 0) (fun M8 => ∀ M9, M9 = z_us M8 35 ((M8 35 0) + 1) → Qk ((M9 35 0) - 1) M9))) ∧ (¬ ((M 4 x1.toNatClampNeg) + (M 6 x1.toNatClampNeg)) < (M 3 x1.toNatClampNeg) → wp_X5_fails M 2 (fun r10 M11 => Qk r10 M11))) ∧ (r1 = 0 → wp_X5_fails M 1 (fun r12 M13 => Qk r12 M13)))
def wp_X5_supply (M : z_M) (x1 : Int32) (Qk : Int32 → z_M → Prop) : Prop := wb_X5_supply_0 Qk M x1
-- conflicts(I)I  (P)
def wb_X5_conflicts_0 (M : z_M) (Qk : Int32 → Prop) (x1 : Int32) : Prop := vp_in x1 8 ∧ Qk ((M 1 x1.toNatClampNeg) ||| (1 <<< (x1 &&& 31)))
def wp_X5_conflicts (M : z_M) (x1 : Int32) (Qk : Int32 → Prop) : Prop := wb_X5_conflicts_0 M Qk x1
-- zone(II)I  (W)
def wb_X5_zone_112 (k83 : z_M → Int32 → Int32 → Int32 → Prop) (Qk : Int32 → z_M → Prop) (M : z_M) (x1 : Int32) (x4 : Int32) (s0 : Int32) (s1 : Int32) : Prop := ∀ y18 : Int32, y18 = (s0 ||| s1) → ∀ y19 : Int32, y19 = x4 + 1 → k83 M x1 y18 y19
def wl_X5_zone_83 (Qk : Int32 → z_M → Prop) : Nat → z_M → Int32 → Int32 → Int32 → Prop
  | 0 => fun _ _ _ _ => False
  | n + 1 => fun M x1 x3 x4 => (3 ≤ x4 → Qk x3 M) ∧ (¬ 3 ≤ x4 → vp_in x4 3 ∧ wp_X5_has (M 10 x4.toNatClampNeg) x1 (fun r16 => (r16 = 0 ∨ r16 = 1) → (r16 = 0 → wb_X5_zone_112 (wl_X5_zone_83 Qk n) Qk M x1 x4 x3 0) ∧ (¬ r16 = 0 → wb_X5_zone_112 (wl_X5_zone_83 Qk n) Qk M x1 x4 x3 (1 <<< (x4 &&& 31)))))
def wb_X5_zone_155 (k125 : z_M → Int32 → Int32 → Int32 → Prop) (Qk : Int32 → z_M → Prop) (M : z_M) (x1 : Int32) (x4 : Int32) (s0 : Int32) (s1 : Int32) : Prop := ∀ y26 : Int32, y26 = (s0 ||| s1) → ∀ y27 : Int32, y27 = x4 + 1 → k125 M x1 y26 y27
def wl_X5_zone_125 (Qk : Int32 → z_M → Prop) : Nat → z_M → Int32 → Int32 → Int32 → Prop
  | 0 => fun _ _ _ _ => False
  | n + 1 => fun M x1 x3 x4 => (3 ≤ x4 → Qk x3 M) ∧ (¬ 3 ≤ x4 → wp_X5_holds M x4 (fun r21 => wp_X5_conflicts M x1 (fun r23 => ((r21 &&& r23) = 0 → wb_X5_zone_155 (wl_X5_zone_125 Qk n) Qk M x1 x4 x3 0) ∧ (¬ (r21 &&& r23) = 0 → wb_X5_zone_155 (wl_X5_zone_125 Qk n) Qk M x1 x4 x3 (1 <<< (x4 &&& 31))))))
def wb_X5_zone_0 (Qk : Int32 → z_M → Prop) (M : z_M) (x1 : Int32) (x2 : Int32) : Prop := wp_X5_isZone x1 (fun r1 => (r1 = 0 ∨ r1 = 1) → (¬ r1 = 0 → wp_X5_isBetween x2 0 4 (fun r3 => (r3 = 0 ∨ r3 = 1) → (¬ r3 = 0 → ∀ M5, M5 = z_us M 0 0 → (x2 = 0 → wp_X5_holderOf M5 x1 (fun r7 => Qk r7 M5)) ∧ (x2 = 1 → wp_X5_conflicts M5 x1 (fun r9 => Qk r9 M5)) ∧ (x2 = 2 → ∃ w, wl_X5_zone_83 Qk w M5 x1 0 0) ∧ (x2 = 3 → ∃ w, wl_X5_zone_125 Qk w M5 x1 0 0) ∧ (¬ x2 = 0 → ¬ x2 = 1 → ¬ x2 = 2 → ¬ x2 = 3 → vp_in x1 8 ∧ Qk (M5 2 x1.toNatClampNeg) M5)) ∧ (r3 = 0 → wp_X5_fails M 2 (fun r11 M12 => Qk r11 M12)))) ∧ (r1 = 0 → wp_X5_fails M 1 (fun r13 M14 => Qk r13 M14)))
def wp_X5_zone (M : z_M) (x1 : Int32) (x2 : Int32) (Qk : Int32 → z_M → Prop) : Prop := wb_X5_zone_0 Qk M x1 x2
-- buffer(II)I  (W)
def wb_X5_buffer_0 (Qk : Int32 → z_M → Prop) (M : z_M) (x1 : Int32) (x2 : Int32) : Prop := wp_X5_isBuffer x1 (fun r1 => (r1 = 0 ∨ r1 = 1) → (¬ r1 = 0 → wp_X5_isBetween x2 0 5 (fun r3 => (r3 = 0 ∨ r3 = 1) → (¬ r3 = 0 → ∀ M5, M5 = z_us M 0 0 → (x2 = 0 → vp_in x1 3 ∧ Qk (M5 3 x1.toNatClampNeg) M5) ∧ (x2 = 1 → vp_in x1 3 ∧ Qk (M5 4 x1.toNatClampNeg) M5) ∧ (x2 = 2 → vp_in x1 3 ∧ Qk (M5 6 x1.toNatClampNeg) M5) ∧ (x2 = 3 → vp_in x1 3 ∧ Qk (M5 7 x1.toNatClampNeg) M5) ∧ (x2 = 4 → vp_in x1 3 ∧ Qk (M5 8 x1.toNatClampNeg) M5) ∧ (¬ x2 = 0 → ¬ x2 = 1 → ¬ x2 = 2 → ¬ x2 = 3 → ¬ x2 = 4 → vp_in x1 3 ∧ Qk (M5 9 x1.toNatClampNeg) M5)) ∧ (r3 = 0 → wp_X5_fails M 2 (fun r7 M8 => Qk r7 M8)))) ∧ (r1 = 0 → wp_X5_fails M 1 (fun r9 M10 => Qk r9 M10)))
def wp_X5_buffer (M : z_M) (x1 : Int32) (x2 : Int32) (Qk : Int32 → z_M → Prop) : Prop := wb_X5_buffer_0 Qk M x1 x2
-- part(II)I  (W)
def wb_X5_part_0 (Qk : Int32 → z_M → Prop) (M : z_M) (x1 : Int32) (x2 : Int32) : Prop := wp_X5_isBuffer x1 (fun r1 => (r1 = 0 ∨ r1 = 1) → (¬ r1 = 0 → vp_in x1 3 ∧ wp_X5_isBetween x2 0 ((M 4 x1.toNatClampNeg) - 1) (fun r3 => (r3 = 0 ∨ r3 = 1) → (¬ r3 = 0 → ∀ M5, M5 = z_us M 0 0 → vp_in ((4 * x1) + x2) 12 ∧ Qk (M5 5 ((4 * x1) + x2).toNatClampNeg) M5) ∧ (r3 = 0 → wp_X5_fails M 2 (fun r6 M7 => Qk r6 M7)))) ∧ (r1 = 0 → wp_X5_fails M 1 (fun r8 M9 => Qk r8 M9)))
def wp_X5_part (M : z_M) (x1 : Int32) (x2 : Int32) (Qk : Int32 → z_M → Prop) : Prop := wb_X5_part_0 Qk M x1 x2
-- digitsOf(I)I  (N)
def wl_X5_digitsOf_4 (Qk : Int32 → Prop) : Nat → Int32 → Int32 → Prop
  | 0 => fun _ _ => False
  | n + 1 => fun x1 x2 => (x2 ≤ 0 → Qk x1) ∧ (¬ x2 ≤ 0 → ∀ y2 : Int32, y2 = x1 + 1 → ∀ y3 : Int32, y3 = (x2 / 10) → wl_X5_digitsOf_4 Qk n y2 y3)
def wb_X5_digitsOf_0 (Qk : Int32 → Prop) (x0 : Int32) : Prop := ∃ w, wl_X5_digitsOf_4 Qk w 0 x0
def wp_X5_digitsOf (x0 : Int32) (Qk : Int32 → Prop) : Prop := wb_X5_digitsOf_0 Qk x0
-- gives(IIIIII)V  (W)
def wb_X5_gives_0 (Qk : z_M → Prop) (M : z_M) (x1 : Int32) (x2 : Int32) (x3 : Int32) (x4 : Int32) (x5 : Int32) (x6 : Int32) : Prop := vp_in (M 34 0) 30 ∧ ∀ M1, M1 = z_up M 22 (M 34 0).toNatClampNeg x1 → vp_in (M1 34 0) 30 ∧ ∀ M2, M2 = z_up M1 23 (M1 34 0).toNatClampNeg x2 → wp_X5_digitsOf x2 (fun r3 => vp_in (M2 34 0) 30 ∧ ∀ M4, M4 = z_up M2 24 (M2 34 0).toNatClampNeg r3 → vp_in (M4 34 0) 30 ∧ ∀ M5, M5 = z_up M4 25 (M4 34 0).toNatClampNeg x3 → vp_in (M5 34 0) 30 ∧ ∀ M6, M6 = z_up M5 26 (M5 34 0).toNatClampNeg x4 → vp_in (M6 34 0) 30 ∧ ∀ M7, M7 = z_up M6 27 (M6 34 0).toNatClampNeg x5 → vp_in (M7 34 0) 30 ∧ ∀ M8, M8 = z_up M7 28 (M7 34 0).toNatClampNeg x6 → vp_in (M8 34 0) 30 ∧ ∀ M9, M9 = z_up M8 29 (M8 34 0).toNatClampNeg 0 → vp_in (M9 34 0) 30 ∧ ∀ M10, M10 = z_up M9 30 (M9 34 0).toNatClampNeg (-1) → vp_in (M10 34 0) 30 ∧ ∀ M11, M11 = z_up M10 31 (M10 34 0).toNatClampNeg (-1) → vp_in x1 3 ∧ vp_in ((30 * x1) + (M11 11 x1.toNatClampNeg)) 90 ∧ ∀ M12, M12 = z_up M11 12 ((30 * x1) + (M11 11 x1.toNatClampNeg)).toNatClampNeg (M11 34 0) → vp_in x1 3 ∧ vp_in x1 3 ∧ ∀ M13, M13 = z_up M12 11 x1.toNatClampNeg ((M12 11 x1.toNatClampNeg) + 1) → ∀ M14, M14 = z_us M13 34 ((M13 34 0) + 1) → Qk M14)
def wp_X5_gives (M : z_M) (x1 : Int32) (x2 : Int32) (x3 : Int32) (x4 : Int32) (x5 : Int32) (x6 : Int32) (Qk : z_M → Prop) : Prop := wb_X5_gives_0 Qk M x1 x2 x3 x4 x5 x6
-- setOf(I)I  (N)
def wb_X5_setOf_12 (Qk : Int32 → Prop) : Prop := Qk (-1)
def wb_X5_setOf_47 (Qk : Int32 → Prop) : Prop := Qk (-1)
def wl_X5_setOf_20 (Qk : Int32 → Prop) : Nat → Int32 → Int32 → Int32 → Prop
  | 0 => fun _ _ _ => False
  | n + 1 => fun x1 x2 x3 => (x3 ≤ 0 → Qk x1) ∧ (¬ x3 ≤ 0 → ∀ y5 : Int32, y5 = (x3 - x3 / 10 * 10) → wp_X5_isBetween y5 1 8 (fun r6 => (r6 = 0 ∨ r6 = 1) → (r6 = 0 → wb_X5_setOf_47 Qk) ∧ (¬ r6 = 0 → (¬ y5 = x2 → ∀ y9 : Int32, y9 = (x1 ||| (1 <<< ((y5 - 1) &&& 31))) → ∀ y10 : Int32, y10 = (x3 / 10) → wl_X5_setOf_20 Qk n y9 y5 y10) ∧ (y5 = x2 → wb_X5_setOf_47 Qk))))
def wb_X5_setOf_0 (Qk : Int32 → Prop) (x0 : Int32) : Prop := (x0 ≤ 0 → wb_X5_setOf_12 Qk) ∧ (¬ x0 ≤ 0 → wp_X5_digitsOf x0 (fun r2 => (r2 ≤ 5 → ∃ w, wl_X5_setOf_20 Qk w 0 (-1) x0) ∧ (¬ r2 ≤ 5 → wb_X5_setOf_12 Qk)))
def wp_X5_setOf (x0 : Int32) (Qk : Int32 → Prop) : Prop := wb_X5_setOf_0 Qk x0
-- notGiven(IIIIII)I  (P)
def wb_X5_notGiven_35 (M : z_M) (Qk : Int32 → Prop) : Prop := Qk 1
def wb_X5_notGiven_69 (M : z_M) (Qk : Int32 → Prop) : Prop := Qk 2
def wb_X5_notGiven_101 (M : z_M) (Qk : Int32 → Prop) (s0 : Int32) : Prop := Qk s0
def wb_X5_notGiven_37 (M : z_M) (Qk : Int32 → Prop) (x1 : Int32) (x2 : Int32) (x3 : Int32) (x4 : Int32) : Prop := wp_X5_setOf x2 (fun r9 => (r9 < 0 → wb_X5_notGiven_69 M Qk) ∧ (¬ r9 < 0 → wp_X5_isBetween x3 1 9 (fun r11 => (r11 = 0 ∨ r11 = 1) → (r11 = 0 → wb_X5_notGiven_69 M Qk) ∧ (¬ r11 = 0 → wp_X5_isBetween x4 0 9 (fun r13 => (r13 = 0 ∨ r13 = 1) → (¬ r13 = 0 → vp_in x1 3 ∧ ((r9 &&& ((M 10 x1.toNatClampNeg) ^^^ (-1))) = 0 → (¬ (M 34 0) = 30 → wb_X5_notGiven_101 M Qk 0) ∧ ((M 34 0) = 30 → wb_X5_notGiven_101 M Qk 4)) ∧ (¬ (r9 &&& ((M 10 x1.toNatClampNeg) ^^^ (-1))) = 0 → Qk 3)) ∧ (r13 = 0 → wb_X5_notGiven_69 M Qk))))))
def wb_X5_notGiven_21 (M : z_M) (Qk : Int32 → Prop) (x1 : Int32) (x2 : Int32) (x3 : Int32) (x4 : Int32) (x6 : Int32) : Prop := (x6 = (-1) → wb_X5_notGiven_37 M Qk x1 x2 x3 x4) ∧ (¬ x6 = (-1) → wp_X5_isBuffer x6 (fun r7 => (r7 = 0 ∨ r7 = 1) → (¬ r7 = 0 → wb_X5_notGiven_37 M Qk x1 x2 x3 x4) ∧ (r7 = 0 → wb_X5_notGiven_35 M Qk)))
def wb_X5_notGiven_0 (M : z_M) (Qk : Int32 → Prop) (x1 : Int32) (x2 : Int32) (x3 : Int32) (x4 : Int32) (x5 : Int32) (x6 : Int32) : Prop := wp_X5_isArm x1 (fun r1 => (r1 = 0 ∨ r1 = 1) → (r1 = 0 → wb_X5_notGiven_35 M Qk) ∧ (¬ r1 = 0 → (x5 = (-1) → wb_X5_notGiven_21 M Qk x1 x2 x3 x4 x6) ∧ (¬ x5 = (-1) → wp_X5_isBuffer x5 (fun r4 => (r4 = 0 ∨ r4 = 1) → (r4 = 0 → wb_X5_notGiven_35 M Qk) ∧ (¬ r4 = 0 → wb_X5_notGiven_21 M Qk x1 x2 x3 x4 x6)))))
def wp_X5_notGiven (M : z_M) (x1 : Int32) (x2 : Int32) (x3 : Int32) (x4 : Int32) (x5 : Int32) (x6 : Int32) (Qk : Int32 → Prop) : Prop := wb_X5_notGiven_0 M Qk x1 x2 x3 x4 x5 x6
-- give(IIIIII)I  (W)
def wb_X5_give_0 (Qk : Int32 → z_M → Prop) (M : z_M) (x1 : Int32) (x2 : Int32) (x3 : Int32) (x4 : Int32) (x5 : Int32) (x6 : Int32) : Prop := wp_X5_notGiven M x1 x2 x3 x4 x5 x6 (fun r1 => ∀ M3, M3 = z_us M 0 r1 → ((M3 0 0) ≤ 0 → wp_X5_remembers M3 (fun M6 => wp_X5_gives M6 x1 x2 x3 x4 x5 x6 (fun M8 => Qk ((M8 34 0) - 1) M8))) ∧ (¬ (M3 0 0) ≤ 0 → Qk 0 M3))
def wp_X5_give (M : z_M) (x1 : Int32) (x2 : Int32) (x3 : Int32) (x4 : Int32) (x5 : Int32) (x6 : Int32) (Qk : Int32 → z_M → Prop) : Prop := wb_X5_give_0 Qk M x1 x2 x3 x4 x5 x6
-- withdraw(I)I  (W)
def wb_X5_withdraw_0 (Qk : Int32 → z_M → Prop) (M : z_M) (x1 : Int32) : Prop := wp_X5_isArm x1 (fun r1 => (r1 = 0 ∨ r1 = 1) → (¬ r1 = 0 → vp_in x1 3 ∧ (¬ (M 11 x1.toNatClampNeg) = 0 → ∀ M4, M4 = z_us M 0 0 → wp_X5_remembers M4 (fun M6 => vp_in x1 3 ∧ vp_in x1 3 ∧ ∀ M7, M7 = z_up M6 11 x1.toNatClampNeg ((M6 11 x1.toNatClampNeg) - 1) → vp_in x1 3 ∧ vp_in ((30 * x1) + (M7 11 x1.toNatClampNeg)) 90 ∧ ∀ y8 : Int32, y8 = (M7 12 ((30 * x1) + (M7 11 x1.toNatClampNeg)).toNatClampNeg) → vp_in y8 30 ∧ ∀ M9, M9 = z_up M7 29 y8.toNatClampNeg 3 → ∀ M10, M10 = z_us M9 38 ((M9 38 0) + 1) → Qk y8 M10)) ∧ ((M 11 x1.toNatClampNeg) = 0 → wp_X5_fails M 2 (fun r11 M12 => Qk r11 M12))) ∧ (r1 = 0 → wp_X5_fails M 1 (fun r13 M14 => Qk r13 M14)))
def wp_X5_withdraw (M : z_M) (x1 : Int32) (Qk : Int32 → z_M → Prop) : Prop := wb_X5_withdraw_0 Qk M x1
-- isJob(I)Z  (P)
def wb_X5_isJob_17 (M : z_M) (Qk : Int32 → Prop) (s0 : Int32) : Prop := (s0 = 0 ∨ s0 = 1) ∧ Qk s0
def wb_X5_isJob_16 (M : z_M) (Qk : Int32 → Prop) : Prop := wb_X5_isJob_17 M Qk 0
def wb_X5_isJob_0 (M : z_M) (Qk : Int32 → Prop) (x1 : Int32) : Prop := (x1 < 0 → wb_X5_isJob_16 M Qk) ∧ (¬ x1 < 0 → ((M 34 0) ≤ x1 → wb_X5_isJob_16 M Qk) ∧ (¬ (M 34 0) ≤ x1 → wb_X5_isJob_17 M Qk 1))
def wp_X5_isJob (M : z_M) (x1 : Int32) (Qk : Int32 → Prop) : Prop := wb_X5_isJob_0 M Qk x1
-- job(II)I  (W)
def wb_X5_job_0 (Qk : Int32 → z_M → Prop) (M : z_M) (x1 : Int32) (x2 : Int32) : Prop := wp_X5_isJob M x1 (fun r1 => (r1 = 0 ∨ r1 = 1) → (¬ r1 = 0 → wp_X5_isBetween x2 0 8 (fun r4 => (r4 = 0 ∨ r4 = 1) → (¬ r4 = 0 → ∀ M6, M6 = z_us M 0 0 → (x2 = 0 → vp_in x1 30 ∧ Qk (M6 22 x1.toNatClampNeg) M6) ∧ (x2 = 1 → vp_in x1 30 ∧ Qk (M6 23 x1.toNatClampNeg) M6) ∧ (x2 = 2 → vp_in x1 30 ∧ Qk (M6 25 x1.toNatClampNeg) M6) ∧ (x2 = 3 → vp_in x1 30 ∧ Qk (M6 26 x1.toNatClampNeg) M6) ∧ (x2 = 4 → vp_in x1 30 ∧ Qk (M6 27 x1.toNatClampNeg) M6) ∧ (x2 = 5 → vp_in x1 30 ∧ Qk (M6 28 x1.toNatClampNeg) M6) ∧ (x2 = 6 → vp_in x1 30 ∧ Qk (M6 29 x1.toNatClampNeg) M6) ∧ (x2 = 7 → vp_in x1 30 ∧ Qk (M6 30 x1.toNatClampNeg) M6) ∧ (¬ x2 = 0 → ¬ x2 = 1 → ¬ x2 = 2 → ¬ x2 = 3 → ¬ x2 = 4 → ¬ x2 = 5 → ¬ x2 = 6 → ¬ x2 = 7 → vp_in x1 30 ∧ Qk (M6 31 x1.toNatClampNeg) M6)) ∧ (r4 = 0 → wp_X5_fails M 2 (fun r8 M9 => Qk r8 M9)))) ∧ (r1 = 0 → wp_X5_fails M 1 (fun r10 M11 => Qk r10 M11)))
def wp_X5_job (M : z_M) (x1 : Int32) (x2 : Int32) (Qk : Int32 → z_M → Prop) : Prop := wb_X5_job_0 Qk M x1 x2
-- arm(II)I  (W)
def wb_X5_arm_130 (Qk : Int32 → z_M → Prop) (M : z_M) (s0 : Int32) : Prop := Qk s0 M
def wb_X5_arm_0 (Qk : Int32 → z_M → Prop) (M : z_M) (x1 : Int32) (x2 : Int32) : Prop := wp_X5_isArm x1 (fun r1 => (r1 = 0 ∨ r1 = 1) → (¬ r1 = 0 → wp_X5_isBetween x2 0 9 (fun r3 => (r3 = 0 ∨ r3 = 1) → (¬ r3 = 0 → ∀ M5, M5 = z_us M 0 0 → (x2 = 0 → vp_in x1 3 ∧ Qk (M5 10 x1.toNatClampNeg) M5) ∧ (x2 = 1 → vp_in x1 3 ∧ Qk (M5 14 x1.toNatClampNeg) M5) ∧ (x2 = 2 → vp_in x1 3 ∧ Qk (M5 13 x1.toNatClampNeg) M5) ∧ (x2 = 3 → vp_in x1 3 ∧ Qk (M5 11 x1.toNatClampNeg) M5) ∧ (x2 = 4 → vp_in x1 3 ∧ (¬ (M5 14 x1.toNatClampNeg) = 0 → wp_X5_zoneOf M5 x1 (fun r8 => wb_X5_arm_130 Qk M5 r8)) ∧ ((M5 14 x1.toNatClampNeg) = 0 → wb_X5_arm_130 Qk M5 (-1))) ∧ (x2 = 5 → vp_in x1 3 ∧ Qk (M5 16 x1.toNatClampNeg) M5) ∧ (x2 = 6 → vp_in x1 3 ∧ Qk (M5 17 x1.toNatClampNeg) M5) ∧ (x2 = 7 → wp_X5_holds M5 x1 (fun r10 => Qk r10 M5)) ∧ (x2 = 8 → vp_in x1 3 ∧ Qk (M5 20 x1.toNatClampNeg) M5) ∧ (¬ x2 = 0 → ¬ x2 = 1 → ¬ x2 = 2 → ¬ x2 = 3 → ¬ x2 = 4 → ¬ x2 = 5 → ¬ x2 = 6 → ¬ x2 = 7 → ¬ x2 = 8 → vp_in x1 3 ∧ Qk (M5 21 x1.toNatClampNeg) M5)) ∧ (r3 = 0 → wp_X5_fails M 2 (fun r12 M13 => Qk r12 M13)))) ∧ (r1 = 0 → wp_X5_fails M 1 (fun r14 M15 => Qk r14 M15)))
def wp_X5_arm (M : z_M) (x1 : Int32) (x2 : Int32) (Qk : Int32 → z_M → Prop) : Prop := wb_X5_arm_0 Qk M x1 x2
-- waiting(II)I  (W)
def wb_X5_waiting_23 (Qk : Int32 → z_M → Prop) (M : z_M) : Prop := wp_X5_fails M 1 (fun r6 M7 => Qk r6 M7)
def wb_X5_waiting_0 (Qk : Int32 → z_M → Prop) (M : z_M) (x1 : Int32) (x2 : Int32) : Prop := wp_X5_isArm x1 (fun r1 => (r1 = 0 ∨ r1 = 1) → (r1 = 0 → wb_X5_waiting_23 Qk M) ∧ (¬ r1 = 0 → vp_in x1 3 ∧ wp_X5_isBetween x2 0 ((M 11 x1.toNatClampNeg) - 1) (fun r3 => (r3 = 0 ∨ r3 = 1) → (¬ r3 = 0 → ∀ M5, M5 = z_us M 0 0 → vp_in ((30 * x1) + x2) 90 ∧ Qk (M5 12 ((30 * x1) + x2).toNatClampNeg) M5) ∧ (r3 = 0 → wb_X5_waiting_23 Qk M))))
def wp_X5_waiting (M : z_M) (x1 : Int32) (x2 : Int32) (Qk : Int32 → z_M → Prop) : Prop := wb_X5_waiting_0 Qk M x1 x2
-- firstPartOf(I)I  (W)
def wl_X5_firstPartOf_21 (Qk : Int32 → z_M → Prop) : Nat → z_M → Int32 → Int32 → Int32 → Prop
  | 0 => fun _ _ _ _ => False
  | n + 1 => fun M x1 x2 x3 => vp_in x1 3 ∧ ((M 4 x1.toNatClampNeg) ≤ x3 → vp_in x1 3 ∧ vp_in x1 3 ∧ ∀ M4, M4 = z_up M 7 x1.toNatClampNeg ((M 7 x1.toNatClampNeg) - 1) → vp_in x1 3 ∧ vp_in x1 3 ∧ ∀ M5, M5 = z_up M4 9 x1.toNatClampNeg ((M4 9 x1.toNatClampNeg) + 1) → Qk x2 M5) ∧ (¬ (M 4 x1.toNatClampNeg) ≤ x3 → vp_in (((4 * x1) + x3) + 1) 12 ∧ vp_in ((4 * x1) + x3) 12 ∧ ∀ M6, M6 = z_up M 5 ((4 * x1) + x3).toNatClampNeg (M 5 (((4 * x1) + x3) + 1).toNatClampNeg) → ∀ y7 : Int32, y7 = x3 + 1 → wl_X5_firstPartOf_21 Qk n M6 x1 x2 y7)
def wb_X5_firstPartOf_0 (Qk : Int32 → z_M → Prop) (M : z_M) (x1 : Int32) : Prop := vp_in (4 * x1) 12 ∧ ∀ y1 : Int32, y1 = (M 5 (4 * x1).toNatClampNeg) → vp_in x1 3 ∧ vp_in x1 3 ∧ ∀ M2, M2 = z_up M 4 x1.toNatClampNeg ((M 4 x1.toNatClampNeg) - 1) → ∃ w, wl_X5_firstPartOf_21 Qk w M2 x1 y1 0
def wp_X5_firstPartOf (M : z_M) (x1 : Int32) (Qk : Int32 → z_M → Prop) : Prop := wb_X5_firstPartOf_0 Qk M x1
-- notes(III)V  (W)
def wb_X5_notes_55 (Qk : z_M → Prop) (M : z_M) (x1 : Int32) (x2 : Int32) (x3 : Int32) : Prop := ∀ y6 : Int32, y6 = (4 * (M 40 0)) → vp_in y6 96 ∧ ∀ M7, M7 = z_up M 32 y6.toNatClampNeg (M 33 0) → vp_in (y6 + 1) 96 ∧ ∀ M8, M8 = z_up M7 32 (y6 + 1).toNatClampNeg x1 → vp_in (y6 + 2) 96 ∧ ∀ M9, M9 = z_up M8 32 (y6 + 2).toNatClampNeg x2 → vp_in (y6 + 3) 96 ∧ ∀ M10, M10 = z_up M9 32 (y6 + 3).toNatClampNeg x3 → ∀ M11, M11 = z_us M10 40 ((M10 40 0) + 1) → Qk M11
def wl_X5_notes_22 (Qk : z_M → Prop) : Nat → z_M → Int32 → Int32 → Int32 → Int32 → Prop
  | 0 => fun _ _ _ _ _ => False
  | n + 1 => fun M x1 x2 x3 x4 => ((4 * (M 40 0)) ≤ x4 → wb_X5_notes_55 Qk M x1 x2 x3) ∧ (¬ (4 * (M 40 0)) ≤ x4 → vp_in (x4 + 4) 96 ∧ vp_in x4 96 ∧ ∀ M4, M4 = z_up M 32 x4.toNatClampNeg (M 32 (x4 + 4).toNatClampNeg) → ∀ y5 : Int32, y5 = x4 + 1 → wl_X5_notes_22 Qk n M4 x1 x2 x3 y5)
def wb_X5_notes_0 (Qk : z_M → Prop) (M : z_M) (x1 : Int32) (x2 : Int32) (x3 : Int32) : Prop := (¬ (M 40 0) = 24 → wb_X5_notes_55 Qk M x1 x2 x3) ∧ ((M 40 0) = 24 → ∀ M2, M2 = z_us M 40 ((M 40 0) - 1) → ∃ w, wl_X5_notes_22 Qk w M2 x1 x2 x3 0)
def wp_X5_notes (M : z_M) (x1 : Int32) (x2 : Int32) (x3 : Int32) (Qk : z_M → Prop) : Prop := wb_X5_notes_0 Qk M x1 x2 x3
-- ends(I)V  (W)
def wb_X5_ends_140 (Qk : z_M → Prop) (M : z_M) (s1 : Int32) (s2 : Int32) : Prop := ∀ M22, M22 = z_us M 36 (s1 + s2) → Qk M22
def wb_X5_ends_164 (Qk : z_M → Prop) (M : z_M) (x2 : Int32) (x3 : Int32) : Prop := vp_in x2 30 ∧ vp_in (M 28 x2.toNatClampNeg) 3 ∧ vp_in (M 28 x2.toNatClampNeg) 3 ∧ ∀ M23, M23 = z_up M 6 (M 28 x2.toNatClampNeg).toNatClampNeg ((M 6 (M 28 x2.toNatClampNeg).toNatClampNeg) - 1) → vp_in x2 30 ∧ wp_X5_comesPart M23 (M23 28 x2.toNatClampNeg) x3 (fun M25 => Qk M25)
def wb_X5_ends_116 (Qk : z_M → Prop) (M : z_M) (x2 : Int32) (s0 : Int32) : Prop := vp_in x2 30 ∧ (0 ≤ (M 28 x2.toNatClampNeg) → (0 ≤ s0 → wb_X5_ends_164 Qk M x2 s0) ∧ (¬ 0 ≤ s0 → ∀ y19 : Int32, y19 = (M 35 0) → ∀ M20, M20 = z_us M 35 ((M 35 0) + 1) → wb_X5_ends_164 Qk M20 x2 y19)) ∧ (¬ 0 ≤ (M 28 x2.toNatClampNeg) → (s0 < 0 → wb_X5_ends_140 Qk M (M 36 0) 0) ∧ (¬ s0 < 0 → wb_X5_ends_140 Qk M (M 36 0) 1))
def wb_X5_ends_0 (Qk : z_M → Prop) (M : z_M) (x1 : Int32) : Prop := vp_in x1 3 ∧ ∀ y1 : Int32, y1 = (M 13 x1.toNatClampNeg) → wp_X5_zoneOf M x1 (fun r2 => wp_X5_notes M x1 3 r2 (fun M5 => vp_in x1 3 ∧ ∀ M6, M6 = z_up M5 14 x1.toNatClampNeg 0 → vp_in x1 3 ∧ ∀ M7, M7 = z_up M6 13 x1.toNatClampNeg (-1) → vp_in x1 3 ∧ ∀ M8, M8 = z_up M7 15 x1.toNatClampNeg 0 → vp_in x1 3 ∧ ∀ M9, M9 = z_up M8 16 x1.toNatClampNeg 0 → vp_in y1 30 ∧ ∀ M10, M10 = z_up M9 29 y1.toNatClampNeg 2 → vp_in y1 30 ∧ ∀ M11, M11 = z_up M10 31 y1.toNatClampNeg (M10 33 0) → ∀ M12, M12 = z_us M11 37 ((M11 37 0) + 1) → vp_in y1 30 ∧ ∀ M13, M13 = z_us M12 39 ((M12 39 0) + ((M12 33 0) - (M12 30 y1.toNatClampNeg))) → vp_in y1 30 ∧ ((M13 27 y1.toNatClampNeg) < 0 → wb_X5_ends_116 Qk M13 y1 (-1)) ∧ (¬ (M13 27 y1.toNatClampNeg) < 0 → vp_in y1 30 ∧ wp_X5_firstPartOf M13 (M13 27 y1.toNatClampNeg) (fun r15 M16 => wb_X5_ends_116 Qk M16 y1 r15))))
def wp_X5_ends (M : z_M) (x1 : Int32) (Qk : z_M → Prop) : Prop := wb_X5_ends_0 Qk M x1
-- isBeside(II)Z  (P)
def wb_X5_isBeside_28 (M : z_M) (k5 : Int32 → Int32 → Int32 → Int32 → Prop) (Qk : Int32 → Prop) (x1 : Int32) (x2 : Int32) (x4 : Int32) (s0 : Int32) (s1 : Int32) : Prop := ∀ y6 : Int32, y6 = (s0 ||| s1) → ∀ y7 : Int32, y7 = x4 + 1 → k5 x1 x2 y6 y7
def wb_X5_isBeside_57 (M : z_M) (Qk : Int32 → Prop) (s0 : Int32) : Prop := (s0 = 0 ∨ s0 = 1) ∧ Qk s0
def wl_X5_isBeside_5 (M : z_M) (Qk : Int32 → Prop) : Nat → Int32 → Int32 → Int32 → Int32 → Prop
  | 0 => fun _ _ _ _ => False
  | n + 1 => fun x1 x2 x3 x4 => (3 ≤ x4 → ((x3 &&& ((1 <<< ((x2 + 1) &&& 31)) ||| ((1 <<< (x2 &&& 31)) >>> ((1 : Int32) &&& 31)))) = 0 → wb_X5_isBeside_57 M Qk 0) ∧ (¬ (x3 &&& ((1 <<< ((x2 + 1) &&& 31)) ||| ((1 <<< (x2 &&& 31)) >>> ((1 : Int32) &&& 31)))) = 0 → wb_X5_isBeside_57 M Qk 1)) ∧ (¬ 3 ≤ x4 → (x4 = x1 → wb_X5_isBeside_28 M (wl_X5_isBeside_5 M Qk n) Qk x1 x2 x4 x3 0) ∧ (¬ x4 = x1 → wp_X5_holds M x4 (fun r4 => wb_X5_isBeside_28 M (wl_X5_isBeside_5 M Qk n) Qk x1 x2 x4 x3 r4)))
def wb_X5_isBeside_0 (M : z_M) (Qk : Int32 → Prop) (x1 : Int32) (x2 : Int32) : Prop := ∃ w, wl_X5_isBeside_5 M Qk w x1 x2 0 0
def wp_X5_isBeside (M : z_M) (x1 : Int32) (x2 : Int32) (Qk : Int32 → Prop) : Prop := wb_X5_isBeside_0 M Qk x1 x2
-- findNow()V  (W)
def wb_X5_findNow_56 (k2 : z_M → Int32 → Prop) (Qk : z_M → Prop) (M : z_M) (x1 : Int32) (s0 : Nat) (s1 : Int32) (s2 : Int32) (s3 : Int32) : Prop := vp_in s1 (z_ln s0) ∧ ∀ M7, M7 = z_up M s0 s1.toNatClampNeg (s2 + s3) → ∀ y8 : Int32, y8 = x1 + 1 → k2 M7 y8
def wl_X5_findNow_2 (Qk : z_M → Prop) : Nat → z_M → Int32 → Prop
  | 0 => fun _ _ => False
  | n + 1 => fun M x1 => (3 ≤ x1 → Qk M) ∧ (¬ 3 ≤ x1 → wp_X5_holds M x1 (fun r2 => vp_in x1 3 ∧ ∀ M4, M4 = z_up M 41 x1.toNatClampNeg r2 → vp_in x1 3 ∧ vp_in x1 3 ∧ ∀ M5, M5 = z_up M4 42 x1.toNatClampNeg (M4 13 x1.toNatClampNeg) → vp_in x1 3 ∧ vp_in x1 3 ∧ (¬ (M5 14 x1.toNatClampNeg) = 2 → wb_X5_findNow_56 (wl_X5_findNow_2 Qk n) Qk M5 x1 43 x1 (M5 15 x1.toNatClampNeg) 1) ∧ ((M5 14 x1.toNatClampNeg) = 2 → wb_X5_findNow_56 (wl_X5_findNow_2 Qk n) Qk M5 x1 43 x1 (M5 15 x1.toNatClampNeg) 2)))
def wb_X5_findNow_0 (Qk : z_M → Prop) (M : z_M) : Prop := ∃ w, wl_X5_findNow_2 Qk w M 0
def wp_X5_findNow (M : z_M) (Qk : z_M → Prop) : Prop := wb_X5_findNow_0 Qk M
-- canFinish(I)Z  (P)
def wb_X5_canFinish_34 (M : z_M) (k4 : Int32 → Int32 → Int32 → Prop) (Qk : Int32 → Prop) (x1 : Int32) (x3 : Int32) (s0 : Int32) (s1 : Int32) : Prop := ∀ y5 : Int32, y5 = (s0 ||| s1) → ∀ y6 : Int32, y6 = x3 + 1 → k4 x1 y5 y6
def wb_X5_canFinish_33 (M : z_M) (k4 : Int32 → Int32 → Int32 → Prop) (Qk : Int32 → Prop) (x1 : Int32) (x3 : Int32) (s0 : Int32) : Prop := wb_X5_canFinish_34 M k4 Qk x1 x3 s0 0
def wl_X5_canFinish_49 (M : z_M) (Qk : Int32 → Prop) : Nat → Int32 → Int32 → Int32 → Prop
  | 0 => fun _ _ _ => False
  | n + 1 => fun x1 x2 x3 => vp_in x1 3 ∧ vp_in (M 42 x1.toNatClampNeg) 30 ∧ ((M 24 (M 42 x1.toNatClampNeg).toNatClampNeg) ≤ x3 → Qk 1) ∧ (¬ (M 24 (M 42 x1.toNatClampNeg).toNatClampNeg) ≤ x3 → vp_in x1 3 ∧ wp_X5_zoneAt M (M 42 x1.toNatClampNeg) x3 (fun r8 => wp_X5_conflicts M r8 (fun r10 => ((r10 &&& x2) = 0 → ∀ y13 : Int32, y13 = x3 + 1 → wl_X5_canFinish_49 M Qk n x1 x2 y13) ∧ (¬ (r10 &&& x2) = 0 → Qk 0))))
def wl_X5_canFinish_4 (M : z_M) (Qk : Int32 → Prop) : Nat → Int32 → Int32 → Int32 → Prop
  | 0 => fun _ _ _ => False
  | n + 1 => fun x1 x2 x3 => (3 ≤ x3 → vp_in x1 3 ∧ ∀ y2 : Int32, y2 = (M 43 x1.toNatClampNeg) → ∃ w, wl_X5_canFinish_49 M Qk w x1 x2 y2) ∧ (¬ 3 ≤ x3 → (x3 = x1 → wb_X5_canFinish_33 M (wl_X5_canFinish_4 M Qk n) Qk x1 x3 x2) ∧ (¬ x3 = x1 → vp_in x3 3 ∧ ((M 42 x3.toNatClampNeg) < 0 → wb_X5_canFinish_33 M (wl_X5_canFinish_4 M Qk n) Qk x1 x3 x2) ∧ (¬ (M 42 x3.toNatClampNeg) < 0 → vp_in x3 3 ∧ wb_X5_canFinish_34 M (wl_X5_canFinish_4 M Qk n) Qk x1 x3 x2 (M 41 x3.toNatClampNeg))))
def wb_X5_canFinish_0 (M : z_M) (Qk : Int32 → Prop) (x1 : Int32) : Prop := ∃ w, wl_X5_canFinish_4 M Qk w x1 0 0
def wp_X5_canFinish (M : z_M) (x1 : Int32) (Qk : Int32 → Prop) : Prop := wb_X5_canFinish_0 M Qk x1
-- findStuck()I  (W)
def wb_X5_findStuck_44 (k2 : z_M → Int32 → Prop) (k10 : z_M → Int32 → Int32 → Prop) (Qk : Int32 → z_M → Prop) (M : z_M) (x1 : Int32) (x2 : Int32) : Prop := ∀ y8 : Int32, y8 = x2 + 1 → k10 M x1 y8
def wl_X5_findStuck_10 (k2 : z_M → Int32 → Prop) (Qk : Int32 → z_M → Prop) : Nat → z_M → Int32 → Int32 → Prop
  | 0 => fun _ _ _ => False
  | n + 1 => fun M x1 x2 => (3 ≤ x2 → k2 M x1) ∧ (¬ 3 ≤ x2 → vp_in x2 3 ∧ ((M 42 x2.toNatClampNeg) < 0 → wb_X5_findStuck_44 k2 (wl_X5_findStuck_10 k2 Qk n) Qk M x1 x2) ∧ (¬ (M 42 x2.toNatClampNeg) < 0 → wp_X5_canFinish M x2 (fun r4 => (r4 = 0 ∨ r4 = 1) → (¬ r4 = 0 → vp_in x2 3 ∧ ∀ M7, M7 = z_up M 42 x2.toNatClampNeg (-1) → wb_X5_findStuck_44 k2 (wl_X5_findStuck_10 k2 Qk n) Qk M7 1 x2) ∧ (r4 = 0 → wb_X5_findStuck_44 k2 (wl_X5_findStuck_10 k2 Qk n) Qk M x1 x2))))
def wl_X5_findStuck_55 (Qk : Int32 → z_M → Prop) : Nat → z_M → Int32 → Prop
  | 0 => fun _ _ => False
  | n + 1 => fun M x2 => (3 ≤ x2 → Qk (-1) M) ∧ (¬ 3 ≤ x2 → vp_in x2 3 ∧ ((M 42 x2.toNatClampNeg) < 0 → ∀ y11 : Int32, y11 = x2 + 1 → wl_X5_findStuck_55 Qk n M y11) ∧ (¬ (M 42 x2.toNatClampNeg) < 0 → Qk x2 M))
def wl_X5_findStuck_2 (Qk : Int32 → z_M → Prop) : Nat → z_M → Int32 → Prop
  | 0 => fun _ _ => False
  | n + 1 => fun M x1 => (x1 = 0 → ∃ w, wl_X5_findStuck_55 Qk w M 0) ∧ (¬ x1 = 0 → ∃ w, wl_X5_findStuck_10 (wl_X5_findStuck_2 Qk n) Qk w M 0 0)
def wb_X5_findStuck_0 (Qk : Int32 → z_M → Prop) (M : z_M) : Prop := ∃ w, wl_X5_findStuck_2 Qk w M 1
def wp_X5_findStuck (M : z_M) (Qk : Int32 → z_M → Prop) : Prop := wb_X5_findStuck_0 Qk M
-- reasons(II)I  (W)
def wb_X5_reasons_0 (Qk : Int32 → z_M → Prop) (M : z_M) (x1 : Int32) (x2 : Int32) : Prop := ∀ M1, M1 = z_us M 44 x1 → ∀ M2, M2 = z_us M1 45 x2 → Qk x1 M2
def wp_X5_reasons (M : z_M) (x1 : Int32) (x2 : Int32) (Qk : Int32 → z_M → Prop) : Prop := wb_X5_reasons_0 Qk M x1 x2
-- answers(IIIZ)I  (W)
def wb_X5_answers_141 (k105 : z_M → Int32 → Int32 → Int32 → Int32 → Int32 → Prop) (Qk : Int32 → z_M → Prop) (M : z_M) (x1 : Int32) (x2 : Int32) (x3 : Int32) (x7 : Int32) (x8 : Int32) : Prop := ∀ y36 : Int32, y36 = x8 + 1 → k105 M x1 x2 x3 x7 y36
def wb_X5_answers_207 (Qk : Int32 → z_M → Prop) (M : z_M) (s0 : Int32) : Prop := Qk s0 M
def wl_X5_answers_105 (Qk : Int32 → z_M → Prop) : Nat → z_M → Int32 → Int32 → Int32 → Int32 → Int32 → Prop
  | 0 => fun _ _ _ _ _ _ => False
  | n + 1 => fun M x1 x2 x3 x7 x8 => (3 ≤ x8 → wp_X5_findNow M (fun M17 => vp_in x1 3 ∧ vp_in x1 3 ∧ ∀ M18, M18 = z_up M17 41 x1.toNatClampNeg ((M17 41 x1.toNatClampNeg) ||| (1 <<< (x7 &&& 31))) → vp_in x1 3 ∧ ∀ M19, M19 = z_up M18 42 x1.toNatClampNeg x2 → vp_in x1 3 ∧ ∀ M20, M20 = z_up M19 43 x1.toNatClampNeg (x3 + 1) → wp_X5_findStuck M20 (fun r21 M22 => (0 ≤ r21 → wp_X5_reasons M22 4 r21 (fun r24 M25 => wb_X5_answers_207 Qk M25 r24)) ∧ (¬ 0 ≤ r21 → wp_X5_reasons M22 0 (-1) (fun r26 M27 => wb_X5_answers_207 Qk M27 r26))))) ∧ (¬ 3 ≤ x8 → (x8 = x1 → wb_X5_answers_141 (wl_X5_answers_105 Qk n) Qk M x1 x2 x3 x7 x8) ∧ (¬ x8 = x1 → wp_X5_holds M x8 (fun r29 => wp_X5_conflicts M x7 (fun r31 => ((r29 &&& r31) = 0 → wb_X5_answers_141 (wl_X5_answers_105 Qk n) Qk M x1 x2 x3 x7 x8) ∧ (¬ (r29 &&& r31) = 0 → wp_X5_reasons M 3 x8 (fun r34 M35 => Qk r34 M35))))))
def wb_X5_answers_94 (Qk : Int32 → z_M → Prop) (M : z_M) (x1 : Int32) (x2 : Int32) (x3 : Int32) : Prop := wp_X5_zoneAt M x2 x3 (fun r13 => ∃ w, wl_X5_answers_105 Qk w M x1 x2 x3 r13 0)
def wb_X5_answers_51 (Qk : Int32 → z_M → Prop) (M : z_M) (x1 : Int32) (x2 : Int32) (x3 : Int32) (x4 : Int32) (x6 : Int32) : Prop := (x4 = 0 → wb_X5_answers_94 Qk M x1 x2 x3) ∧ (¬ x4 = 0 → (x6 < 0 → wb_X5_answers_94 Qk M x1 x2 x3) ∧ (¬ x6 < 0 → vp_in x6 3 ∧ vp_in x6 3 ∧ vp_in x6 3 ∧ (((M 4 x6.toNatClampNeg) + (M 6 x6.toNatClampNeg)) < (M 3 x6.toNatClampNeg) → wb_X5_answers_94 Qk M x1 x2 x3) ∧ (¬ ((M 4 x6.toNatClampNeg) + (M 6 x6.toNatClampNeg)) < (M 3 x6.toNatClampNeg) → wp_X5_reasons M 2 x6 (fun r11 M12 => Qk r11 M12))))
def wb_X5_answers_0 (Qk : Int32 → z_M → Prop) (M : z_M) (x1 : Int32) (x2 : Int32) (x3 : Int32) (x4 : Int32) : Prop := vp_in x2 30 ∧ ∀ y1 : Int32, y1 = (M 27 x2.toNatClampNeg) → vp_in x2 30 ∧ ∀ y2 : Int32, y2 = (M 28 x2.toNatClampNeg) → (x4 = 0 → wb_X5_answers_51 Qk M x1 x2 x3 x4 y2) ∧ (¬ x4 = 0 → (y1 < 0 → wb_X5_answers_51 Qk M x1 x2 x3 x4 y2) ∧ (¬ y1 < 0 → vp_in y1 3 ∧ vp_in y1 3 ∧ ((M 7 y1.toNatClampNeg) < (M 4 y1.toNatClampNeg) → wb_X5_answers_51 Qk M x1 x2 x3 x4 y2) ∧ (¬ (M 7 y1.toNatClampNeg) < (M 4 y1.toNatClampNeg) → wp_X5_reasons M 1 y1 (fun r6 M7 => Qk r6 M7))))
def wp_X5_answers (M : z_M) (x1 : Int32) (x2 : Int32) (x3 : Int32) (x4 : Int32) (Qk : Int32 → z_M → Prop) : Prop := wb_X5_answers_0 Qk M x1 x2 x3 x4
-- isGranted(IIIZ)Z  (W)
def wb_X5_isGranted_0 (Qk : Int32 → z_M → Prop) (M : z_M) (x1 : Int32) (x2 : Int32) (x3 : Int32) (x4 : Int32) : Prop := wp_X5_answers M x1 x2 x3 x4 (fun r1 M2 => (¬ r1 = 0 → vp_in x1 3 ∧ ∀ M4, M4 = z_up M2 18 x1.toNatClampNeg (M2 44 0) → vp_in x1 3 ∧ ∀ M5, M5 = z_up M4 19 x1.toNatClampNeg (M4 45 0) → vp_in x1 3 ∧ vp_in x1 3 ∧ ∀ M6, M6 = z_up M5 20 x1.toNatClampNeg ((M5 20 x1.toNatClampNeg) + 1) → ∀ M7, M7 = z_us M6 46 1 → Qk 0 M7) ∧ (r1 = 0 → Qk 1 M2))
def wp_X5_isGranted (M : z_M) (x1 : Int32) (x2 : Int32) (x3 : Int32) (x4 : Int32) (Qk : Int32 → z_M → Prop) : Prop := wb_X5_isGranted_0 Qk M x1 x2 x3 x4
-- requestsNext(I)V  (W)
def wb_X5_requestsNext_90 (Qk : z_M → Prop) (M : z_M) (x1 : Int32) (x3 : Int32) (s0 : Nat) (s1 : Int32) (s2 : Int32) (s3 : Int32) : Prop := vp_in s1 (z_ln s0) ∧ ∀ M13, M13 = z_up M s0 s1.toNatClampNeg (s2 + s3) → wp_X5_notes M13 x1 1 x3 (fun M15 => Qk M15)
def wb_X5_requestsNext_0 (Qk : z_M → Prop) (M : z_M) (x1 : Int32) : Prop := vp_in x1 3 ∧ ∀ y1 : Int32, y1 = (M 13 x1.toNatClampNeg) → vp_in x1 3 ∧ wp_X5_isGranted M x1 y1 ((M 15 x1.toNatClampNeg) + 1) 0 (fun r2 M3 => (r2 = 0 ∨ r2 = 1) → (¬ r2 = 0 → vp_in x1 3 ∧ wp_X5_zoneAt M3 y1 ((M3 15 x1.toNatClampNeg) + 1) (fun r5 => vp_in x1 3 ∧ ∀ M7, M7 = z_up M3 14 x1.toNatClampNeg 2 → vp_in y1 30 ∧ wp_X5_isBeside M7 x1 r5 (fun r8 => (r8 = 0 ∨ r8 = 1) → (r8 = 0 → wb_X5_requestsNext_90 Qk M7 x1 r5 16 x1 (1 + ((M7 26 y1.toNatClampNeg) / 4)) 0) ∧ (¬ r8 = 0 → wb_X5_requestsNext_90 Qk M7 x1 r5 16 x1 (1 + ((M7 26 y1.toNatClampNeg) / 4)) 1)))) ∧ (r2 = 0 → vp_in x1 3 ∧ ∀ M11, M11 = z_up M3 14 x1.toNatClampNeg 3 → vp_in x1 3 ∧ ∀ M12, M12 = z_up M11 16 x1.toNatClampNeg 0 → Qk M12))
def wp_X5_requestsNext (M : z_M) (x1 : Int32) (Qk : z_M → Prop) : Prop := wb_X5_requestsNext_0 Qk M x1
-- works(II)V  (W)
def wb_X5_works_0 (Qk : z_M → Prop) (M : z_M) (x1 : Int32) (x2 : Int32) : Prop := vp_in x1 3 ∧ ∀ M1, M1 = z_up M 14 x1.toNatClampNeg 1 → vp_in x1 3 ∧ ∀ M2, M2 = z_up M1 15 x1.toNatClampNeg x2 → vp_in x1 3 ∧ vp_in (M2 13 x1.toNatClampNeg) 30 ∧ vp_in x1 3 ∧ ∀ M3, M3 = z_up M2 16 x1.toNatClampNeg (M2 25 (M2 13 x1.toNatClampNeg).toNatClampNeg) → Qk M3
def wp_X5_works (M : z_M) (x1 : Int32) (x2 : Int32) (Qk : z_M → Prop) : Prop := wb_X5_works_0 Qk M x1 x2
-- starts(I)V  (W)
def wb_X5_starts_146 (Qk : z_M → Prop) (M : z_M) (x1 : Int32) (x2 : Int32) : Prop := wp_X5_works M x1 0 (fun M17 => wp_X5_zoneAt M17 x2 0 (fun r18 => wp_X5_notes M17 x1 0 r18 (fun M21 => Qk M21)))
def wb_X5_starts_122 (Qk : z_M → Prop) (M : z_M) (x1 : Int32) (x2 : Int32) : Prop := vp_in x2 30 ∧ ((M 28 x2.toNatClampNeg) < 0 → wb_X5_starts_146 Qk M x1 x2) ∧ (¬ (M 28 x2.toNatClampNeg) < 0 → vp_in x2 30 ∧ vp_in (M 28 x2.toNatClampNeg) 3 ∧ vp_in (M 28 x2.toNatClampNeg) 3 ∧ ∀ M15, M15 = z_up M 6 (M 28 x2.toNatClampNeg).toNatClampNeg ((M 6 (M 28 x2.toNatClampNeg).toNatClampNeg) + 1) → wb_X5_starts_146 Qk M15 x1 x2)
def wl_X5_starts_34 (Qk : z_M → Prop) : Nat → z_M → Int32 → Int32 → Int32 → Prop
  | 0 => fun _ _ _ _ => False
  | n + 1 => fun M x1 x2 x3 => vp_in x1 3 ∧ ((M 11 x1.toNatClampNeg) ≤ x3 → vp_in x1 3 ∧ ∀ M7, M7 = z_up M 13 x1.toNatClampNeg x2 → vp_in x2 30 ∧ ∀ M8, M8 = z_up M7 29 x2.toNatClampNeg 1 → vp_in x2 30 ∧ ∀ M9, M9 = z_up M8 30 x2.toNatClampNeg (M8 33 0) → vp_in x2 30 ∧ ((M9 27 x2.toNatClampNeg) < 0 → wb_X5_starts_122 Qk M9 x1 x2) ∧ (¬ (M9 27 x2.toNatClampNeg) < 0 → vp_in x2 30 ∧ vp_in (M9 27 x2.toNatClampNeg) 3 ∧ vp_in (M9 27 x2.toNatClampNeg) 3 ∧ ∀ M11, M11 = z_up M9 7 (M9 27 x2.toNatClampNeg).toNatClampNeg ((M9 7 (M9 27 x2.toNatClampNeg).toNatClampNeg) + 1) → wb_X5_starts_122 Qk M11 x1 x2)) ∧ (¬ (M 11 x1.toNatClampNeg) ≤ x3 → vp_in (((30 * x1) + x3) + 1) 90 ∧ vp_in ((30 * x1) + x3) 90 ∧ ∀ M12, M12 = z_up M 12 ((30 * x1) + x3).toNatClampNeg (M 12 (((30 * x1) + x3) + 1).toNatClampNeg) → ∀ y13 : Int32, y13 = x3 + 1 → wl_X5_starts_34 Qk n M12 x1 x2 y13)
def wb_X5_starts_0 (Qk : z_M → Prop) (M : z_M) (x1 : Int32) : Prop := vp_in (30 * x1) 90 ∧ ∀ y1 : Int32, y1 = (M 12 (30 * x1).toNatClampNeg) → wp_X5_isGranted M x1 y1 0 1 (fun r2 M3 => (r2 = 0 ∨ r2 = 1) → (¬ r2 = 0 → vp_in x1 3 ∧ vp_in x1 3 ∧ ∀ M5, M5 = z_up M3 11 x1.toNatClampNeg ((M3 11 x1.toNatClampNeg) - 1) → ∃ w, wl_X5_starts_34 Qk w M5 x1 y1 0) ∧ (r2 = 0 → Qk M3))
def wp_X5_starts (M : z_M) (x1 : Int32) (Qk : z_M → Prop) : Prop := wb_X5_starts_0 Qk M x1
-- acts(I)V  (W)
def wb_X5_acts_163 (Qk : z_M → Prop) (M : z_M) : Prop := Qk M
def wb_X5_acts_0 (Qk : z_M → Prop) (M : z_M) (x1 : Int32) : Prop := vp_in x1 3 ∧ ((M 14 x1.toNatClampNeg) = 0 → vp_in x1 3 ∧ ((M 11 x1.toNatClampNeg) ≤ 0 → wb_X5_acts_163 Qk M) ∧ (¬ (M 11 x1.toNatClampNeg) ≤ 0 → wp_X5_starts M x1 (fun M4 => wb_X5_acts_163 Qk M4))) ∧ ((M 14 x1.toNatClampNeg) = 1 → vp_in x1 3 ∧ vp_in x1 3 ∧ ∀ M5, M5 = z_up M 16 x1.toNatClampNeg ((M 16 x1.toNatClampNeg) - 1) → vp_in x1 3 ∧ ((M5 16 x1.toNatClampNeg) ≤ 0 → vp_in x1 3 ∧ vp_in x1 3 ∧ vp_in (M5 13 x1.toNatClampNeg) 30 ∧ ((M5 24 (M5 13 x1.toNatClampNeg).toNatClampNeg) ≤ ((M5 15 x1.toNatClampNeg) + 1) → wp_X5_ends M5 x1 (fun M9 => wb_X5_acts_163 Qk M9)) ∧ (¬ (M5 24 (M5 13 x1.toNatClampNeg).toNatClampNeg) ≤ ((M5 15 x1.toNatClampNeg) + 1) → wp_X5_requestsNext M5 x1 (fun M11 => wb_X5_acts_163 Qk M11))) ∧ (¬ (M5 16 x1.toNatClampNeg) ≤ 0 → wb_X5_acts_163 Qk M5)) ∧ ((M 14 x1.toNatClampNeg) = 2 → vp_in x1 3 ∧ vp_in x1 3 ∧ ∀ M12, M12 = z_up M 16 x1.toNatClampNeg ((M 16 x1.toNatClampNeg) - 1) → vp_in x1 3 ∧ ((M12 16 x1.toNatClampNeg) ≤ 0 → wp_X5_zoneOf M12 x1 (fun r14 => wp_X5_notes M12 x1 2 r14 (fun M17 => vp_in x1 3 ∧ wp_X5_works M17 x1 ((M17 15 x1.toNatClampNeg) + 1) (fun M19 => wb_X5_acts_163 Qk M19)))) ∧ (¬ (M12 16 x1.toNatClampNeg) ≤ 0 → wb_X5_acts_163 Qk M12)) ∧ (¬ (M 14 x1.toNatClampNeg) = 0 → ¬ (M 14 x1.toNatClampNeg) = 1 → ¬ (M 14 x1.toNatClampNeg) = 2 → wp_X5_requestsNext M x1 (fun M21 => wb_X5_acts_163 Qk M21))
def wp_X5_acts (M : z_M) (x1 : Int32) (Qk : z_M → Prop) : Prop := wb_X5_acts_0 Qk M x1
-- findTurns()V  (W)
def wb_X5_findTurns_55 (k2 : z_M → Int32 → Prop) (Qk : z_M → Prop) (M : z_M) (x1 : Int32) (x2 : Int32) : Prop := vp_in x2 3 ∧ ∀ M6, M6 = z_up M 47 x2.toNatClampNeg x1 → ∀ y7 : Int32, y7 = x1 + 1 → k2 M6 y7
def wl_X5_findTurns_9 (k2 : z_M → Int32 → Prop) (Qk : z_M → Prop) : Nat → z_M → Int32 → Int32 → Prop
  | 0 => fun _ _ _ => False
  | n + 1 => fun M x1 x2 => (x2 ≤ 0 → wb_X5_findTurns_55 k2 Qk M x1 x2) ∧ (¬ x2 ≤ 0 → vp_in (x2 - 1) 3 ∧ vp_in (M 47 (x2 - 1).toNatClampNeg) 3 ∧ vp_in x1 3 ∧ ((M 17 x1.toNatClampNeg) ≤ (M 17 (M 47 (x2 - 1).toNatClampNeg).toNatClampNeg) → wb_X5_findTurns_55 k2 Qk M x1 x2) ∧ (¬ (M 17 x1.toNatClampNeg) ≤ (M 17 (M 47 (x2 - 1).toNatClampNeg).toNatClampNeg) → vp_in (x2 - 1) 3 ∧ vp_in x2 3 ∧ ∀ M4, M4 = z_up M 47 x2.toNatClampNeg (M 47 (x2 - 1).toNatClampNeg) → ∀ y5 : Int32, y5 = x2 + (-1) → wl_X5_findTurns_9 k2 Qk n M4 x1 y5))
def wl_X5_findTurns_2 (Qk : z_M → Prop) : Nat → z_M → Int32 → Prop
  | 0 => fun _ _ => False
  | n + 1 => fun M x1 => (3 ≤ x1 → Qk M) ∧ (¬ 3 ≤ x1 → ∃ w, wl_X5_findTurns_9 (wl_X5_findTurns_2 Qk n) Qk w M x1 x1)
def wb_X5_findTurns_0 (Qk : z_M → Prop) (M : z_M) : Prop := ∃ w, wl_X5_findTurns_2 Qk w M 0
def wp_X5_findTurns (M : z_M) (Qk : z_M → Prop) : Prop := wb_X5_findTurns_0 Qk M
-- ticks()V  (W)
def wb_X5_ticks_62 (k16 : z_M → Int32 → Prop) (Qk : z_M → Prop) (M : z_M) (x1 : Int32) (s0 : Nat) (s1 : Int32) (s2 : Int32) : Prop := vp_in s1 (z_ln s0) ∧ ∀ M10, M10 = z_up M s0 s1.toNatClampNeg s2 → ∀ y11 : Int32, y11 = x1 + 1 → k16 M10 y11
def wl_X5_ticks_101 (k71 : z_M → Int32 → Prop) (Qk : z_M → Prop) : Nat → z_M → Int32 → Int32 → Prop
  | 0 => fun _ _ _ => False
  | n + 1 => fun M x1 x2 => (8 ≤ x2 → ∀ y16 : Int32, y16 = x1 + 1 → k71 M y16) ∧ (¬ 8 ≤ x2 → vp_in x2 8 ∧ wp_X5_holds M x1 (fun r17 => vp_in x2 8 ∧ ∀ M19, M19 = z_up M 2 x2.toNatClampNeg ((M 2 x2.toNatClampNeg) + ((r17 >>> (x2 &&& 31)) &&& 1)) → ∀ y20 : Int32, y20 = x2 + 1 → wl_X5_ticks_101 k71 Qk n M19 x1 y20))
def wb_X5_ticks_97 (k71 : z_M → Int32 → Prop) (Qk : z_M → Prop) (M : z_M) (x1 : Int32) (s0 : Nat) (s1 : Int32) (s2 : Int32) (s3 : Int32) : Prop := vp_in s1 (z_ln s0) ∧ ∀ M14, M14 = z_up M s0 s1.toNatClampNeg (s2 + s3) → ∃ w, wl_X5_ticks_101 k71 Qk w M14 x1 0
def wl_X5_ticks_71 (Qk : z_M → Prop) : Nat → z_M → Int32 → Prop
  | 0 => fun _ _ => False
  | n + 1 => fun M x1 => (3 ≤ x1 → Qk M) ∧ (¬ 3 ≤ x1 → vp_in x1 3 ∧ vp_in x1 3 ∧ (¬ (M 14 x1.toNatClampNeg) = 0 → wb_X5_ticks_97 (wl_X5_ticks_71 Qk n) Qk M x1 21 x1 (M 21 x1.toNatClampNeg) 1) ∧ ((M 14 x1.toNatClampNeg) = 0 → wb_X5_ticks_97 (wl_X5_ticks_71 Qk n) Qk M x1 21 x1 (M 21 x1.toNatClampNeg) 0))
def wl_X5_ticks_16 (Qk : z_M → Prop) : Nat → z_M → Int32 → Prop
  | 0 => fun _ _ => False
  | n + 1 => fun M x1 => (3 ≤ x1 → ∃ w, wl_X5_ticks_71 Qk w M 0) ∧ (¬ 3 ≤ x1 → vp_in x1 3 ∧ ∀ y5 : Int32, y5 = (M 47 x1.toNatClampNeg) → ∀ M6, M6 = z_us M 46 0 → wp_X5_acts M6 y5 (fun M8 => ((M8 46 0) = 0 → wb_X5_ticks_62 (wl_X5_ticks_16 Qk n) Qk M8 x1 17 y5 0) ∧ (¬ (M8 46 0) = 0 → vp_in y5 3 ∧ wb_X5_ticks_62 (wl_X5_ticks_16 Qk n) Qk M8 x1 17 y5 ((M8 17 y5.toNatClampNeg) + 1))))
def wb_X5_ticks_0 (Qk : z_M → Prop) (M : z_M) : Prop := ∀ M1, M1 = z_us M 33 ((M 33 0) + 1) → wp_X5_findTurns M1 (fun M3 => ∃ w, wl_X5_ticks_16 Qk w M3 0)
def wp_X5_ticks (M : z_M) (Qk : z_M → Prop) : Prop := wb_X5_ticks_0 Qk M
-- tick(I)I  (W)
def wl_X5_tick_32 (Qk : Int32 → z_M → Prop) : Nat → z_M → Int32 → Int32 → Int32 → Prop
  | 0 => fun _ _ _ _ => False
  | n + 1 => fun M x1 x2 x3 => (x1 ≤ x3 → Qk ((M 37 0) - x2) M) ∧ (¬ x1 ≤ x3 → wp_X5_ticks M (fun M11 => ∀ y12 : Int32, y12 = x3 + 1 → wl_X5_tick_32 Qk n M11 x1 x2 y12))
def wb_X5_tick_0 (Qk : Int32 → z_M → Prop) (M : z_M) (x1 : Int32) : Prop := wp_X5_isBetween x1 1 50 (fun r1 => (r1 = 0 ∨ r1 = 1) → (¬ r1 = 0 → ∀ M3, M3 = z_us M 0 0 → wp_X5_remembers M3 (fun M5 => ∀ y6 : Int32, y6 = (M5 37 0) → ∃ w, wl_X5_tick_32 Qk w M5 x1 y6 0)) ∧ (r1 = 0 → wp_X5_fails M 1 (fun r7 M8 => Qk r7 M8)))
def wp_X5_tick (M : z_M) (x1 : Int32) (Qk : Int32 → z_M → Prop) : Prop := wb_X5_tick_0 Qk M x1
-- reason(IZ)I  (W)
def wb_X5_reason_52 (Qk : Int32 → z_M → Prop) (M : z_M) (s0 : Int32) : Prop := Qk s0 M
def wb_X5_reason_0 (Qk : Int32 → z_M → Prop) (M : z_M) (x1 : Int32) (x2 : Int32) : Prop := wp_X5_isArm x1 (fun r1 => (r1 = 0 ∨ r1 = 1) → (¬ r1 = 0 → vp_in x1 3 ∧ (¬ (M 17 x1.toNatClampNeg) = 0 → ∀ M4, M4 = z_us M 0 0 → (x2 = 0 → vp_in x1 3 ∧ wb_X5_reason_52 Qk M4 (M4 18 x1.toNatClampNeg)) ∧ (¬ x2 = 0 → vp_in x1 3 ∧ wb_X5_reason_52 Qk M4 (M4 19 x1.toNatClampNeg))) ∧ ((M 17 x1.toNatClampNeg) = 0 → wp_X5_fails M 2 (fun r6 M7 => Qk r6 M7))) ∧ (r1 = 0 → wp_X5_fails M 1 (fun r8 M9 => Qk r8 M9)))
def wp_X5_reason (M : z_M) (x1 : Int32) (x2 : Int32) (Qk : Int32 → z_M → Prop) : Prop := wb_X5_reason_0 Qk M x1 x2
-- wouldBe(I)I  (W)
def wb_X5_wouldBe_100 (Qk : Int32 → z_M → Prop) (M : z_M) (x1 : Int32) (x2 : Int32) (x3 : Int32) (s0 : Int32) : Prop := vp_in x3 30 ∧ (s0 < (M 24 x3.toNatClampNeg) → ∀ M14, M14 = z_us M 0 0 → wp_X5_answers M14 x1 x3 s0 x2 (fun r15 M16 => Qk r15 M16)) ∧ (¬ s0 < (M 24 x3.toNatClampNeg) → wp_X5_fails M 2 (fun r17 M18 => Qk r17 M18))
def wb_X5_wouldBe_99 (Qk : Int32 → z_M → Prop) (M : z_M) (x1 : Int32) (x2 : Int32) (x3 : Int32) (s0 : Int32) (s1 : Int32) : Prop := wb_X5_wouldBe_100 Qk M x1 x2 x3 (s0 + s1)
def wb_X5_wouldBe_69 (Qk : Int32 → z_M → Prop) (M : z_M) (x1 : Int32) (x2 : Int32) (s0 : Int32) : Prop := (x2 = 0 → vp_in x1 3 ∧ vp_in x1 3 ∧ (¬ (M 14 x1.toNatClampNeg) = 2 → wb_X5_wouldBe_99 Qk M x1 x2 s0 (M 15 x1.toNatClampNeg) 1) ∧ ((M 14 x1.toNatClampNeg) = 2 → wb_X5_wouldBe_99 Qk M x1 x2 s0 (M 15 x1.toNatClampNeg) 2)) ∧ (¬ x2 = 0 → wb_X5_wouldBe_100 Qk M x1 x2 s0 0)
def wb_X5_wouldBe_47 (Qk : Int32 → z_M → Prop) (M : z_M) (x1 : Int32) (x2 : Int32) : Prop := (x2 = 0 → vp_in x1 3 ∧ wb_X5_wouldBe_69 Qk M x1 x2 (M 13 x1.toNatClampNeg)) ∧ (¬ x2 = 0 → vp_in (30 * x1) 90 ∧ wb_X5_wouldBe_69 Qk M x1 x2 (M 12 (30 * x1).toNatClampNeg))
def wb_X5_wouldBe_27 (Qk : Int32 → z_M → Prop) (M : z_M) (x1 : Int32) (s0 : Int32) : Prop := (s0 = 0 → wb_X5_wouldBe_47 Qk M x1 s0) ∧ (¬ s0 = 0 → vp_in x1 3 ∧ (¬ (M 11 x1.toNatClampNeg) = 0 → wb_X5_wouldBe_47 Qk M x1 s0) ∧ ((M 11 x1.toNatClampNeg) = 0 → wp_X5_fails M 2 (fun r8 M9 => Qk r8 M9)))
def wb_X5_wouldBe_0 (Qk : Int32 → z_M → Prop) (M : z_M) (x1 : Int32) : Prop := wp_X5_isArm x1 (fun r1 => (r1 = 0 ∨ r1 = 1) → (¬ r1 = 0 → vp_in x1 3 ∧ (¬ (M 14 x1.toNatClampNeg) = 0 → wb_X5_wouldBe_27 Qk M x1 0) ∧ ((M 14 x1.toNatClampNeg) = 0 → wb_X5_wouldBe_27 Qk M x1 1)) ∧ (r1 = 0 → wp_X5_fails M 1 (fun r4 M5 => Qk r4 M5)))
def wp_X5_wouldBe (M : z_M) (x1 : Int32) (Qk : Int32 → z_M → Prop) : Prop := wb_X5_wouldBe_0 Qk M x1
-- isQuiet()Z  (P)
def wb_X5_isQuiet_25 (M : z_M) (Qk : Int32 → Prop) : Prop := Qk 0
def wl_X5_isQuiet_2 (M : z_M) (Qk : Int32 → Prop) : Nat → Int32 → Prop
  | 0 => fun _ => False
  | n + 1 => fun x1 => (3 ≤ x1 → Qk 1) ∧ (¬ 3 ≤ x1 → vp_in x1 3 ∧ (¬ (M 14 x1.toNatClampNeg) = 0 → wb_X5_isQuiet_25 M Qk) ∧ ((M 14 x1.toNatClampNeg) = 0 → vp_in x1 3 ∧ ((M 11 x1.toNatClampNeg) ≤ 0 → ∀ y4 : Int32, y4 = x1 + 1 → wl_X5_isQuiet_2 M Qk n y4) ∧ (¬ (M 11 x1.toNatClampNeg) ≤ 0 → wb_X5_isQuiet_25 M Qk)))
def wb_X5_isQuiet_0 (M : z_M) (Qk : Int32 → Prop) : Prop := ∃ w, wl_X5_isQuiet_2 M Qk w 0
def wp_X5_isQuiet (M : z_M) (Qk : Int32 → Prop) : Prop := wb_X5_isQuiet_0 M Qk
-- findsEnd(I)I  (W)
def wb_X5_findsEnd_43 (k12 : z_M → Int32 → Int32 → Prop) (Qk : Int32 → z_M → Prop) (M : z_M) (x1 : Int32) (x2 : Int32) : Prop := wp_X5_ticks M (fun M10 => ∀ y11 : Int32, y11 = x2 + 1 → k12 M10 x1 y11)
def wb_X5_findsEnd_53 (Qk : Int32 → z_M → Prop) (M : z_M) (x2 : Int32) : Prop := wp_X5_passAll M 57 0 0 (fun M13 => Qk x2 M13)
def wl_X5_findsEnd_12 (Qk : Int32 → z_M → Prop) : Nat → z_M → Int32 → Int32 → Prop
  | 0 => fun _ _ _ => False
  | n + 1 => fun M x1 x2 => (200 < x2 → wb_X5_findsEnd_53 Qk M x2) ∧ (¬ 200 < x2 → (0 ≤ x1 → vp_in x1 30 ∧ ((M 29 x1.toNatClampNeg) = 2 → wb_X5_findsEnd_53 Qk M x2) ∧ (¬ (M 29 x1.toNatClampNeg) = 2 → wb_X5_findsEnd_43 (wl_X5_findsEnd_12 Qk n) Qk M x1 x2)) ∧ (¬ 0 ≤ x1 → wp_X5_isQuiet M (fun r6 => (r6 = 0 ∨ r6 = 1) → (r6 = 0 → wb_X5_findsEnd_43 (wl_X5_findsEnd_12 Qk n) Qk M x1 x2) ∧ (¬ r6 = 0 → wb_X5_findsEnd_53 Qk M x2))))
def wb_X5_findsEnd_0 (Qk : Int32 → z_M → Prop) (M : z_M) (x1 : Int32) : Prop := wp_X5_passAll M 57 0 1 (fun M2 => ∃ w, wl_X5_findsEnd_12 Qk w M2 x1 0)
def wp_X5_findsEnd (M : z_M) (x1 : Int32) (Qk : Int32 → z_M → Prop) : Prop := wb_X5_findsEnd_0 Qk M x1
-- endsAfter(I)I  (W)
def wb_X5_endsAfter_64 (Qk : Int32 → z_M → Prop) (M : z_M) (s0 : Int32) : Prop := Qk s0 M
def wb_X5_endsAfter_49 (Qk : Int32 → z_M → Prop) (M : z_M) (x2 : Int32) (s1 : Int32) : Prop := ∀ M12, M12 = z_us M 0 s1 → (x2 ≤ 200 → wb_X5_endsAfter_64 Qk M12 x2) ∧ (¬ x2 ≤ 200 → wb_X5_endsAfter_64 Qk M12 0)
def wb_X5_endsAfter_0 (Qk : Int32 → z_M → Prop) (M : z_M) (x1 : Int32) : Prop := wp_X5_isJob M x1 (fun r1 => (r1 = 0 ∨ r1 = 1) → (¬ r1 = 0 → vp_in x1 30 ∧ (¬ (M 29 x1.toNatClampNeg) = 3 → wp_X5_findsEnd M x1 (fun r5 M6 => (r5 ≤ 200 → wb_X5_endsAfter_49 Qk M6 r5 0) ∧ (¬ r5 ≤ 200 → wb_X5_endsAfter_49 Qk M6 r5 2))) ∧ ((M 29 x1.toNatClampNeg) = 3 → wp_X5_fails M 2 (fun r8 M9 => Qk r8 M9))) ∧ (r1 = 0 → wp_X5_fails M 1 (fun r10 M11 => Qk r10 M11)))
def wp_X5_endsAfter (M : z_M) (x1 : Int32) (Qk : Int32 → z_M → Prop) : Prop := wb_X5_endsAfter_0 Qk M x1
-- idleAfter()I  (W)
def wb_X5_idleAfter_34 (Qk : Int32 → z_M → Prop) (M : z_M) (s0 : Int32) : Prop := Qk s0 M
def wb_X5_idleAfter_19 (Qk : Int32 → z_M → Prop) (M : z_M) (x1 : Int32) (s1 : Int32) : Prop := ∀ M4, M4 = z_us M 0 s1 → (x1 ≤ 200 → wb_X5_idleAfter_34 Qk M4 x1) ∧ (¬ x1 ≤ 200 → wb_X5_idleAfter_34 Qk M4 0)
def wb_X5_idleAfter_0 (Qk : Int32 → z_M → Prop) (M : z_M) : Prop := wp_X5_findsEnd M (-1) (fun r1 M2 => (r1 ≤ 200 → wb_X5_idleAfter_19 Qk M2 r1 0) ∧ (¬ r1 ≤ 200 → wb_X5_idleAfter_19 Qk M2 r1 1))
def wp_X5_idleAfter (M : z_M) (Qk : Int32 → z_M → Prop) : Prop := wb_X5_idleAfter_0 Qk M
-- isSafe()Z  (W)
def wb_X5_isSafe_21 (Qk : Int32 → z_M → Prop) (M : z_M) (s0 : Int32) : Prop := (s0 = 0 ∨ s0 = 1) ∧ Qk s0 M
def wb_X5_isSafe_0 (Qk : Int32 → z_M → Prop) (M : z_M) : Prop := ∀ M1, M1 = z_us M 0 0 → wp_X5_findNow M1 (fun M3 => wp_X5_findStuck M3 (fun r4 M5 => (0 ≤ r4 → wb_X5_isSafe_21 Qk M5 0) ∧ (¬ 0 ≤ r4 → wb_X5_isSafe_21 Qk M5 1)))
def wp_X5_isSafe (M : z_M) (Qk : Int32 → z_M → Prop) : Prop := wb_X5_isSafe_0 Qk M
-- entry(II)I  (W)
def wb_X5_entry_0 (Qk : Int32 → z_M → Prop) (M : z_M) (x1 : Int32) (x2 : Int32) : Prop := wp_X5_isBetween x1 0 ((M 40 0) - 1) (fun r1 => (r1 = 0 ∨ r1 = 1) → (¬ r1 = 0 → wp_X5_isBetween x2 0 3 (fun r3 => (r3 = 0 ∨ r3 = 1) → (¬ r3 = 0 → ∀ M5, M5 = z_us M 0 0 → vp_in ((4 * x1) + x2) 96 ∧ Qk (M5 32 ((4 * x1) + x2).toNatClampNeg) M5) ∧ (r3 = 0 → wp_X5_fails M 2 (fun r6 M7 => Qk r6 M7)))) ∧ (r1 = 0 → wp_X5_fails M 1 (fun r8 M9 => Qk r8 M9)))
def wp_X5_entry (M : z_M) (x1 : Int32) (x2 : Int32) (Qk : Int32 → z_M → Prop) : Prop := wb_X5_entry_0 Qk M x1 x2
-- interlocks()I  (P)
def wl_X5_interlocks_12 (M : z_M) (k4 : Int32 → Int32 → Prop) (Qk : Int32 → Prop) : Nat → Int32 → Int32 → Int32 → Prop
  | 0 => fun _ _ _ => False
  | n + 1 => fun x1 x2 x3 => (x2 ≤ x3 → ∀ y3 : Int32, y3 = x2 + 1 → k4 x1 y3) ∧ (¬ x2 ≤ x3 → vp_in x2 8 ∧ ∀ y4 : Int32, y4 = (x1 + (((M 1 x2.toNatClampNeg) >>> (x3 &&& 31)) &&& 1)) → ∀ y5 : Int32, y5 = x3 + 1 → wl_X5_interlocks_12 M k4 Qk n y4 x2 y5)
def wl_X5_interlocks_4 (M : z_M) (Qk : Int32 → Prop) : Nat → Int32 → Int32 → Prop
  | 0 => fun _ _ => False
  | n + 1 => fun x1 x2 => (8 ≤ x2 → Qk x1) ∧ (¬ 8 ≤ x2 → ∃ w, wl_X5_interlocks_12 M (wl_X5_interlocks_4 M Qk n) Qk w x1 x2 0)
def wb_X5_interlocks_0 (M : z_M) (Qk : Int32 → Prop) : Prop := ∃ w, wl_X5_interlocks_4 M Qk w 0 0
def wp_X5_interlocks (M : z_M) (Qk : Int32 → Prop) : Prop := wb_X5_interlocks_0 M Qk
-- sum([I)I  (P)
def wl_X5_sum_4 (M : z_M) (Qk : Int32 → Prop) : Nat → Nat → Int32 → Int32 → Prop
  | 0 => fun _ _ _ => False
  | n + 1 => fun x0 x1 x2 => ((nI (z_ln x0)) ≤ x2 → Qk x1) ∧ (¬ (nI (z_ln x0)) ≤ x2 → vp_in x2 (z_ln x0) ∧ ∀ y2 : Int32, y2 = (x1 + (M x0 x2.toNatClampNeg)) → ∀ y3 : Int32, y3 = x2 + 1 → wl_X5_sum_4 M Qk n x0 y2 y3)
def wb_X5_sum_0 (M : z_M) (Qk : Int32 → Prop) (x0 : Nat) : Prop := ∃ w, wl_X5_sum_4 M Qk w x0 0 0
def wp_X5_sum (M : z_M) (x0 : Nat) (Qk : Int32 → Prop) : Prop := wb_X5_sum_0 M Qk x0
-- account(I)I  (W)
def wb_X5_account_0 (Qk : Int32 → z_M → Prop) (M : z_M) (x1 : Int32) : Prop := wp_X5_isBetween x1 0 9 (fun r1 => (r1 = 0 ∨ r1 = 1) → (¬ r1 = 0 → ∀ M3, M3 = z_us M 0 0 → (x1 = 0 → Qk (M3 33 0) M3) ∧ (x1 = 1 → Qk (M3 34 0) M3) ∧ (x1 = 2 → Qk (M3 37 0) M3) ∧ (x1 = 3 → Qk (M3 38 0) M3) ∧ (x1 = 4 → Qk (M3 35 0) M3) ∧ (x1 = 5 → wp_X5_sum M3 4 (fun r5 => Qk r5 M3)) ∧ (x1 = 6 → Qk (M3 36 0) M3) ∧ (x1 = 7 → Qk (M3 40 0) M3) ∧ (x1 = 8 → wp_X5_sum M3 20 (fun r7 => Qk r7 M3)) ∧ (¬ x1 = 0 → ¬ x1 = 1 → ¬ x1 = 2 → ¬ x1 = 3 → ¬ x1 = 4 → ¬ x1 = 5 → ¬ x1 = 6 → ¬ x1 = 7 → ¬ x1 = 8 → wp_X5_interlocks M3 (fun r9 => Qk r9 M3))) ∧ (r1 = 0 → wp_X5_fails M 1 (fun r11 M12 => Qk r11 M12)))
def wp_X5_account (M : z_M) (x1 : Int32) (Qk : Int32 → z_M → Prop) : Prop := wb_X5_account_0 Qk M x1
-- use(I)F  (W)
def wb_X5_use_54 (Qk : UInt32 → z_M → Prop) (M : z_M) (s0 : UInt32) : Prop := Qk s0 M
def wb_X5_use_27 (Qk : UInt32 → z_M → Prop) (M : z_M) (x1 : Int32) (s1 : Int32) : Prop := ∀ M5, M5 = z_us M 0 s1 → (¬ (M5 33 0) = 0 → vp_in x1 3 ∧ vf_n32 (FP.fdiv (FP.i2f (M5 21 x1.toNatClampNeg)) (FP.i2f (M5 33 0))) ∧ wb_X5_use_54 Qk M5 (FP.fdiv (FP.i2f (M5 21 x1.toNatClampNeg)) (FP.i2f (M5 33 0)))) ∧ ((M5 33 0) = 0 → wb_X5_use_54 Qk M5 FP.fconst0)
def wb_X5_use_0 (Qk : UInt32 → z_M → Prop) (M : z_M) (x1 : Int32) : Prop := wp_X5_isArm x1 (fun r1 => (r1 = 0 ∨ r1 = 1) → (¬ r1 = 0 → (¬ (M 33 0) = 0 → wb_X5_use_27 Qk M x1 0) ∧ ((M 33 0) = 0 → wb_X5_use_27 Qk M x1 2)) ∧ (r1 = 0 → ∀ M4, M4 = z_us M 0 1 → Qk FP.fconst0 M4))
def wp_X5_use (M : z_M) (x1 : Int32) (Qk : UInt32 → z_M → Prop) : Prop := wb_X5_use_0 Qk M x1
-- meanDuration()D  (W)
def wb_X5_meanDuration_38 (Qk : UInt64 → z_M → Prop) (M : z_M) (s0 : UInt64) : Prop := Qk s0 M
def wb_X5_meanDuration_13 (Qk : UInt64 → z_M → Prop) (M : z_M) (s1 : Int32) : Prop := ∀ M2, M2 = z_us M 0 s1 → (¬ (M2 37 0) = 0 → vf_n64 (FP.ddiv (FP.i2d (M2 39 0)) (FP.i2d (M2 37 0))) ∧ wb_X5_meanDuration_38 Qk M2 (FP.ddiv (FP.i2d (M2 39 0)) (FP.i2d (M2 37 0)))) ∧ ((M2 37 0) = 0 → wb_X5_meanDuration_38 Qk M2 FP.dconst0)
def wb_X5_meanDuration_0 (Qk : UInt64 → z_M → Prop) (M : z_M) : Prop := (¬ (M 37 0) = 0 → wb_X5_meanDuration_13 Qk M 0) ∧ ((M 37 0) = 0 → wb_X5_meanDuration_13 Qk M 1)
def wp_X5_meanDuration (M : z_M) (Qk : UInt64 → z_M → Prop) : Prop := wb_X5_meanDuration_0 Qk M
-- feed(C)I  (W)
def wb_X5_feed_0 (Qk : Int32 → z_M → Prop) (M : z_M) (x1 : Int32) : Prop := (¬ (M 51 0) = 80 → ∀ M2, M2 = z_us M 0 0 → vp_in (M2 51 0) 80 ∧ ∀ M3, M3 = z_up M2 48 (M2 51 0).toNatClampNeg x1 → ∀ M4, M4 = z_us M3 51 ((M3 51 0) + 1) → Qk (M4 51 0) M4) ∧ ((M 51 0) = 80 → wp_X5_fails M 1 (fun r5 M6 => Qk r5 M6))
def wp_X5_feed (M : z_M) (x1 : Int32) (Qk : Int32 → z_M → Prop) : Prop := wb_X5_feed_0 Qk M x1
-- does(I)Z  (W)
def wb_X5_does_274 (Qk : Int32 → z_M → Prop) (M : z_M) : Prop := Qk 1 M
def wl_X5_does_151 (Qk : Int32 → z_M → Prop) : Nat → z_M → Int32 → Int32 → Prop
  | 0 => fun _ _ _ => False
  | n + 1 => fun M x2 x3 => vp_in x2 240 ∧ ((M 50 x2.toNatClampNeg) ≤ x3 → wb_X5_does_274 Qk M) ∧ (¬ (M 50 x2.toNatClampNeg) ≤ x3 → wp_X5_ticks M (fun M19 => ∀ y20 : Int32, y20 = x3 + 1 → wl_X5_does_151 Qk n M19 x2 y20))
def wb_X5_does_230 (Qk : Int32 → z_M → Prop) (M : z_M) (x2 : Int32) (s0 : Int32) : Prop := vp_in x2 240 ∧ vp_in (x2 + 1) 240 ∧ wp_X5_notLocked M (M 50 x2.toNatClampNeg) (M 50 (x2 + 1).toNatClampNeg) s0 (fun r21 => (r21 ≤ 0 → vp_in x2 240 ∧ vp_in (x2 + 1) 240 ∧ wp_X5_locks M (M 50 x2.toNatClampNeg) (M 50 (x2 + 1).toNatClampNeg) s0 (fun M25 => wb_X5_does_274 Qk M25)) ∧ (¬ r21 ≤ 0 → Qk 0 M))
def wb_X5_does_225 (Qk : Int32 → z_M → Prop) (M : z_M) (x2 : Int32) : Prop := wb_X5_does_230 Qk M x2 1
def wb_X5_does_0 (Qk : Int32 → z_M → Prop) (M : z_M) (x1 : Int32) : Prop := ∀ y1 : Int32, y1 = (6 * x1) → vp_in x1 40 ∧ (¬ (M 49 x1.toNatClampNeg) = 0 → vp_in x1 40 ∧ (¬ (M 49 x1.toNatClampNeg) = 1 → vp_in y1 240 ∧ wp_X5_isZone (M 50 y1.toNatClampNeg) (fun r4 => (r4 = 0 ∨ r4 = 1) → (r4 = 0 → wb_X5_does_225 Qk M y1) ∧ (¬ r4 = 0 → vp_in (y1 + 1) 240 ∧ wp_X5_isZone (M 50 (y1 + 1).toNatClampNeg) (fun r6 => (r6 = 0 ∨ r6 = 1) → (r6 = 0 → wb_X5_does_225 Qk M y1) ∧ (¬ r6 = 0 → vp_in y1 240 ∧ vp_in (M 50 y1.toNatClampNeg) 8 ∧ vp_in (y1 + 1) 240 ∧ wp_X5_has (M 1 (M 50 y1.toNatClampNeg).toNatClampNeg) (M 50 (y1 + 1).toNatClampNeg) (fun r8 => (r8 = 0 ∨ r8 = 1) → (¬ r8 = 0 → wb_X5_does_230 Qk M y1 0) ∧ (r8 = 0 → wb_X5_does_225 Qk M y1))))))) ∧ ((M 49 x1.toNatClampNeg) = 1 → vp_in y1 240 ∧ wp_X5_isBetween (M 50 y1.toNatClampNeg) 1 50 (fun r10 => (r10 = 0 ∨ r10 = 1) → (¬ r10 = 0 → ∃ w, wl_X5_does_151 Qk w M y1 0) ∧ (r10 = 0 → Qk 0 M)))) ∧ ((M 49 x1.toNatClampNeg) = 0 → vp_in y1 240 ∧ vp_in (y1 + 1) 240 ∧ vp_in (y1 + 2) 240 ∧ vp_in (y1 + 3) 240 ∧ vp_in (y1 + 4) 240 ∧ vp_in (y1 + 5) 240 ∧ wp_X5_notGiven M (M 50 y1.toNatClampNeg) (M 50 (y1 + 1).toNatClampNeg) (M 50 (y1 + 2).toNatClampNeg) (M 50 (y1 + 3).toNatClampNeg) (M 50 (y1 + 4).toNatClampNeg) (M 50 (y1 + 5).toNatClampNeg) (fun r12 => (r12 ≤ 0 → vp_in y1 240 ∧ vp_in (y1 + 1) 240 ∧ vp_in (y1 + 2) 240 ∧ vp_in (y1 + 3) 240 ∧ vp_in (y1 + 4) 240 ∧ vp_in (y1 + 5) 240 ∧ wp_X5_gives M (M 50 y1.toNatClampNeg) (M 50 (y1 + 1).toNatClampNeg) (M 50 (y1 + 2).toNatClampNeg) (M 50 (y1 + 3).toNatClampNeg) (M 50 (y1 + 4).toNatClampNeg) (M 50 (y1 + 5).toNatClampNeg) (fun M16 => wb_X5_does_274 Qk M16)) ∧ (¬ r12 ≤ 0 → Qk 0 M)))
def wp_X5_does (M : z_M) (x1 : Int32) (Qk : Int32 → z_M → Prop) : Prop := wb_X5_does_0 Qk M x1
-- skips(I)Z  (W)
def wb_X5_skips_24 (Qk : Int32 → z_M → Prop) (M : z_M) : Prop := Qk 0 M
def wb_X5_skips_0 (Qk : Int32 → z_M → Prop) (M : z_M) (x1 : Int32) : Prop := ((M 52 0) = (M 51 0) → wb_X5_skips_24 Qk M) ∧ (¬ (M 52 0) = (M 51 0) → vp_in (M 52 0) 80 ∧ ((M 48 (M 52 0).toNatClampNeg) = x1 → ∀ M3, M3 = z_us M 52 ((M 52 0) + 1) → Qk 1 M3) ∧ (¬ (M 48 (M 52 0).toNatClampNeg) = x1 → wb_X5_skips_24 Qk M))
def wp_X5_skips (M : z_M) (x1 : Int32) (Qk : Int32 → z_M → Prop) : Prop := wb_X5_skips_0 Qk M x1
-- takes()Z  (W)
def wb_X5_takes_30 (Qk : Int32 → z_M → Prop) (M : z_M) : Prop := Qk 0 M
def wb_X5_takes_0 (Qk : Int32 → z_M → Prop) (M : z_M) : Prop := ((M 52 0) = (M 51 0) → wb_X5_takes_30 Qk M) ∧ (¬ (M 52 0) = (M 51 0) → vp_in (M 52 0) 80 ∧ wp_X5_isBetween (M 48 (M 52 0).toNatClampNeg) 48 57 (fun r2 => (r2 = 0 ∨ r2 = 1) → (¬ r2 = 0 → vp_in (M 52 0) 80 ∧ ∀ M4, M4 = z_us M 54 ((M 48 (M 52 0).toNatClampNeg) - 48) → ∀ M5, M5 = z_us M4 52 ((M4 52 0) + 1) → Qk 1 M5) ∧ (r2 = 0 → wb_X5_takes_30 Qk M)))
def wp_X5_takes (M : z_M) (Qk : Int32 → z_M → Prop) : Prop := wb_X5_takes_0 Qk M
-- takesAt(I)Z  (W)
def wb_X5_takesAt_0 (Qk : Int32 → z_M → Prop) (M : z_M) (x1 : Int32) : Prop := wp_X5_takes M (fun r1 M2 => (r1 = 0 ∨ r1 = 1) → (¬ r1 = 0 → vp_in ((6 * (M2 53 0)) + x1) 240 ∧ ∀ M4, M4 = z_up M2 50 ((6 * (M2 53 0)) + x1).toNatClampNeg (M2 54 0) → Qk 1 M4) ∧ (r1 = 0 → Qk 0 M2))
def wp_X5_takesAt (M : z_M) (x1 : Int32) (Qk : Int32 → z_M → Prop) : Prop := wb_X5_takesAt_0 Qk M x1
-- takesPath()Z  (W)
def wb_X5_takesPath_59 (Qk : Int32 → z_M → Prop) (M : z_M) (x1 : Int32) : Prop := vp_in ((6 * (M 53 0)) + 1) 240 ∧ ∀ M11, M11 = z_up M 50 ((6 * (M 53 0)) + 1).toNatClampNeg x1 → Qk 1 M11
def wb_X5_takesPath_41 (k4 : z_M → Int32 → Int32 → Prop) (Qk : Int32 → z_M → Prop) (M : z_M) (x2 : Int32) (s0 : Int32) : Prop := ∀ y6 : Int32, y6 = x2 + 1 → (5 ≤ y6 → wb_X5_takesPath_59 Qk M s0) ∧ (¬ 5 ≤ y6 → wp_X5_skips M 44 (fun r8 M9 => (r8 = 0 ∨ r8 = 1) → (¬ r8 = 0 → k4 M9 s0 y6) ∧ (r8 = 0 → wb_X5_takesPath_59 Qk M9 s0)))
def wb_X5_takesPath_26 (k4 : z_M → Int32 → Int32 → Prop) (Qk : Int32 → z_M → Prop) (M : z_M) (x2 : Int32) : Prop := wb_X5_takesPath_41 k4 Qk M x2 (-1)
def wl_X5_takesPath_4 (Qk : Int32 → z_M → Prop) : Nat → z_M → Int32 → Int32 → Prop
  | 0 => fun _ _ _ => False
  | n + 1 => fun M x1 x2 => wp_X5_takes M (fun r1 M2 => (r1 = 0 ∨ r1 = 1) → (¬ r1 = 0 → (x1 < 0 → wb_X5_takesPath_26 (wl_X5_takesPath_4 Qk n) Qk M2 x2) ∧ (¬ x1 < 0 → ((M2 54 0) < 8 → wb_X5_takesPath_41 (wl_X5_takesPath_4 Qk n) Qk M2 x2 (((10 * x1) + (M2 54 0)) + 1)) ∧ (¬ (M2 54 0) < 8 → wb_X5_takesPath_26 (wl_X5_takesPath_4 Qk n) Qk M2 x2))) ∧ (r1 = 0 → Qk 0 M2))
def wb_X5_takesPath_0 (Qk : Int32 → z_M → Prop) (M : z_M) : Prop := ∃ w, wl_X5_takesPath_4 Qk w M 0 0
def wp_X5_takesPath (M : z_M) (Qk : Int32 → z_M → Prop) : Prop := wb_X5_takesPath_0 Qk M
-- takesJob()Z  (W)
def wb_X5_takesJob_98 (Qk : Int32 → z_M → Prop) (M : z_M) : Prop := Qk 0 M
def wb_X5_takesJob_141 (Qk : Int32 → z_M → Prop) (M : z_M) (s0 : Int32) : Prop := (s0 = 0 ∨ s0 = 1) ∧ Qk s0 M
def wb_X5_takesJob_136 (Qk : Int32 → z_M → Prop) (M : z_M) : Prop := wb_X5_takesJob_141 Qk M 1
def wb_X5_takesJob_119 (Qk : Int32 → z_M → Prop) (M : z_M) : Prop := wp_X5_skips M 62 (fun r31 M32 => (r31 = 0 ∨ r31 = 1) → (r31 = 0 → wb_X5_takesJob_136 Qk M32) ∧ (¬ r31 = 0 → wp_X5_takesAt M32 5 (fun r34 M35 => (r34 = 0 ∨ r34 = 1) → (r34 = 0 → wb_X5_takesJob_141 Qk M35 0) ∧ (¬ r34 = 0 → wb_X5_takesJob_136 Qk M35))))
def wb_X5_takesJob_0 (Qk : Int32 → z_M → Prop) (M : z_M) : Prop := vp_in (M 53 0) 40 ∧ ∀ M1, M1 = z_up M 49 (M 53 0).toNatClampNeg 0 → vp_in ((6 * (M1 53 0)) + 4) 240 ∧ ∀ M2, M2 = z_up M1 50 ((6 * (M1 53 0)) + 4).toNatClampNeg (-1) → vp_in ((6 * (M2 53 0)) + 5) 240 ∧ ∀ M3, M3 = z_up M2 50 ((6 * (M2 53 0)) + 5).toNatClampNeg (-1) → wp_X5_takesAt M3 0 (fun r4 M5 => (r4 = 0 ∨ r4 = 1) → (r4 = 0 → wb_X5_takesJob_98 Qk M5) ∧ (¬ r4 = 0 → wp_X5_skips M5 58 (fun r7 M8 => (r7 = 0 ∨ r7 = 1) → (r7 = 0 → wb_X5_takesJob_98 Qk M8) ∧ (¬ r7 = 0 → wp_X5_takesPath M8 (fun r10 M11 => (r10 = 0 ∨ r10 = 1) → (r10 = 0 → wb_X5_takesJob_98 Qk M11) ∧ (¬ r10 = 0 → wp_X5_skips M11 47 (fun r13 M14 => (r13 = 0 ∨ r13 = 1) → (r13 = 0 → wb_X5_takesJob_98 Qk M14) ∧ (¬ r13 = 0 → wp_X5_takesAt M14 2 (fun r16 M17 => (r16 = 0 ∨ r16 = 1) → (r16 = 0 → wb_X5_takesJob_98 Qk M17) ∧ (¬ r16 = 0 → wp_X5_skips M17 119 (fun r19 M20 => (r19 = 0 ∨ r19 = 1) → (r19 = 0 → wb_X5_takesJob_98 Qk M20) ∧ (¬ r19 = 0 → wp_X5_takesAt M20 3 (fun r22 M23 => (r22 = 0 ∨ r22 = 1) → (¬ r22 = 0 → wp_X5_skips M23 60 (fun r25 M26 => (r25 = 0 ∨ r25 = 1) → (r25 = 0 → wb_X5_takesJob_119 Qk M26) ∧ (¬ r25 = 0 → wp_X5_takesAt M26 4 (fun r28 M29 => (r28 = 0 ∨ r28 = 1) → (¬ r28 = 0 → wb_X5_takesJob_119 Qk M29) ∧ (r28 = 0 → Qk 0 M29))))) ∧ (r22 = 0 → wb_X5_takesJob_98 Qk M23))))))))))))))
def wp_X5_takesJob (M : z_M) (Qk : Int32 → z_M → Prop) : Prop := wb_X5_takesJob_0 Qk M
-- takesTicks()Z  (W)
def wb_X5_takesTicks_59 (Qk : Int32 → z_M → Prop) (M : z_M) : Prop := Qk 1 M
def wb_X5_takesTicks_0 (Qk : Int32 → z_M → Prop) (M : z_M) : Prop := vp_in (M 53 0) 40 ∧ ∀ M1, M1 = z_up M 49 (M 53 0).toNatClampNeg 1 → wp_X5_takesAt M1 0 (fun r2 M3 => (r2 = 0 ∨ r2 = 1) → (¬ r2 = 0 → wp_X5_takes M3 (fun r5 M6 => (r5 = 0 ∨ r5 = 1) → (r5 = 0 → wb_X5_takesTicks_59 Qk M6) ∧ (¬ r5 = 0 → vp_in (6 * (M6 53 0)) 240 ∧ vp_in (6 * (M6 53 0)) 240 ∧ ∀ M8, M8 = z_up M6 50 (6 * (M6 53 0)).toNatClampNeg ((10 * (M6 50 (6 * (M6 53 0)).toNatClampNeg)) + (M6 54 0)) → wb_X5_takesTicks_59 Qk M8))) ∧ (r2 = 0 → Qk 0 M3))
def wp_X5_takesTicks (M : z_M) (Qk : Int32 → z_M → Prop) : Prop := wb_X5_takesTicks_0 Qk M
-- takesCommand()Z  (W)
def wb_X5_takesCommand_68 (Qk : Int32 → z_M → Prop) (M : z_M) (s0 : Int32) : Prop := (s0 = 0 ∨ s0 = 1) ∧ Qk s0 M
def wb_X5_takesCommand_67 (Qk : Int32 → z_M → Prop) (M : z_M) : Prop := wb_X5_takesCommand_68 Qk M 0
def wb_X5_takesCommand_0 (Qk : Int32 → z_M → Prop) (M : z_M) : Prop := wp_X5_skips M 106 (fun r1 M2 => (r1 = 0 ∨ r1 = 1) → (r1 = 0 → wp_X5_skips M2 116 (fun r4 M5 => (r4 = 0 ∨ r4 = 1) → (r4 = 0 → vp_in (M5 53 0) 40 ∧ ∀ M7, M7 = z_up M5 49 (M5 53 0).toNatClampNeg 2 → wp_X5_skips M7 105 (fun r8 M9 => (r8 = 0 ∨ r8 = 1) → (r8 = 0 → wb_X5_takesCommand_67 Qk M9) ∧ (¬ r8 = 0 → wp_X5_takesAt M9 0 (fun r11 M12 => (r11 = 0 ∨ r11 = 1) → (r11 = 0 → wb_X5_takesCommand_67 Qk M12) ∧ (¬ r11 = 0 → wp_X5_takesAt M12 1 (fun r14 M15 => (r14 = 0 ∨ r14 = 1) → (r14 = 0 → wb_X5_takesCommand_67 Qk M15) ∧ (¬ r14 = 0 → wb_X5_takesCommand_68 Qk M15 1))))))) ∧ (¬ r4 = 0 → wp_X5_takesTicks M5 (fun r17 M18 => (r17 = 0 ∨ r17 = 1) → (r17 = 0 ∨ r17 = 1) ∧ Qk r17 M18)))) ∧ (¬ r1 = 0 → wp_X5_takesJob M2 (fun r19 M20 => (r19 = 0 ∨ r19 = 1) → (r19 = 0 ∨ r19 = 1) ∧ Qk r19 M20)))
def wp_X5_takesCommand (M : z_M) (Qk : Int32 → z_M → Prop) : Prop := wb_X5_takesCommand_0 Qk M
-- takesText()Z  (W)
def wb_X5_takesText_54 (Qk : Int32 → z_M → Prop) (M : z_M) (s0 : Int32) : Prop := (s0 = 0 ∨ s0 = 1) ∧ Qk s0 M
def wl_X5_takesText_10 (Qk : Int32 → z_M → Prop) : Nat → z_M → Prop
  | 0 => fun _ => False
  | n + 1 => fun M => wp_X5_takesCommand M (fun r3 M4 => (r3 = 0 ∨ r3 = 1) → (¬ r3 = 0 → ∀ M6, M6 = z_us M4 53 ((M4 53 0) + 1) → wp_X5_skips M6 59 (fun r7 M8 => (r7 = 0 ∨ r7 = 1) → (¬ r7 = 0 → wl_X5_takesText_10 Qk n M8) ∧ (r7 = 0 → (¬ (M8 52 0) = (M8 51 0) → wb_X5_takesText_54 Qk M8 0) ∧ ((M8 52 0) = (M8 51 0) → wb_X5_takesText_54 Qk M8 1)))) ∧ (r3 = 0 → Qk 0 M4))
def wb_X5_takesText_0 (Qk : Int32 → z_M → Prop) (M : z_M) : Prop := ∀ M1, M1 = z_us M 52 0 → ∀ M2, M2 = z_us M1 53 0 → ∃ w, wl_X5_takesText_10 Qk w M2
def wp_X5_takesText (M : z_M) (Qk : Int32 → z_M → Prop) : Prop := wb_X5_takesText_0 Qk M
-- perform()I  (W)
def wl_X5_perform_39 (Qk : Int32 → z_M → Prop) : Nat → z_M → Int32 → Prop
  | 0 => fun _ _ => False
  | n + 1 => fun M x2 => ((M 53 0) ≤ x2 → wp_X5_passAll M 57 0 1 (fun M10 => wp_X5_passAll M10 58 0 0 (fun M12 => wp_X5_remembers M12 (fun M14 => wp_X5_passAll M14 57 0 0 (fun M16 => Qk (M16 53 0) M16))))) ∧ (¬ (M 53 0) ≤ x2 → wp_X5_does M x2 (fun r17 M18 => (r17 = 0 ∨ r17 = 1) → (r17 = 0 → wp_X5_passAll M18 58 0 0 (fun M21 => wp_X5_fails M21 1 (fun r22 M23 => Qk r22 M23))) ∧ (¬ r17 = 0 → ∀ y24 : Int32, y24 = x2 + 1 → wl_X5_perform_39 Qk n M18 y24)))
def wb_X5_perform_0 (Qk : Int32 → z_M → Prop) (M : z_M) : Prop := wp_X5_takesText M (fun r1 M2 => (r1 = 0 ∨ r1 = 1) → ∀ M3, M3 = z_us M2 51 0 → ∀ M4, M4 = z_us M3 0 0 → (¬ r1 = 0 → wp_X5_passAll M4 58 0 1 (fun M7 => ∃ w, wl_X5_perform_39 Qk w M7 0)) ∧ (r1 = 0 → Qk ((-100) - (M4 52 0)) M4))
def wp_X5_perform (M : z_M) (Qk : Int32 → z_M → Prop) : Prop := wb_X5_perform_0 Qk M
-- undo()I  (W)
def wb_X5_undo_0 (Qk : Int32 → z_M → Prop) (M : z_M) : Prop := (¬ (M 59 0) = 0 → ∀ M2, M2 = z_us M 0 0 → ∀ M3, M3 = z_us M2 59 ((M2 59 0) - 1) → wp_X5_passAll M3 55 (573 * (M3 59 0)) 0 (fun M5 => Qk (M5 59 0) M5)) ∧ ((M 59 0) = 0 → wp_X5_fails M 1 (fun r6 M7 => Qk r6 M7))
def wp_X5_undo (M : z_M) (Qk : Int32 → z_M → Prop) : Prop := wb_X5_undo_0 Qk M
-- save()I  (W)
def wb_X5_save_0 (Qk : Int32 → z_M → Prop) (M : z_M) : Prop := ∀ M1, M1 = z_us M 0 0 → ∀ M2, M2 = z_us M1 61 1 → wp_X5_passAll M2 56 0 1 (fun M4 => Qk (M4 33 0) M4)
def wp_X5_save (M : z_M) (Qk : Int32 → z_M → Prop) : Prop := wb_X5_save_0 Qk M
-- restore()I  (W)
def wb_X5_restore_0 (Qk : Int32 → z_M → Prop) (M : z_M) : Prop := (¬ (M 61 0) = 0 → ∀ M2, M2 = z_us M 0 0 → wp_X5_passAll M2 56 0 0 (fun M4 => ∀ M5, M5 = z_us M4 59 0 → Qk (M5 33 0) M5)) ∧ ((M 61 0) = 0 → wp_X5_fails M 1 (fun r6 M7 => Qk r6 M7))
def wp_X5_restore (M : z_M) (Qk : Int32 → z_M → Prop) : Prop := wb_X5_restore_0 Qk M
