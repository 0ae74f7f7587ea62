/-! segments -/
set_option maxRecDepth 100000
set_option maxHeartbeats 1000000 in
theorem sg_X0_in_0 {l0 : Int64} {l2 : Int64} {l4 : Int64} {rc rs : Nat} {QR : Option aV → aW → Prop} {QX : String → aW → Prop} {w : aW} (h : (l0 < l2 → QR (some (vI 0)) w) ∧ (¬ l0 < l2 → (l4 < l0 → QR (some (vI 0)) w) ∧ (¬ l4 < l0 → QR (some (vI 1)) w))) : wp (KX0_in) rc rs QR QX 0 [(0, vL l0), (2, vL l2), (4, vL l4)] [] w := by
  refine wp_lload_n (n := 1) (i := 0) (q := 0) dX0_in_0 rfl rfl rfl ?_
  refine wp_lload_n (n := 2) (i := 2) (q := 1) dX0_in_1 rfl rfl rfl ?_
  refine wp_lcmp (n := 3) dX0_in_2 rfl ?_
  refine wp_if_lt (n := 6) (t := 17) dX0_in_3 rfl (by decide) (fun c3 => ?_) (fun c3 => ?_)
  · replace h := h.1 (lgc_lt.mp c3)
    refine wp_iconst (n := 18) (v := 0) dX0_in_17 rfl (by decide) ?_
    exact wp_zreturn dX0_in_18 rfl (by decide) h
  · replace h := h.2 (fun z => c3 (lgc_lt.mpr z))
    refine wp_lload_n (n := 7) (i := 0) (q := 0) dX0_in_6 rfl rfl rfl ?_
    refine wp_lload (n := 9) (i := 4) (q := 2) dX0_in_7 rfl rfl ?_
    refine wp_lcmp (n := 10) dX0_in_9 rfl ?_
    refine wp_if_gt (n := 13) (t := 17) dX0_in_10 rfl (by decide) (fun c10 => ?_) (fun c10 => ?_)
    · replace h := h.1 (lgc_gt.mp c10)
      refine wp_iconst (n := 18) (v := 0) dX0_in_17 rfl (by decide) ?_
      exact wp_zreturn dX0_in_18 rfl (by decide) h
    · replace h := h.2 (fun z => c10 (lgc_gt.mpr z))
      refine wp_iconst (n := 14) (v := 1) dX0_in_13 rfl (by decide) ?_
      refine wp_goto (t := 18) dX0_in_14 (by decide) ?_
      exact wp_zreturn dX0_in_18 rfl (by decide) h
set_option maxHeartbeats 1000000 in
theorem sg_X0_asksPlace_0 {i0 : Int32} {i1 : Int32} {rc rs : Nat} {QR : Option aV → aW → Prop} {QX : String → aW → Prop} {w : aW} (h : (i0 < 0 → 1 ≤ rc ∧ 6 ≤ rs ∧ QX "java/lang/IndexOutOfBoundsException" w) ∧ (¬ i0 < 0 → (i0 < i1 → QR none w) ∧ (¬ i0 < i1 → 1 ≤ rc ∧ 6 ≤ rs ∧ QX "java/lang/IndexOutOfBoundsException" w))) : wp (KX0_asksPlace) rc rs QR QX 0 [(0, vI i0), (1, vI i1)] [] w := by
  refine wp_iload_n (n := 1) (i := 0) (q := 0) dX0_asksPlace_0 rfl rfl rfl ?_
  refine wp_if_lt (n := 4) (t := 9) dX0_asksPlace_1 rfl (by decide) (fun c1 => ?_) (fun c1 => ?_)
  · replace h := h.1 c1
    obtain ⟨b1, b2, h⟩ := h
    exact wp_throwI (ik := 0) rfl rfl dX0_asksPlace_9 dX0_asksPlace_12 dX0_asksPlace_13 dX0_asksPlace_16 q320 q99 b1 b2 (Nat.le_of_ble_eq_true rfl) h
  · replace h := h.2 c1
    refine wp_iload_n (n := 5) (i := 0) (q := 0) dX0_asksPlace_4 rfl rfl rfl ?_
    refine wp_iload_n (n := 6) (i := 1) (q := 1) dX0_asksPlace_5 rfl rfl rfl ?_
    refine wp_icmp_lt (n := 9) (t := 17) dX0_asksPlace_6 rfl (by decide) (fun c6 => ?_) (fun c6 => ?_)
    · replace h := h.1 c6
      exact wp_return dX0_asksPlace_17 rfl h
    · replace h := h.2 c6
      obtain ⟨b1, b2, h⟩ := h
      exact wp_throwI (ik := 0) rfl rfl dX0_asksPlace_9 dX0_asksPlace_12 dX0_asksPlace_13 dX0_asksPlace_16 q320 q99 b1 b2 (Nat.le_of_ble_eq_true rfl) h
set_option maxHeartbeats 1000000 in
theorem sg_X0_thingAt_0 {h0 : Nat} {i1 : Int32} {rc rs : Nat} {QR : Option aV → aW → Prop} {QX : String → aW → Prop} {w : aW} (h : 1 ≤ rc ∧ 6 ≤ rs ∧ ct (KX0_asksPlace) 1 6 [vI i1, vI 20] w (fun v3 w3 => v3 = none ∧ ∃ x7 : Nat, gf w3 h0 [0] 4 (vR (some x7)) ∧ ∃ x11 : Option Nat, gR w3 x7 2 i1 x11 ∧ QR (some (vR x11)) w3) (fun E3 w3 => (E3 = "java/lang/IndexOutOfBoundsException" ∧ QX "java/lang/IndexOutOfBoundsException" w3))) : wp (KX0_thingAt) rc rs QR QX 0 [(0, vR (some h0)), (1, vI i1)] [] w := by
  refine wp_iload_n (n := 1) (i := 1) (q := 1) dX0_thingAt_0 rfl rfl rfl ?_
  refine wp_bipush (n := 3) (v := 20) dX0_thingAt_1 rfl (by decide) ?_
  obtain ⟨b3, bb3, h⟩ := h
  refine wp_call (n := 6) (K' := KX0_asksPlace) (rc' := rc - 1) (rs' := rs - 6) (aRun_S (K' := KX0_asksPlace) (As := [vI i1, vI 20]) (rest := []) dX0_thingAt_3 (aCal_of kf_X0_asksPlace (Nat.le_of_ble_eq_true rfl)) rfl q455 q456 ar_X0_asksPlace rfl (Nat.le_of_ble_eq_true rfl)) rfl (by omega) (by omega) (fun v3 w3 h => ?_) (fun E3 w3 h => ?_) h
  · obtain ⟨rfl, h⟩ := h
    refine wp_aload_n (n := 7) (i := 0) (q := 0) dX0_thingAt_6 rfl rfl rfl ?_
    obtain ⟨x7, g7, h⟩ := h
    refine wp_gf (n := 10) dX0_thingAt_7 rfl fl_X0_20 g7 ?_
    refine wp_iload_n (n := 11) (i := 1) (q := 1) dX0_thingAt_10 rfl rfl rfl ?_
    obtain ⟨x11, g11, h⟩ := h
    refine wp_gR (n := 12) dX0_thingAt_11 rfl (by decide) g11 ?_
    exact wp_areturn dX0_thingAt_12 rfl (Or.inl ⟨_, rfl⟩) h
  · obtain ⟨rfl, h⟩ := h
    exact wpx_out (fun z hz => absurd hz List.not_mem_nil) h
set_option maxHeartbeats 1000000 in
theorem sg_X0_leastBlock_0 {h0 : Nat} {rc rs : Nat} {QR : Option aV → aW → Prop} {QX : String → aW → Prop} {w : aW} (h : wp (KX0_leastBlock) rc rs QR QX 2 [(0, vR (some h0)), (1, vI 0)] [] w) : wp (KX0_leastBlock) rc rs QR QX 0 [(0, vR (some h0))] [] w := by
  refine wp_iconst (n := 1) (v := 0) dX0_leastBlock_0 rfl (by decide) ?_
  refine wp_istore_n (n := 2) (i := 1) (ls' := [(1, vI 0), (0, vR (some h0))]) dX0_leastBlock_1 rfl rfl (Nat.le_of_ble_eq_true rfl) rfl ?_
  exact wp_sub [1, 0] rfl h
set_option maxHeartbeats 1000000 in
theorem sg_X0_leastBlock_2 {h0 : Nat} {i1 : Int32} {rc rs : Nat} {QR : Option aV → aW → Prop} {QX : String → aW → Prop} {w : aW} (h : (96 ≤ i1 → QR (some (vI (-1))) w) ∧ (¬ 96 ≤ i1 → ∃ x9 : Nat, gf w h0 [0] 0 (vR (some x9)) ∧ ∃ x13 : Int32, gI w x9 i1 x13 ∧ (¬ x13 = 0 → wp (KX0_leastBlock) rc rs QR QX 2 [(0, vR (some h0)), (1, vI (i1 + 1))] [] w) ∧ (x13 = 0 → QR (some (vI i1)) w))) : wp (KX0_leastBlock) rc rs QR QX 2 [(0, vR (some h0)), (1, vI i1)] [] w := by
  refine wp_iload_n (n := 3) (i := 1) (q := 1) dX0_leastBlock_2 rfl rfl rfl ?_
  refine wp_bipush (n := 5) (v := 96) dX0_leastBlock_3 rfl (by decide) ?_
  refine wp_icmp_ge (n := 8) (t := 25) dX0_leastBlock_5 rfl (by decide) (fun c5 => ?_) (fun c5 => ?_)
  · replace h := h.1 c5
    refine wp_iconst (n := 26) (v := (-1)) dX0_leastBlock_25 rfl (by decide) ?_
    exact wp_ireturn dX0_leastBlock_26 rfl h
  · replace h := h.2 c5
    refine wp_aload_n (n := 9) (i := 0) (q := 0) dX0_leastBlock_8 rfl rfl rfl ?_
    obtain ⟨x9, g9, h⟩ := h
    refine wp_gf (n := 12) dX0_leastBlock_9 rfl fl_X0_9 g9 ?_
    refine wp_iload_n (n := 13) (i := 1) (q := 1) dX0_leastBlock_12 rfl rfl rfl ?_
    obtain ⟨x13, g13, h⟩ := h
    refine wp_gI (n := 14) dX0_leastBlock_13 rfl g13 ?_
    refine wp_if_ne (n := 17) (t := 19) dX0_leastBlock_14 rfl (by decide) (fun c14 => ?_) (fun c14 => ?_)
    · replace h := h.1 c14
      refine wp_iinc (n := 22) (i := 1) (q := 1) (v := i1 + 1) (ls' := [(1, vI (i1 + 1)), (0, vR (some h0))]) dX0_leastBlock_19 rfl rfl rfl (Nat.le_of_ble_eq_true rfl) rfl ?_
      refine wp_goto (t := 2) dX0_leastBlock_22 (by decide) ?_
      exact wp_sub [1, 0] rfl h
    · replace h := h.2 c14
      refine wp_iload_n (n := 18) (i := 1) (q := 1) dX0_leastBlock_17 rfl rfl rfl ?_
      exact wp_ireturn dX0_leastBlock_18 rfl h
set_option maxHeartbeats 1000000 in
theorem sg_X0_spaceOf_0 {h0 : Nat} {r1 : Option Nat} {rc rs : Nat} {QR : Option aV → aW → Prop} {QX : String → aW → Prop} {w : aW} (h : wp (KX0_spaceOf) rc rs QR QX 5 [(0, vR (some h0)), (1, vR r1), (2, vL 0), (4, vI 0)] [] w) : wp (KX0_spaceOf) rc rs QR QX 0 [(0, vR (some h0)), (1, vR r1)] [] w := by
  refine wp_lconst (n := 1) (v := 0) dX0_spaceOf_0 rfl (by decide) ?_
  refine wp_lstore_n (n := 2) (i := 2) (ls' := [(2, vL 0), (0, vR (some h0)), (1, vR r1)]) dX0_spaceOf_1 rfl rfl (Nat.le_of_ble_eq_true rfl) rfl ?_
  refine wp_iconst (n := 3) (v := 0) dX0_spaceOf_2 rfl (by decide) ?_
  refine wp_istore (n := 5) (i := 4) (ls' := [(4, vI 0), (2, vL 0), (0, vR (some h0)), (1, vR r1)]) dX0_spaceOf_3 rfl (Nat.le_of_ble_eq_true rfl) rfl ?_
  exact wp_sub [2, 3, 1, 0] rfl h
set_option maxHeartbeats 1000000 in
theorem sg_X0_spaceOf_5 {h0 : Nat} {r1 : Option Nat} {l2 : Int64} {i4 : Int32} {rc rs : Nat} {QR : Option aV → aW → Prop} {QX : String → aW → Prop} {w : aW} (h : (12 ≤ i4 → QR (some (vL l2)) w) ∧ (¬ 12 ≤ i4 → (r1 = none → 1 ≤ rc ∧ 8 ≤ rs ∧ QX "java/lang/NullPointerException" w) ∧ (∀ a14 : Nat, r1 = some a14 → ∃ x14 : Nat, gf w a14 [4, 5, 6, 7] 1 (vR (some x14)) ∧ ∃ x19 : Int32, gI w x14 i4 x19 ∧ (¬ x19 = (-1) → ∃ x29 : Nat, gf w h0 [0] 0 (vR (some x29)) ∧ ∃ x33 : Nat, gf w a14 [4, 5, 6, 7] 1 (vR (some x33)) ∧ ∃ x38 : Int32, gI w x33 i4 x38 ∧ ∃ x39 : Int32, gI w x29 x38 x39 ∧ wp (KX0_spaceOf) rc rs QR QX 5 [(0, vR (some h0)), (1, vR (some a14)), (2, vL (l2 + (Int32.toInt64 x39))), (4, vI (i4 + 1))] [] w) ∧ (x19 = (-1) → wp (KX0_spaceOf) rc rs QR QX 5 [(0, vR (some h0)), (1, vR (some a14)), (2, vL (l2 + 0)), (4, vI (i4 + 1))] [] w)))) : wp (KX0_spaceOf) rc rs QR QX 5 [(0, vR (some h0)), (1, vR r1), (2, vL l2), (4, vI i4)] [] w := by
  refine wp_iload (n := 7) (i := 4) (q := 3) dX0_spaceOf_5 rfl rfl ?_
  refine wp_bipush (n := 9) (v := 12) dX0_spaceOf_7 rfl (by decide) ?_
  refine wp_icmp_ge (n := 12) (t := 49) dX0_spaceOf_9 rfl (by decide) (fun c9 => ?_) (fun c9 => ?_)
  · replace h := h.1 c9
    refine wp_lload_n (n := 50) (i := 2) (q := 2) dX0_spaceOf_49 rfl rfl rfl ?_
    exact wp_lreturn dX0_spaceOf_50 rfl h
  · replace h := h.2 c9
    refine wp_lload_n (n := 13) (i := 2) (q := 2) dX0_spaceOf_12 rfl rfl rfl ?_
    refine wp_aload_n (n := 14) (i := 1) (q := 1) dX0_spaceOf_13 rfl rfl rfl ?_
    rcases opt_c r1 with ea14 | ⟨a14, ea14⟩
    · obtain ⟨b1, b2, h⟩ := h.1 ea14
      rw [ea14]
      refine wp_getfNull (rc' := 0) (rs' := 0) dX0_spaceOf_14 (fl_X0_119 4 (by decide)) (by omega) (by omega) (Nat.le_of_ble_eq_true rfl) ?_
      exact wpx_out (fun z hz => absurd hz List.not_mem_nil) h
    · replace h := h.2 a14 ea14
      rw [ea14]
      obtain ⟨x14, g14, h⟩ := h
      refine wp_gf (n := 17) dX0_spaceOf_14 rfl fl_X0_119 g14 ?_
      refine wp_iload (n := 19) (i := 4) (q := 3) dX0_spaceOf_17 rfl rfl ?_
      obtain ⟨x19, g19, h⟩ := h
      refine wp_gI (n := 20) dX0_spaceOf_19 rfl g19 ?_
      refine wp_iconst (n := 21) (v := (-1)) dX0_spaceOf_20 rfl (by decide) ?_
      refine wp_icmp_ne (n := 24) (t := 28) dX0_spaceOf_21 rfl (by decide) (fun c21 => ?_) (fun c21 => ?_)
      · replace h := h.1 c21
        refine wp_aload_n (n := 29) (i := 0) (q := 0) dX0_spaceOf_28 rfl rfl rfl ?_
        obtain ⟨x29, g29, h⟩ := h
        refine wp_gf (n := 32) dX0_spaceOf_29 rfl fl_X0_9 g29 ?_
        refine wp_aload_n (n := 33) (i := 1) (q := 1) dX0_spaceOf_32 rfl rfl rfl ?_
        obtain ⟨x33, g33, h⟩ := h
        refine wp_gf (n := 36) dX0_spaceOf_33 rfl fl_X0_119 g33 ?_
        refine wp_iload (n := 38) (i := 4) (q := 3) dX0_spaceOf_36 rfl rfl ?_
        obtain ⟨x38, g38, h⟩ := h
        refine wp_gI (n := 39) dX0_spaceOf_38 rfl g38 ?_
        obtain ⟨x39, g39, h⟩ := h
        refine wp_gI (n := 40) dX0_spaceOf_39 rfl g39 ?_
        refine wp_i2l (n := 41) dX0_spaceOf_40 rfl ?_
        refine wp_ladd (n := 42) dX0_spaceOf_41 rfl ?_
        refine wp_lstore_n (n := 43) (i := 2) (ls' := [(2, vL (l2 + (Int32.toInt64 x39))), (0, vR (some h0)), (1, vR (some a14)), (4, vI i4)]) dX0_spaceOf_42 rfl rfl (Nat.le_of_ble_eq_true rfl) rfl ?_
        refine wp_iinc (n := 46) (i := 4) (q := 3) (v := i4 + 1) (ls' := [(4, vI (i4 + 1)), (2, vL (l2 + (Int32.toInt64 x39))), (0, vR (some h0)), (1, vR (some a14))]) dX0_spaceOf_43 rfl rfl rfl (Nat.le_of_ble_eq_true rfl) rfl ?_
        refine wp_goto (t := 5) dX0_spaceOf_46 (by decide) ?_
        exact wp_sub [2, 3, 1, 0] rfl h
      · replace h := h.2 c21
        refine wp_lconst (n := 25) (v := 0) dX0_spaceOf_24 rfl (by decide) ?_
        refine wp_goto (t := 41) dX0_spaceOf_25 (by decide) ?_
        refine wp_ladd (n := 42) dX0_spaceOf_41 rfl ?_
        refine wp_lstore_n (n := 43) (i := 2) (ls' := [(2, vL (l2 + 0)), (0, vR (some h0)), (1, vR (some a14)), (4, vI i4)]) dX0_spaceOf_42 rfl rfl (Nat.le_of_ble_eq_true rfl) rfl ?_
        refine wp_iinc (n := 46) (i := 4) (q := 3) (v := i4 + 1) (ls' := [(4, vI (i4 + 1)), (2, vL (l2 + 0)), (0, vR (some h0)), (1, vR (some a14))]) dX0_spaceOf_43 rfl rfl rfl (Nat.le_of_ble_eq_true rfl) rfl ?_
        refine wp_goto (t := 5) dX0_spaceOf_46 (by decide) ?_
        exact wp_sub [2, 3, 1, 0] rfl h
set_option maxHeartbeats 1000000 in
theorem sg_X5_mayHave_0 {h0 : Nat} {l1 : Int64} {rc rs : Nat} {QR : Option aV → aW → Prop} {QX : String → aW → Prop} {w : aW} (h : QR (some (vI 1)) w) : wp (KX5_mayHave) rc rs QR QX 0 [(0, vR (some h0)), (1, vL l1)] [] w := by
  refine wp_iconst (n := 1) (v := 1) dX5_mayHave_0 rfl (by decide) ?_
  exact wp_zreturn dX5_mayHave_1 rfl (by decide) h
set_option maxHeartbeats 1000000 in
theorem sg_X6_mayHave_0 {h0 : Nat} {l1 : Int64} {rc rs : Nat} {QR : Option aV → aW → Prop} {QX : String → aW → Prop} {w : aW} (h : isO w h0 5 ∧ ct (KX5_mayHave) 0 0 [vR (some h0), vL l1] w (fun v2 w2 => ∃ x2 : Int32, v2 = some (vI x2) ∧ (x2 = 0 → QR (some (vI 0)) w2) ∧ (¬ x2 = 0 → ∃ x10 : Int32, gf w2 h0 [5] 6 (vI x10) ∧ ((Int32.toInt64 x10) < l1 → QR (some (vI 0)) w2) ∧ (¬ (Int32.toInt64 x10) < l1 → QR (some (vI 1)) w2))) (fun E2 w2 => False)) : wp (KX6_mayHave) rc rs QR QX 0 [(0, vR (some h0)), (1, vL l1)] [] w := by
  refine wp_aload_n (n := 1) (i := 0) (q := 0) dX6_mayHave_0 rfl rfl rfl ?_
  refine wp_lload_n (n := 2) (i := 1) (q := 1) dX6_mayHave_1 rfl rfl rfl ?_
  obtain ⟨⟨fs2, o2⟩, h⟩ := h
  refine wp_call (n := 5) (K' := KX5_mayHave) (rc' := rc) (rs' := rs) (aRun_SU (K' := KX5_mayHave) (As := [vL l1]) (rest := []) (b := h0) dX6_mayHave_2 (aCal_of kf_X5_mayHave (Nat.le_of_ble_eq_true rfl)) rfl q491 q487 q311 q485 (by decide) ar_X5_mayHave o2 (by decide) rfl (Nat.le_of_ble_eq_true rfl)) rfl (Nat.le_of_eq (Nat.zero_add _)) (Nat.le_of_eq (Nat.zero_add _)) (fun v2 w2 h => ?_) (fun E2 w2 h => ?_) h
  · obtain ⟨x2, rfl, h⟩ := h
    refine wp_if_eq (n := 8) (t := 22) dX6_mayHave_5 rfl (by decide) (fun c5 => ?_) (fun c5 => ?_)
    · replace h := h.1 c5
      refine wp_iconst (n := 23) (v := 0) dX6_mayHave_22 rfl (by decide) ?_
      exact wp_zreturn dX6_mayHave_23 rfl (by decide) h
    · replace h := h.2 c5
      refine wp_lload_n (n := 9) (i := 1) (q := 1) dX6_mayHave_8 rfl rfl rfl ?_
      refine wp_aload_n (n := 10) (i := 0) (q := 0) dX6_mayHave_9 rfl rfl rfl ?_
      obtain ⟨x10, g10, h⟩ := h
      refine wp_gf (n := 13) dX6_mayHave_10 rfl fl_X6_7 g10 ?_
      refine wp_i2l (n := 14) dX6_mayHave_13 rfl ?_
      refine wp_lcmp (n := 15) dX6_mayHave_14 rfl ?_
      refine wp_if_gt (n := 18) (t := 22) dX6_mayHave_15 rfl (by decide) (fun c15 => ?_) (fun c15 => ?_)
      · replace h := h.1 (lgc_gt.mp c15)
        refine wp_iconst (n := 23) (v := 0) dX6_mayHave_22 rfl (by decide) ?_
        exact wp_zreturn dX6_mayHave_23 rfl (by decide) h
      · replace h := h.2 (fun z => c15 (lgc_gt.mpr z))
        refine wp_iconst (n := 19) (v := 1) dX6_mayHave_18 rfl (by decide) ?_
        refine wp_goto (t := 23) dX6_mayHave_19 (by decide) ?_
        exact wp_zreturn dX6_mayHave_23 rfl (by decide) h
  · exact h.elim
set_option maxHeartbeats 1000000 in
theorem sg_X4_prevMade_0 {h0 : Nat} {rc rs : Nat} {QR : Option aV → aW → Prop} {QX : String → aW → Prop} {w : aW} (h : ∃ x1 : Option Nat, gf w h0 [4, 5, 6, 7] 5 (vR x1) ∧ (x1 = none → QR (some (vI 0)) w) ∧ (∀ a4 : Nat, x1 = some a4 → ∃ x12 : Option Nat, gf w h0 [4, 5, 6, 7] 5 (vR x12) ∧ ∃ a15 : Nat, x12 = some a15 ∧ ∃ x15 : Int32, gf w a15 [6, 7] 0 (vI x15) ∧ QR (some (vI x15)) w)) : wp (KX4_prevMade) rc rs QR QX 0 [(0, vR (some h0))] [] w := by
  refine wp_aload_n (n := 1) (i := 0) (q := 0) dX4_prevMade_0 rfl rfl rfl ?_
  obtain ⟨x1, g1, h⟩ := h
  refine wp_gf (n := 4) dX4_prevMade_1 rfl fl_X4_22 g1 ?_
  rcases opt_c x1 with ea4 | ⟨a4, ea4⟩
  · replace h := h.1 ea4
    rw [ea4]
    refine wp_ifnonnull (n := 7) (t := 11) dX4_prevMade_4 rfl (by decide) (fun z zz => nomatch zz) (fun _ => ?_)
    refine wp_iconst (n := 8) (v := 0) dX4_prevMade_7 rfl (by decide) ?_
    refine wp_goto (t := 18) dX4_prevMade_8 (by decide) ?_
    exact wp_ireturn dX4_prevMade_18 rfl h
  · replace h := h.2 a4 ea4
    rw [ea4]
    refine wp_ifnonnull (n := 7) (t := 11) dX4_prevMade_4 rfl (by decide) (fun _ _ => ?_) (fun zz => nomatch zz)
    refine wp_aload_n (n := 12) (i := 0) (q := 0) dX4_prevMade_11 rfl rfl rfl ?_
    obtain ⟨x12, g12, h⟩ := h
    refine wp_gf (n := 15) dX4_prevMade_12 rfl fl_X4_22 g12 ?_
    obtain ⟨a15, ea15, h⟩ := h
    rw [ea15]
    obtain ⟨x15, g15, h⟩ := h
    refine wp_gf (n := 18) dX4_prevMade_15 rfl fl_X4_26 g15 ?_
    exact wp_ireturn dX4_prevMade_18 rfl h
set_option maxHeartbeats 1000000 in
theorem sg_X0_frees_0 {h0 : Nat} {i1 : Int32} {rc rs : Nat} {QR : Option aV → aW → Prop} {QX : String → aW → Prop} {w : aW} (h : ∃ x1 : Nat, gf w h0 [0] 0 (vR (some x1)) ∧ pI w x1 i1 0 (fun w6 => ∃ x9 : Int32, gf w6 h0 [0] 3 (vI x9) ∧ pf w6 h0 [0] 3 (vI (x9 + 1)) (fun w14 => QR none w14))) : wp (KX0_frees) rc rs QR QX 0 [(0, vR (some h0)), (1, vI i1)] [] w := by
  refine wp_aload_n (n := 1) (i := 0) (q := 0) dX0_frees_0 rfl rfl rfl ?_
  obtain ⟨x1, g1, h⟩ := h
  refine wp_gf (n := 4) dX0_frees_1 rfl fl_X0_9 g1 ?_
  refine wp_iload_n (n := 5) (i := 1) (q := 1) dX0_frees_4 rfl rfl rfl ?_
  refine wp_iconst (n := 6) (v := 0) dX0_frees_5 rfl (by decide) ?_
  refine wp_pI (n := 7) dX0_frees_6 rfl (pI_mono h (fun w6 h => ?_))
  refine wp_aload_n (n := 8) (i := 0) (q := 0) dX0_frees_7 rfl rfl rfl ?_
  refine wp_dup (n := 9) dX0_frees_8 rfl rfl ?_
  obtain ⟨x9, g9, h⟩ := h
  refine wp_gf (n := 12) dX0_frees_9 rfl fl_X0_50 g9 ?_
  refine wp_iconst (n := 13) (v := 1) dX0_frees_12 rfl (by decide) ?_
  refine wp_iadd (n := 14) dX0_frees_13 rfl ?_
  refine wp_pf (n := 17) dX0_frees_14 rfl (pt_X0_50 _) rfl rfl (pf_mono h (fun w14 h => ?_))
  exact wp_return dX0_frees_17 rfl h
set_option maxHeartbeats 1000000 in
theorem sg_X0_isLater_0 {h0 : Nat} {i1 : Int32} {i2 : Int32} {rc rs : Nat} {QR : Option aV → aW → Prop} {QX : String → aW → Prop} {w : aW} (h : ∃ x1 : Nat, gf w h0 [0] 1 (vR (some x1)) ∧ ∃ x5 : Int32, gI w x1 i1 x5 ∧ ∃ x7 : Nat, gf w h0 [0] 1 (vR (some x7)) ∧ ∃ x11 : Int32, gI w x7 i2 x11 ∧ (x11 < x5 → QR (some (vI 1)) w) ∧ (¬ x11 < x5 → ∃ x16 : Nat, gf w h0 [0] 1 (vR (some x16)) ∧ ∃ x20 : Int32, gI w x16 i1 x20 ∧ ∃ x22 : Nat, gf w h0 [0] 1 (vR (some x22)) ∧ ∃ x26 : Int32, gI w x22 i2 x26 ∧ (¬ x20 = x26 → QR (some (vI 0)) w) ∧ (x20 = x26 → (i2 ≤ i1 → QR (some (vI 0)) w) ∧ (¬ i2 ≤ i1 → QR (some (vI 1)) w)))) : wp (KX0_isLater) rc rs QR QX 0 [(0, vR (some h0)), (1, vI i1), (2, vI i2)] [] w := by
  refine wp_aload_n (n := 1) (i := 0) (q := 0) dX0_isLater_0 rfl rfl rfl ?_
  obtain ⟨x1, g1, h⟩ := h
  refine wp_gf (n := 4) dX0_isLater_1 rfl fl_X0_13 g1 ?_
  refine wp_iload_n (n := 5) (i := 1) (q := 1) dX0_isLater_4 rfl rfl rfl ?_
  obtain ⟨x5, g5, h⟩ := h
  refine wp_gI (n := 6) dX0_isLater_5 rfl g5 ?_
  refine wp_aload_n (n := 7) (i := 0) (q := 0) dX0_isLater_6 rfl rfl rfl ?_
  obtain ⟨x7, g7, h⟩ := h
  refine wp_gf (n := 10) dX0_isLater_7 rfl fl_X0_13 g7 ?_
  refine wp_iload_n (n := 11) (i := 2) (q := 2) dX0_isLater_10 rfl rfl rfl ?_
  obtain ⟨x11, g11, h⟩ := h
  refine wp_gI (n := 12) dX0_isLater_11 rfl g11 ?_
  refine wp_icmp_gt (n := 15) (t := 35) dX0_isLater_12 rfl (by decide) (fun c12 => ?_) (fun c12 => ?_)
  · replace h := h.1 c12
    refine wp_iconst (n := 36) (v := 1) dX0_isLater_35 rfl (by decide) ?_
    refine wp_goto (t := 40) dX0_isLater_36 (by decide) ?_
    exact wp_zreturn dX0_isLater_40 rfl (by decide) h
  · replace h := h.2 c12
    refine wp_aload_n (n := 16) (i := 0) (q := 0) dX0_isLater_15 rfl rfl rfl ?_
    obtain ⟨x16, g16, h⟩ := h
    refine wp_gf (n := 19) dX0_isLater_16 rfl fl_X0_13 g16 ?_
    refine wp_iload_n (n := 20) (i := 1) (q := 1) dX0_isLater_19 rfl rfl rfl ?_
    obtain ⟨x20, g20, h⟩ := h
    refine wp_gI (n := 21) dX0_isLater_20 rfl g20 ?_
    refine wp_aload_n (n := 22) (i := 0) (q := 0) dX0_isLater_21 rfl rfl rfl ?_
    obtain ⟨x22, g22, h⟩ := h
    refine wp_gf (n := 25) dX0_isLater_22 rfl fl_X0_13 g22 ?_
    refine wp_iload_n (n := 26) (i := 2) (q := 2) dX0_isLater_25 rfl rfl rfl ?_
    obtain ⟨x26, g26, h⟩ := h
    refine wp_gI (n := 27) dX0_isLater_26 rfl g26 ?_
    refine wp_icmp_ne (n := 30) (t := 39) dX0_isLater_27 rfl (by decide) (fun c27 => ?_) (fun c27 => ?_)
    · replace h := h.1 c27
      refine wp_iconst (n := 40) (v := 0) dX0_isLater_39 rfl (by decide) ?_
      exact wp_zreturn dX0_isLater_40 rfl (by decide) h
    · replace h := h.2 c27
      refine wp_iload_n (n := 31) (i := 1) (q := 1) dX0_isLater_30 rfl rfl rfl ?_
      refine wp_iload_n (n := 32) (i := 2) (q := 2) dX0_isLater_31 rfl rfl rfl ?_
      refine wp_icmp_ge (n := 35) (t := 39) dX0_isLater_32 rfl (by decide) (fun c32 => ?_) (fun c32 => ?_)
      · replace h := h.1 c32
        refine wp_iconst (n := 40) (v := 0) dX0_isLater_39 rfl (by decide) ?_
        exact wp_zreturn dX0_isLater_40 rfl (by decide) h
      · replace h := h.2 c32
        refine wp_iconst (n := 36) (v := 1) dX0_isLater_35 rfl (by decide) ?_
        refine wp_goto (t := 40) dX0_isLater_36 (by decide) ?_
        exact wp_zreturn dX0_isLater_40 rfl (by decide) h
set_option maxHeartbeats 1000000 in
theorem sg_X0_dies_0 {h0 : Nat} {r1 : Option Nat} {i2 : Int32} {rc rs : Nat} {QR : Option aV → aW → Prop} {QX : String → aW → Prop} {w : aW} (h : ∃ a1 : Nat, r1 = some a1 ∧ ∃ x1 : Int32, gf w a1 [4, 5, 6, 7] 3 (vI x1) ∧ wp (KX0_dies) rc rs QR QX 5 [(0, vR (some h0)), (1, vR (some a1)), (2, vI i2), (3, vI x1)] [] w) : wp (KX0_dies) rc rs QR QX 0 [(0, vR (some h0)), (1, vR r1), (2, vI i2)] [] w := by
  refine wp_aload_n (n := 1) (i := 1) (q := 1) dX0_dies_0 rfl rfl rfl ?_
  obtain ⟨a1, ea1, h⟩ := h
  rw [ea1]
  obtain ⟨x1, g1, h⟩ := h
  refine wp_gf (n := 4) dX0_dies_1 rfl fl_X0_122 g1 ?_
  refine wp_istore_n (n := 5) (i := 3) (ls' := [(3, vI x1), (0, vR (some h0)), (1, vR (some a1)), (2, vI i2)]) dX0_dies_4 rfl rfl (Nat.le_of_ble_eq_true rfl) rfl ?_
  exact wp_sub [1, 2, 3, 0] rfl h
set_option maxHeartbeats 1000000 in
theorem sg_X0_dies_5 {h0 : Nat} {r1 : Option Nat} {i2 : Int32} {i3 : Int32} {rc rs : Nat} {QR : Option aV → aW → Prop} {QX : String → aW → Prop} {w : aW} (h : (i3 ≤ 0 → ∃ a46 : Nat, r1 = some a46 ∧ ∃ x46 : Nat, gf w a46 [4, 5, 6, 7] 2 (vR (some x46)) ∧ pI w x46 i3 i2 (fun w51 => ∃ x54 : Int32, gf w51 a46 [4, 5, 6, 7] 3 (vI x54) ∧ pf w51 a46 [4, 5, 6, 7] 3 (vI (x54 + 1)) (fun w59 => QR none w59))) ∧ (¬ i3 ≤ 0 → ∃ a12 : Nat, r1 = some a12 ∧ ∃ x12 : Nat, gf w a12 [4, 5, 6, 7] 2 (vR (some x12)) ∧ ∃ x18 : Int32, gI w x12 (i3 - 1) x18 ∧ isO w h0 0 ∧ ct (KX0_isLater) 0 0 [vR (some h0), vI i2, vI x18] w (fun v19 w19 => ∃ x19 : Int32, v19 = some (vI x19) ∧ (x19 = 0 → ∃ x46 : Nat, gf w19 a12 [4, 5, 6, 7] 2 (vR (some x46)) ∧ pI w19 x46 i3 i2 (fun w51 => ∃ x54 : Int32, gf w51 a12 [4, 5, 6, 7] 3 (vI x54) ∧ pf w51 a12 [4, 5, 6, 7] 3 (vI (x54 + 1)) (fun w59 => QR none w59))) ∧ (¬ x19 = 0 → ∃ x26 : Nat, gf w19 a12 [4, 5, 6, 7] 2 (vR (some x26)) ∧ ∃ x31 : Nat, gf w19 a12 [4, 5, 6, 7] 2 (vR (some x31)) ∧ ∃ x37 : Int32, gI w19 x31 (i3 - 1) x37 ∧ pI w19 x26 i3 x37 (fun w38 => wp (KX0_dies) rc rs QR QX 5 [(0, vR (some h0)), (1, vR (some a12)), (2, vI i2), (3, vI (i3 + (-1)))] [] w38))) (fun E19 w19 => False))) : wp (KX0_dies) rc rs QR QX 5 [(0, vR (some h0)), (1, vR r1), (2, vI i2), (3, vI i3)] [] w := by
  refine wp_iload_n (n := 6) (i := 3) (q := 3) dX0_dies_5 rfl rfl rfl ?_
  refine wp_if_le (n := 9) (t := 45) dX0_dies_6 rfl (by decide) (fun c6 => ?_) (fun c6 => ?_)
  · replace h := h.1 c6
    refine wp_aload_n (n := 46) (i := 1) (q := 1) dX0_dies_45 rfl rfl rfl ?_
    obtain ⟨a46, ea46, h⟩ := h
    rw [ea46]
    obtain ⟨x46, g46, h⟩ := h
    refine wp_gf (n := 49) dX0_dies_46 rfl fl_X0_125 g46 ?_
    refine wp_iload_n (n := 50) (i := 3) (q := 3) dX0_dies_49 rfl rfl rfl ?_
    refine wp_iload_n (n := 51) (i := 2) (q := 2) dX0_dies_50 rfl rfl rfl ?_
    refine wp_pI (n := 52) dX0_dies_51 rfl (pI_mono h (fun w51 h => ?_))
    refine wp_aload_n (n := 53) (i := 1) (q := 1) dX0_dies_52 rfl rfl rfl ?_
    refine wp_dup (n := 54) dX0_dies_53 rfl rfl ?_
    obtain ⟨x54, g54, h⟩ := h
    refine wp_gf (n := 57) dX0_dies_54 rfl fl_X0_122 g54 ?_
    refine wp_iconst (n := 58) (v := 1) dX0_dies_57 rfl (by decide) ?_
    refine wp_iadd (n := 59) dX0_dies_58 rfl ?_
    refine wp_pf (n := 62) dX0_dies_59 rfl (pt_X0_122 _) rfl rfl (pf_mono h (fun w59 h => ?_))
    exact wp_return dX0_dies_62 rfl h
  · replace h := h.2 c6
    refine wp_aload_n (n := 10) (i := 0) (q := 0) dX0_dies_9 rfl rfl rfl ?_
    refine wp_iload_n (n := 11) (i := 2) (q := 2) dX0_dies_10 rfl rfl rfl ?_
    refine wp_aload_n (n := 12) (i := 1) (q := 1) dX0_dies_11 rfl rfl rfl ?_
    obtain ⟨a12, ea12, h⟩ := h
    rw [ea12]
    obtain ⟨x12, g12, h⟩ := h
    refine wp_gf (n := 15) dX0_dies_12 rfl fl_X0_125 g12 ?_
    refine wp_iload_n (n := 16) (i := 3) (q := 3) dX0_dies_15 rfl rfl rfl ?_
    refine wp_iconst (n := 17) (v := 1) dX0_dies_16 rfl (by decide) ?_
    refine wp_isub (n := 18) dX0_dies_17 rfl ?_
    obtain ⟨x18, g18, h⟩ := h
    refine wp_gI (n := 19) dX0_dies_18 rfl g18 ?_
    obtain ⟨⟨fs19, o19⟩, h⟩ := h
    refine wp_call (n := 22) (K' := KX0_isLater) (rc' := rc) (rs' := rs) (aRun_V (K' := KX0_isLater) (As := [vI i2, vI x18]) (rest := []) (b := h0) (c0 := .inr (0, fs19)) dX0_dies_19 (aCal_of kf_X0_isLater (Nat.le_of_ble_eq_true rfl)) q512 q514 qs11 ar_X0_isLater o19 (by decide : 0 < 9) rfl (Nat.le_of_ble_eq_true rfl)) rfl (Nat.le_of_eq (Nat.zero_add _)) (Nat.le_of_eq (Nat.zero_add _)) (fun v19 w19 h => ?_) (fun E19 w19 h => ?_) h
    · obtain ⟨x19, rfl, h⟩ := h
      refine wp_if_eq (n := 25) (t := 45) dX0_dies_22 rfl (by decide) (fun c22 => ?_) (fun c22 => ?_)
      · replace h := h.1 c22
        refine wp_aload_n (n := 46) (i := 1) (q := 1) dX0_dies_45 rfl rfl rfl ?_
        obtain ⟨x46, g46, h⟩ := h
        refine wp_gf (n := 49) dX0_dies_46 rfl fl_X0_125 g46 ?_
        refine wp_iload_n (n := 50) (i := 3) (q := 3) dX0_dies_49 rfl rfl rfl ?_
        refine wp_iload_n (n := 51) (i := 2) (q := 2) dX0_dies_50 rfl rfl rfl ?_
        refine wp_pI (n := 52) dX0_dies_51 rfl (pI_mono h (fun w51 h => ?_))
        refine wp_aload_n (n := 53) (i := 1) (q := 1) dX0_dies_52 rfl rfl rfl ?_
        refine wp_dup (n := 54) dX0_dies_53 rfl rfl ?_
        obtain ⟨x54, g54, h⟩ := h
        refine wp_gf (n := 57) dX0_dies_54 rfl fl_X0_122 g54 ?_
        refine wp_iconst (n := 58) (v := 1) dX0_dies_57 rfl (by decide) ?_
        refine wp_iadd (n := 59) dX0_dies_58 rfl ?_
        refine wp_pf (n := 62) dX0_dies_59 rfl (pt_X0_122 _) rfl rfl (pf_mono h (fun w59 h => ?_))
        exact wp_return dX0_dies_62 rfl h
      · replace h := h.2 c22
        refine wp_aload_n (n := 26) (i := 1) (q := 1) dX0_dies_25 rfl rfl rfl ?_
        obtain ⟨x26, g26, h⟩ := h
        refine wp_gf (n := 29) dX0_dies_26 rfl fl_X0_125 g26 ?_
        refine wp_iload_n (n := 30) (i := 3) (q := 3) dX0_dies_29 rfl rfl rfl ?_
        refine wp_aload_n (n := 31) (i := 1) (q := 1) dX0_dies_30 rfl rfl rfl ?_
        obtain ⟨x31, g31, h⟩ := h
        refine wp_gf (n := 34) dX0_dies_31 rfl fl_X0_125 g31 ?_
        refine wp_iload_n (n := 35) (i := 3) (q := 3) dX0_dies_34 rfl rfl rfl ?_
        refine wp_iconst (n := 36) (v := 1) dX0_dies_35 rfl (by decide) ?_
        refine wp_isub (n := 37) dX0_dies_36 rfl ?_
        obtain ⟨x37, g37, h⟩ := h
        refine wp_gI (n := 38) dX0_dies_37 rfl g37 ?_
        refine wp_pI (n := 39) dX0_dies_38 rfl (pI_mono h (fun w38 h => ?_))
        refine wp_iinc (n := 42) (i := 3) (q := 3) (v := i3 + (-1)) (ls' := [(3, vI (i3 + (-1))), (0, vR (some h0)), (1, vR (some a12)), (2, vI i2)]) dX0_dies_39 rfl rfl rfl (Nat.le_of_ble_eq_true rfl) rfl ?_
        refine wp_goto (t := 5) dX0_dies_42 (by decide) ?_
        exact wp_sub [1, 2, 3, 0] rfl h
    · exact h.elim
set_option maxHeartbeats 1000000 in
theorem sg_X0_leaves_0 {h0 : Nat} {r1 : Option Nat} {i2 : Int32} {rc rs : Nat} {QR : Option aV → aW → Prop} {QX : String → aW → Prop} {w : aW} (h : ∃ a1 : Nat, r1 = some a1 ∧ ∃ x1 : Nat, gf w a1 [4, 5] 1 (vR (some x1)) ∧ ∃ x5 : Int32, gI w x1 i2 x5 ∧ ∃ x8 : Nat, gf w a1 [4, 5] 1 (vR (some x8)) ∧ pI w x8 i2 (-1) (fun w13 => (¬ x5 = (-1) → ∃ x21 : Nat, gf w13 h0 [0] 1 (vR (some x21)) ∧ ∃ x25 : Int32, gI w13 x21 x5 x25 ∧ ck w13 a1 [4, 5] ∧ ct (KX4_prevMade) 0 0 [vR (some a1)] w13 (fun v27 w27 => ∃ x27 : Int32, v27 = some (vI x27) ∧ (x25 ≤ x27 → isO w27 h0 0 ∧ ct (KX0_dies) 0 0 [vR (some h0), vR (some a1), vI x5] w27 (fun v44 w44 => v44 = none ∧ QR none w44) (fun E44 w44 => False)) ∧ (¬ x25 ≤ x27 → isO w27 h0 0 ∧ ct (KX0_frees) 0 0 [vR (some h0), vI x5] w27 (fun v35 w35 => v35 = none ∧ QR none w35) (fun E35 w35 => False))) (fun E27 w27 => False)) ∧ (x5 = (-1) → QR none w13))) : wp (KX0_leaves) rc rs QR QX 0 [(0, vR (some h0)), (1, vR r1), (2, vI i2)] [] w := by
  refine wp_aload_n (n := 1) (i := 1) (q := 1) dX0_leaves_0 rfl rfl rfl ?_
  obtain ⟨a1, ea1, h⟩ := h
  rw [ea1]
  obtain ⟨x1, g1, h⟩ := h
  refine wp_gf (n := 4) dX0_leaves_1 rfl fl_X0_132 g1 ?_
  refine wp_iload_n (n := 5) (i := 2) (q := 2) dX0_leaves_4 rfl rfl rfl ?_
  obtain ⟨x5, g5, h⟩ := h
  refine wp_gI (n := 6) dX0_leaves_5 rfl g5 ?_
  refine wp_istore_n (n := 7) (i := 3) (ls' := [(3, vI x5), (0, vR (some h0)), (1, vR (some a1)), (2, vI i2)]) dX0_leaves_6 rfl rfl (Nat.le_of_ble_eq_true rfl) rfl ?_
  refine wp_aload_n (n := 8) (i := 1) (q := 2) dX0_leaves_7 rfl rfl rfl ?_
  obtain ⟨x8, g8, h⟩ := h
  refine wp_gf (n := 11) dX0_leaves_8 rfl fl_X0_132 g8 ?_
  refine wp_iload_n (n := 12) (i := 2) (q := 3) dX0_leaves_11 rfl rfl rfl ?_
  refine wp_iconst (n := 13) (v := (-1)) dX0_leaves_12 rfl (by decide) ?_
  refine wp_pI (n := 14) dX0_leaves_13 rfl (pI_mono h (fun w13 h => ?_))
  refine wp_iload_n (n := 15) (i := 3) (q := 0) dX0_leaves_14 rfl rfl rfl ?_
  refine wp_iconst (n := 16) (v := (-1)) dX0_leaves_15 rfl (by decide) ?_
  refine wp_icmp_ne (n := 19) (t := 20) dX0_leaves_16 rfl (by decide) (fun c16 => ?_) (fun c16 => ?_)
  · replace h := h.1 c16
    refine wp_aload_n (n := 21) (i := 0) (q := 1) dX0_leaves_20 rfl rfl rfl ?_
    obtain ⟨x21, g21, h⟩ := h
    refine wp_gf (n := 24) dX0_leaves_21 rfl fl_X0_13 g21 ?_
    refine wp_iload_n (n := 25) (i := 3) (q := 0) dX0_leaves_24 rfl rfl rfl ?_
    obtain ⟨x25, g25, h⟩ := h
    refine wp_gI (n := 26) dX0_leaves_25 rfl g25 ?_
    refine wp_aload_n (n := 27) (i := 1) (q := 2) dX0_leaves_26 rfl rfl rfl ?_
    obtain ⟨⟨cc27, o27, kk27⟩, h⟩ := h
    have run27 : aRun (KX0_leaves) (KX4_prevMade) 27 [vR (some a1)] [vR (some a1), vI x25] [vI x25] w13 := by
      simp only [List.mem_cons, List.not_mem_nil, or_false] at kk27
      rcases kk27 with kk27 | kk27
      · obtain ⟨fs27, rfl⟩ := kd_o kk27 (by decide)
        exact (aRun_U (K' := KX4_prevMade) (As := []) (rest := [vI x25]) (b := a1) (x := ⟨"DeadListPool$Folder", "prevMade", "()I"⟩) (owner := "DeadListPool$Holder") (c0 := .inr (4, fs27)) dX0_leaves_27 (aCal_of kf_X4_prevMade (Nat.le_of_ble_eq_true rfl)) rfl q497 q498 q501 q502 (Or.inr q499) ⟨by decide, by decide⟩ ar_X4_prevMade o27 (by decide : 4 < 9) rfl (Nat.le_of_ble_eq_true rfl))
      · obtain ⟨fs27, rfl⟩ := kd_o kk27 (by decide)
        exact (aRun_U (K' := KX4_prevMade) (As := []) (rest := [vI x25]) (b := a1) (x := ⟨"DeadListPool$Folder", "prevMade", "()I"⟩) (owner := "DeadListPool$Holder") (c0 := .inr (5, fs27)) dX0_leaves_27 (aCal_of kf_X4_prevMade (Nat.le_of_ble_eq_true rfl)) rfl q497 q498 q500 q502 (Or.inr q499) ⟨by decide, by decide⟩ ar_X4_prevMade o27 (by decide : 5 < 9) rfl (Nat.le_of_ble_eq_true rfl))
    refine wp_call (n := 30) (K' := KX4_prevMade) (rc' := rc) (rs' := rs) run27 rfl (Nat.le_of_eq (Nat.zero_add _)) (Nat.le_of_eq (Nat.zero_add _)) (fun v27 w27 h => ?_) (fun E27 w27 h => ?_) h
    · obtain ⟨x27, rfl, h⟩ := h
      refine wp_icmp_le (n := 33) (t := 41) dX0_leaves_30 rfl (by decide) (fun c30 => ?_) (fun c30 => ?_)
      · replace h := h.1 c30
        refine wp_aload_n (n := 42) (i := 0) (q := 1) dX0_leaves_41 rfl rfl rfl ?_
        refine wp_aload_n (n := 43) (i := 1) (q := 2) dX0_leaves_42 rfl rfl rfl ?_
        refine wp_iload_n (n := 44) (i := 3) (q := 0) dX0_leaves_43 rfl rfl rfl ?_
        obtain ⟨⟨fs44, o44⟩, h⟩ := h
        refine wp_call (n := 47) (K' := KX0_dies) (rc' := rc) (rs' := rs) (aRun_V (K' := KX0_dies) (As := [vR (some a1), vI x5]) (rest := []) (b := h0) (c0 := .inr (0, fs44)) dX0_leaves_44 (aCal_of kf_X0_dies (Nat.le_of_ble_eq_true rfl)) q508 q510 qs10 ar_X0_dies o44 (by decide : 0 < 9) rfl (Nat.le_of_ble_eq_true rfl)) rfl (Nat.le_of_eq (Nat.zero_add _)) (Nat.le_of_eq (Nat.zero_add _)) (fun v44 w44 h => ?_) (fun E44 w44 h => ?_) h
        · obtain ⟨rfl, h⟩ := h
          exact wp_return dX0_leaves_47 rfl h
        · exact h.elim
      · replace h := h.2 c30
        refine wp_aload_n (n := 34) (i := 0) (q := 1) dX0_leaves_33 rfl rfl rfl ?_
        refine wp_iload_n (n := 35) (i := 3) (q := 0) dX0_leaves_34 rfl rfl rfl ?_
        obtain ⟨⟨fs35, o35⟩, h⟩ := h
        refine wp_call (n := 38) (K' := KX0_frees) (rc' := rc) (rs' := rs) (aRun_V (K' := KX0_frees) (As := [vI x5]) (rest := []) (b := h0) (c0 := .inr (0, fs35)) dX0_leaves_35 (aCal_of kf_X0_frees (Nat.le_of_ble_eq_true rfl)) q504 q506 qs9 ar_X0_frees o35 (by decide : 0 < 9) rfl (Nat.le_of_ble_eq_true rfl)) rfl (Nat.le_of_eq (Nat.zero_add _)) (Nat.le_of_eq (Nat.zero_add _)) (fun v35 w35 h => ?_) (fun E35 w35 h => ?_) h
        · obtain ⟨rfl, h⟩ := h
          refine wp_goto (t := 47) dX0_leaves_38 (by decide) ?_
          exact wp_return dX0_leaves_47 rfl h
        · exact h.elim
    · exact h.elim
  · replace h := h.2 c16
    exact wp_return dX0_leaves_19 rfl h
set_option maxHeartbeats 1000000 in
theorem sg_X0_writes_0 {h0 : Nat} {r1 : Option Nat} {i2 : Int32} {i3 : Int32} {rc rs : Nat} {QR : Option aV → aW → Prop} {QX : String → aW → Prop} {w : aW} (h : isO w h0 0 ∧ ct (KX0_leastBlock) 0 0 [vR (some h0)] w (fun v1 w1 => ∃ x1 : Int32, v1 = some (vI x1) ∧ 1 ≤ rc ∧ 8 ≤ rs ∧ isO w1 h0 0 ∧ ct (KX0_spaceOf) 1 8 [vR (some h0), vR r1] w1 (fun v8 w8 => ∃ x8 : Int64, v8 = some (vL x8) ∧ ∃ a15 : Nat, r1 = some a15 ∧ ∃ x15 : Nat, gf w8 a15 [4, 5] 1 (vR (some x15)) ∧ ∃ x19 : Int32, gI w8 x15 i2 x19 ∧ (¬ x19 = (-1) → ∃ x29 : Nat, gf w8 h0 [0] 0 (vR (some x29)) ∧ ∃ x33 : Nat, gf w8 a15 [4, 5] 1 (vR (some x33)) ∧ ∃ x37 : Int32, gI w8 x33 i2 x37 ∧ ∃ x38 : Int32, gI w8 x29 x37 x38 ∧ (x1 = (-1) → QR (some (vI (-4))) w8) ∧ (¬ x1 = (-1) → ((isO w8 a15 4 ∧ ct (KX5_mayHave) 0 0 [vR (some a15), vL ((x8 + (Int32.toInt64 i3)) - (Int32.toInt64 x38))] w8 (fun v52 w52 => ∃ x52 : Int32, v52 = some (vI x52) ∧ (¬ x52 = 0 → isO w52 h0 0 ∧ ct (KX0_leaves) 0 0 [vR (some h0), vR (some a15), vI i2] w52 (fun v64 w64 => v64 = none ∧ ∃ x68 : Nat, gf w64 h0 [0] 0 (vR (some x68)) ∧ pI w64 x68 x1 i3 (fun w74 => ∃ x76 : Nat, gf w74 h0 [0] 1 (vR (some x76)) ∧ ∃ x82 : Int32, gf w74 h0 [0] 2 (vI x82) ∧ pI w74 x76 x1 x82 (fun w85 => ∃ x87 : Nat, gf w85 a15 [4, 5] 1 (vR (some x87)) ∧ pI w85 x87 i2 x1 (fun w93 => QR (some (vI x1)) w93)))) (fun E64 w64 => False)) ∧ (x52 = 0 → QR (some (vI (-4))) w52)) (fun E52 w52 => False)) ∨ (isO w8 a15 5 ∧ ct (KX6_mayHave) 0 0 [vR (some a15), vL ((x8 + (Int32.toInt64 i3)) - (Int32.toInt64 x38))] w8 (fun v52 w52 => ∃ x52 : Int32, v52 = some (vI x52) ∧ (¬ x52 = 0 → isO w52 h0 0 ∧ ct (KX0_leaves) 0 0 [vR (some h0), vR (some a15), vI i2] w52 (fun v64 w64 => v64 = none ∧ ∃ x68 : Nat, gf w64 h0 [0] 0 (vR (some x68)) ∧ pI w64 x68 x1 i3 (fun w74 => ∃ x76 : Nat, gf w74 h0 [0] 1 (vR (some x76)) ∧ ∃ x82 : Int32, gf w74 h0 [0] 2 (vI x82) ∧ pI w74 x76 x1 x82 (fun w85 => ∃ x87 : Nat, gf w85 a15 [4, 5] 1 (vR (some x87)) ∧ pI w85 x87 i2 x1 (fun w93 => QR (some (vI x1)) w93)))) (fun E64 w64 => False)) ∧ (x52 = 0 → QR (some (vI (-4))) w52)) (fun E52 w52 => False))))) ∧ (x19 = (-1) → (x1 = (-1) → QR (some (vI (-4))) w8) ∧ (¬ x1 = (-1) → ((isO w8 a15 4 ∧ ct (KX5_mayHave) 0 0 [vR (some a15), vL ((x8 + (Int32.toInt64 i3)) - (Int32.toInt64 0))] w8 (fun v52 w52 => ∃ x52 : Int32, v52 = some (vI x52) ∧ (¬ x52 = 0 → isO w52 h0 0 ∧ ct (KX0_leaves) 0 0 [vR (some h0), vR (some a15), vI i2] w52 (fun v64 w64 => v64 = none ∧ ∃ x68 : Nat, gf w64 h0 [0] 0 (vR (some x68)) ∧ pI w64 x68 x1 i3 (fun w74 => ∃ x76 : Nat, gf w74 h0 [0] 1 (vR (some x76)) ∧ ∃ x82 : Int32, gf w74 h0 [0] 2 (vI x82) ∧ pI w74 x76 x1 x82 (fun w85 => ∃ x87 : Nat, gf w85 a15 [4, 5] 1 (vR (some x87)) ∧ pI w85 x87 i2 x1 (fun w93 => QR (some (vI x1)) w93)))) (fun E64 w64 => False)) ∧ (x52 = 0 → QR (some (vI (-4))) w52)) (fun E52 w52 => False)) ∨ (isO w8 a15 5 ∧ ct (KX6_mayHave) 0 0 [vR (some a15), vL ((x8 + (Int32.toInt64 i3)) - (Int32.toInt64 0))] w8 (fun v52 w52 => ∃ x52 : Int32, v52 = some (vI x52) ∧ (¬ x52 = 0 → isO w52 h0 0 ∧ ct (KX0_leaves) 0 0 [vR (some h0), vR (some a15), vI i2] w52 (fun v64 w64 => v64 = none ∧ ∃ x68 : Nat, gf w64 h0 [0] 0 (vR (some x68)) ∧ pI w64 x68 x1 i3 (fun w74 => ∃ x76 : Nat, gf w74 h0 [0] 1 (vR (some x76)) ∧ ∃ x82 : Int32, gf w74 h0 [0] 2 (vI x82) ∧ pI w74 x76 x1 x82 (fun w85 => ∃ x87 : Nat, gf w85 a15 [4, 5] 1 (vR (some x87)) ∧ pI w85 x87 i2 x1 (fun w93 => QR (some (vI x1)) w93)))) (fun E64 w64 => False)) ∧ (x52 = 0 → QR (some (vI (-4))) w52)) (fun E52 w52 => False)))))) (fun E8 w8 => (E8 = "java/lang/NullPointerException" ∧ QX "java/lang/NullPointerException" w8))) (fun E1 w1 => False)) : wp (KX0_writes) rc rs QR QX 0 [(0, vR (some h0)), (1, vR r1), (2, vI i2), (3, vI i3)] [] w := by
  refine wp_aload_n (n := 1) (i := 0) (q := 0) dX0_writes_0 rfl rfl rfl ?_
  obtain ⟨⟨fs1, o1⟩, h⟩ := h
  refine wp_call (n := 4) (K' := KX0_leastBlock) (rc' := rc) (rs' := rs) (aRun_V (K' := KX0_leastBlock) (As := []) (rest := []) (b := h0) (c0 := .inr (0, fs1)) dX0_writes_1 (aCal_of kf_X0_leastBlock (Nat.le_of_ble_eq_true rfl)) q476 q478 qs6 ar_X0_leastBlock o1 (by decide : 0 < 9) rfl (Nat.le_of_ble_eq_true rfl)) rfl (Nat.le_of_eq (Nat.zero_add _)) (Nat.le_of_eq (Nat.zero_add _)) (fun v1 w1 h => ?_) (fun E1 w1 h => ?_) h
  · obtain ⟨x1, rfl, h⟩ := h
    refine wp_istore (n := 6) (i := 4) (ls' := [(4, vI x1), (0, vR (some h0)), (1, vR r1), (2, vI i2), (3, vI i3)]) dX0_writes_4 rfl (Nat.le_of_ble_eq_true rfl) rfl ?_
    refine wp_aload_n (n := 7) (i := 0) (q := 1) dX0_writes_6 rfl rfl rfl ?_
    refine wp_aload_n (n := 8) (i := 1) (q := 2) dX0_writes_7 rfl rfl rfl ?_
    obtain ⟨b8, bb8, h⟩ := h
    obtain ⟨⟨fs8, o8⟩, h⟩ := h
    refine wp_call (n := 11) (K' := KX0_spaceOf) (rc' := rc - 1) (rs' := rs - 8) (aRun_V (K' := KX0_spaceOf) (As := [vR r1]) (rest := []) (b := h0) (c0 := .inr (0, fs8)) dX0_writes_8 (aCal_of kf_X0_spaceOf (Nat.le_of_ble_eq_true rfl)) q480 q482 qs7 ar_X0_spaceOf o8 (by decide : 0 < 9) rfl (Nat.le_of_ble_eq_true rfl)) rfl (by omega) (by omega) (fun v8 w8 h => ?_) (fun E8 w8 h => ?_) h
    · obtain ⟨x8, rfl, h⟩ := h
      refine wp_iload_n (n := 12) (i := 3) (q := 4) dX0_writes_11 rfl rfl rfl ?_
      refine wp_i2l (n := 13) dX0_writes_12 rfl ?_
      refine wp_ladd (n := 14) dX0_writes_13 rfl ?_
      refine wp_aload_n (n := 15) (i := 1) (q := 2) dX0_writes_14 rfl rfl rfl ?_
      obtain ⟨a15, ea15, h⟩ := h
      rw [ea15]
      obtain ⟨x15, g15, h⟩ := h
      refine wp_gf (n := 18) dX0_writes_15 rfl fl_X0_132 g15 ?_
      refine wp_iload_n (n := 19) (i := 2) (q := 3) dX0_writes_18 rfl rfl rfl ?_
      obtain ⟨x19, g19, h⟩ := h
      refine wp_gI (n := 20) dX0_writes_19 rfl g19 ?_
      refine wp_iconst (n := 21) (v := (-1)) dX0_writes_20 rfl (by decide) ?_
      refine wp_icmp_ne (n := 24) (t := 28) dX0_writes_21 rfl (by decide) (fun c21 => ?_) (fun c21 => ?_)
      · replace h := h.1 c21
        refine wp_aload_n (n := 29) (i := 0) (q := 1) dX0_writes_28 rfl rfl rfl ?_
        obtain ⟨x29, g29, h⟩ := h
        refine wp_gf (n := 32) dX0_writes_29 rfl fl_X0_9 g29 ?_
        refine wp_aload_n (n := 33) (i := 1) (q := 2) dX0_writes_32 rfl rfl rfl ?_
        obtain ⟨x33, g33, h⟩ := h
        refine wp_gf (n := 36) dX0_writes_33 rfl fl_X0_132 g33 ?_
        refine wp_iload_n (n := 37) (i := 2) (q := 3) dX0_writes_36 rfl rfl rfl ?_
        obtain ⟨x37, g37, h⟩ := h
        refine wp_gI (n := 38) dX0_writes_37 rfl g37 ?_
        obtain ⟨x38, g38, h⟩ := h
        refine wp_gI (n := 39) dX0_writes_38 rfl g38 ?_
        refine wp_i2l (n := 40) dX0_writes_39 rfl ?_
        refine wp_lsub (n := 41) dX0_writes_40 rfl ?_
        refine wp_lstore (n := 43) (i := 5) (ls' := [(5, vL ((x8 + (Int32.toInt64 i3)) - (Int32.toInt64 x38))), (4, vI x1), (0, vR (some h0)), (1, vR (some a15)), (2, vI i2), (3, vI i3)]) dX0_writes_41 rfl (Nat.le_of_ble_eq_true rfl) rfl ?_
        refine wp_iload (n := 45) (i := 4) (q := 1) dX0_writes_43 rfl rfl ?_
        refine wp_iconst (n := 46) (v := (-1)) dX0_writes_45 rfl (by decide) ?_
        refine wp_icmp_eq (n := 49) (t := 58) dX0_writes_46 rfl (by decide) (fun c46 => ?_) (fun c46 => ?_)
        · replace h := h.1 c46
          refine wp_bipush (n := 60) (v := (-4)) dX0_writes_58 rfl (by decide) ?_
          exact wp_ireturn dX0_writes_60 rfl h
        · replace h := h.2 c46
          refine wp_aload_n (n := 50) (i := 1) (q := 3) dX0_writes_49 rfl rfl rfl ?_
          refine wp_lload (n := 52) (i := 5) (q := 0) dX0_writes_50 rfl rfl ?_
          rcases h with h | h
          · obtain ⟨⟨fs52, o52⟩, h⟩ := h
            refine wp_call (n := 55) (K' := KX5_mayHave) (rc' := rc - 1) (rs' := rs - 8) (aRun_V (K' := KX5_mayHave) (As := [vL ((x8 + (Int32.toInt64 i3)) - (Int32.toInt64 x38))]) (rest := []) (b := a15) (c0 := .inr (4, fs52)) dX0_writes_52 (aCal_of kf_X5_mayHave (Nat.le_of_ble_eq_true rfl)) q484 q485 q486 ar_X5_mayHave o52 (by decide : 4 < 9) rfl (Nat.le_of_ble_eq_true rfl)) rfl (Nat.le_of_eq (Nat.zero_add _)) (Nat.le_of_eq (Nat.zero_add _)) (fun v52 w52 h => ?_) (fun E52 w52 h => ?_) h
            · obtain ⟨x52, rfl, h⟩ := h
              refine wp_if_ne (n := 58) (t := 61) dX0_writes_55 rfl (by decide) (fun c55 => ?_) (fun c55 => ?_)
              · replace h := h.1 c55
                refine wp_aload_n (n := 62) (i := 0) (q := 2) dX0_writes_61 rfl rfl rfl ?_
                refine wp_aload_n (n := 63) (i := 1) (q := 3) dX0_writes_62 rfl rfl rfl ?_
                refine wp_iload_n (n := 64) (i := 2) (q := 4) dX0_writes_63 rfl rfl rfl ?_
                obtain ⟨⟨fs64, o64⟩, h⟩ := h
                refine wp_call (n := 67) (K' := KX0_leaves) (rc' := rc - 1) (rs' := rs - 8) (aRun_V (K' := KX0_leaves) (As := [vR (some a15), vI i2]) (rest := []) (b := h0) (c0 := .inr (0, fs64)) dX0_writes_64 (aCal_of kf_X0_leaves (Nat.le_of_ble_eq_true rfl)) q493 q495 qs8 ar_X0_leaves o64 (by decide : 0 < 9) rfl (Nat.le_of_ble_eq_true rfl)) rfl (Nat.le_of_eq (Nat.zero_add _)) (Nat.le_of_eq (Nat.zero_add _)) (fun v64 w64 h => ?_) (fun E64 w64 h => ?_) h
                · obtain ⟨rfl, h⟩ := h
                  refine wp_aload_n (n := 68) (i := 0) (q := 2) dX0_writes_67 rfl rfl rfl ?_
                  obtain ⟨x68, g68, h⟩ := h
                  refine wp_gf (n := 71) dX0_writes_68 rfl fl_X0_9 g68 ?_
                  refine wp_iload (n := 73) (i := 4) (q := 1) dX0_writes_71 rfl rfl ?_
                  refine wp_iload_n (n := 74) (i := 3) (q := 5) dX0_writes_73 rfl rfl rfl ?_
                  refine wp_pI (n := 75) dX0_writes_74 rfl (pI_mono h (fun w74 h => ?_))
                  refine wp_aload_n (n := 76) (i := 0) (q := 2) dX0_writes_75 rfl rfl rfl ?_
                  obtain ⟨x76, g76, h⟩ := h
                  refine wp_gf (n := 79) dX0_writes_76 rfl fl_X0_13 g76 ?_
                  refine wp_iload (n := 81) (i := 4) (q := 1) dX0_writes_79 rfl rfl ?_
                  refine wp_aload_n (n := 82) (i := 0) (q := 2) dX0_writes_81 rfl rfl rfl ?_
                  obtain ⟨x82, g82, h⟩ := h
                  refine wp_gf (n := 85) dX0_writes_82 rfl fl_X0_16 g82 ?_
                  refine wp_pI (n := 86) dX0_writes_85 rfl (pI_mono h (fun w85 h => ?_))
                  refine wp_aload_n (n := 87) (i := 1) (q := 3) dX0_writes_86 rfl rfl rfl ?_
                  obtain ⟨x87, g87, h⟩ := h
                  refine wp_gf (n := 90) dX0_writes_87 rfl fl_X0_132 g87 ?_
                  refine wp_iload_n (n := 91) (i := 2) (q := 4) dX0_writes_90 rfl rfl rfl ?_
                  refine wp_iload (n := 93) (i := 4) (q := 1) dX0_writes_91 rfl rfl ?_
                  refine wp_pI (n := 94) dX0_writes_93 rfl (pI_mono h (fun w93 h => ?_))
                  refine wp_iload (n := 96) (i := 4) (q := 1) dX0_writes_94 rfl rfl ?_
                  exact wp_ireturn dX0_writes_96 rfl h
                · exact h.elim
              · replace h := h.2 c55
                refine wp_bipush (n := 60) (v := (-4)) dX0_writes_58 rfl (by decide) ?_
                exact wp_ireturn dX0_writes_60 rfl h
            · exact h.elim
          · obtain ⟨⟨fs52, o52⟩, h⟩ := h
            refine wp_call (n := 55) (K' := KX6_mayHave) (rc' := rc - 1) (rs' := rs - 8) (aRun_U (K' := KX6_mayHave) (As := [vL ((x8 + (Int32.toInt64 i3)) - (Int32.toInt64 x38))]) (rest := []) (b := a15) (x := ⟨"DeadListPool$Folder", "mayHave", "(J)Z"⟩) (owner := "DeadListPool$Folder") (c0 := .inr (5, fs52)) dX0_writes_52 (aCal_of kf_X6_mayHave (Nat.le_of_ble_eq_true rfl)) rfl q484 q487 q488 q489 (Or.inl ⟨_, _, _, q485, q492⟩) ⟨by decide, by decide⟩ ar_X6_mayHave o52 (by decide : 5 < 9) rfl (Nat.le_of_ble_eq_true rfl)) rfl (Nat.le_of_eq (Nat.zero_add _)) (Nat.le_of_eq (Nat.zero_add _)) (fun v52 w52 h => ?_) (fun E52 w52 h => ?_) h
            · obtain ⟨x52, rfl, h⟩ := h
              refine wp_if_ne (n := 58) (t := 61) dX0_writes_55 rfl (by decide) (fun c55 => ?_) (fun c55 => ?_)
              · replace h := h.1 c55
                refine wp_aload_n (n := 62) (i := 0) (q := 2) dX0_writes_61 rfl rfl rfl ?_
                refine wp_aload_n (n := 63) (i := 1) (q := 3) dX0_writes_62 rfl rfl rfl ?_
                refine wp_iload_n (n := 64) (i := 2) (q := 4) dX0_writes_63 rfl rfl rfl ?_
                obtain ⟨⟨fs64, o64⟩, h⟩ := h
                refine wp_call (n := 67) (K' := KX0_leaves) (rc' := rc - 1) (rs' := rs - 8) (aRun_V (K' := KX0_leaves) (As := [vR (some a15), vI i2]) (rest := []) (b := h0) (c0 := .inr (0, fs64)) dX0_writes_64 (aCal_of kf_X0_leaves (Nat.le_of_ble_eq_true rfl)) q493 q495 qs8 ar_X0_leaves o64 (by decide : 0 < 9) rfl (Nat.le_of_ble_eq_true rfl)) rfl (Nat.le_of_eq (Nat.zero_add _)) (Nat.le_of_eq (Nat.zero_add _)) (fun v64 w64 h => ?_) (fun E64 w64 h => ?_) h
                · obtain ⟨rfl, h⟩ := h
                  refine wp_aload_n (n := 68) (i := 0) (q := 2) dX0_writes_67 rfl rfl rfl ?_
                  obtain ⟨x68, g68, h⟩ := h
                  refine wp_gf (n := 71) dX0_writes_68 rfl fl_X0_9 g68 ?_
                  refine wp_iload (n := 73) (i := 4) (q := 1) dX0_writes_71 rfl rfl ?_
                  refine wp_iload_n (n := 74) (i := 3) (q := 5) dX0_writes_73 rfl rfl rfl ?_
                  refine wp_pI (n := 75) dX0_writes_74 rfl (pI_mono h (fun w74 h => ?_))
                  refine wp_aload_n (n := 76) (i := 0) (q := 2) dX0_writes_75 rfl rfl rfl ?_
                  obtain ⟨x76, g76, h⟩ := h
                  refine wp_gf (n := 79) dX0_writes_76 rfl fl_X0_13 g76 ?_
                  refine wp_iload (n := 81) (i := 4) (q := 1) dX0_writes_79 rfl rfl ?_
                  refine wp_aload_n (n := 82) (i := 0) (q := 2) dX0_writes_81 rfl rfl rfl ?_
                  obtain ⟨x82, g82, h⟩ := h
                  refine wp_gf (n := 85) dX0_writes_82 rfl fl_X0_16 g82 ?_
                  refine wp_pI (n := 86) dX0_writes_85 rfl (pI_mono h (fun w85 h => ?_))
                  refine wp_aload_n (n := 87) (i := 1) (q := 3) dX0_writes_86 rfl rfl rfl ?_
                  obtain ⟨x87, g87, h⟩ := h
                  refine wp_gf (n := 90) dX0_writes_87 rfl fl_X0_132 g87 ?_
                  refine wp_iload_n (n := 91) (i := 2) (q := 4) dX0_writes_90 rfl rfl rfl ?_
                  refine wp_iload (n := 93) (i := 4) (q := 1) dX0_writes_91 rfl rfl ?_
                  refine wp_pI (n := 94) dX0_writes_93 rfl (pI_mono h (fun w93 h => ?_))
                  refine wp_iload (n := 96) (i := 4) (q := 1) dX0_writes_94 rfl rfl ?_
                  exact wp_ireturn dX0_writes_96 rfl h
                · exact h.elim
              · replace h := h.2 c55
                refine wp_bipush (n := 60) (v := (-4)) dX0_writes_58 rfl (by decide) ?_
                exact wp_ireturn dX0_writes_60 rfl h
            · exact h.elim
      · replace h := h.2 c21
        refine wp_iconst (n := 25) (v := 0) dX0_writes_24 rfl (by decide) ?_
        refine wp_goto (t := 39) dX0_writes_25 (by decide) ?_
        refine wp_i2l (n := 40) dX0_writes_39 rfl ?_
        refine wp_lsub (n := 41) dX0_writes_40 rfl ?_
        refine wp_lstore (n := 43) (i := 5) (ls' := [(5, vL ((x8 + (Int32.toInt64 i3)) - (Int32.toInt64 0))), (4, vI x1), (0, vR (some h0)), (1, vR (some a15)), (2, vI i2), (3, vI i3)]) dX0_writes_41 rfl (Nat.le_of_ble_eq_true rfl) rfl ?_
        refine wp_iload (n := 45) (i := 4) (q := 1) dX0_writes_43 rfl rfl ?_
        refine wp_iconst (n := 46) (v := (-1)) dX0_writes_45 rfl (by decide) ?_
        refine wp_icmp_eq (n := 49) (t := 58) dX0_writes_46 rfl (by decide) (fun c46 => ?_) (fun c46 => ?_)
        · replace h := h.1 c46
          refine wp_bipush (n := 60) (v := (-4)) dX0_writes_58 rfl (by decide) ?_
          exact wp_ireturn dX0_writes_60 rfl h
        · replace h := h.2 c46
          refine wp_aload_n (n := 50) (i := 1) (q := 3) dX0_writes_49 rfl rfl rfl ?_
          refine wp_lload (n := 52) (i := 5) (q := 0) dX0_writes_50 rfl rfl ?_
          rcases h with h | h
          · obtain ⟨⟨fs52, o52⟩, h⟩ := h
            refine wp_call (n := 55) (K' := KX5_mayHave) (rc' := rc - 1) (rs' := rs - 8) (aRun_V (K' := KX5_mayHave) (As := [vL ((x8 + (Int32.toInt64 i3)) - (Int32.toInt64 0))]) (rest := []) (b := a15) (c0 := .inr (4, fs52)) dX0_writes_52 (aCal_of kf_X5_mayHave (Nat.le_of_ble_eq_true rfl)) q484 q485 q486 ar_X5_mayHave o52 (by decide : 4 < 9) rfl (Nat.le_of_ble_eq_true rfl)) rfl (Nat.le_of_eq (Nat.zero_add _)) (Nat.le_of_eq (Nat.zero_add _)) (fun v52 w52 h => ?_) (fun E52 w52 h => ?_) h
            · obtain ⟨x52, rfl, h⟩ := h
              refine wp_if_ne (n := 58) (t := 61) dX0_writes_55 rfl (by decide) (fun c55 => ?_) (fun c55 => ?_)
              · replace h := h.1 c55
                refine wp_aload_n (n := 62) (i := 0) (q := 2) dX0_writes_61 rfl rfl rfl ?_
                refine wp_aload_n (n := 63) (i := 1) (q := 3) dX0_writes_62 rfl rfl rfl ?_
                refine wp_iload_n (n := 64) (i := 2) (q := 4) dX0_writes_63 rfl rfl rfl ?_
                obtain ⟨⟨fs64, o64⟩, h⟩ := h
                refine wp_call (n := 67) (K' := KX0_leaves) (rc' := rc - 1) (rs' := rs - 8) (aRun_V (K' := KX0_leaves) (As := [vR (some a15), vI i2]) (rest := []) (b := h0) (c0 := .inr (0, fs64)) dX0_writes_64 (aCal_of kf_X0_leaves (Nat.le_of_ble_eq_true rfl)) q493 q495 qs8 ar_X0_leaves o64 (by decide : 0 < 9) rfl (Nat.le_of_ble_eq_true rfl)) rfl (Nat.le_of_eq (Nat.zero_add _)) (Nat.le_of_eq (Nat.zero_add _)) (fun v64 w64 h => ?_) (fun E64 w64 h => ?_) h
                · obtain ⟨rfl, h⟩ := h
                  refine wp_aload_n (n := 68) (i := 0) (q := 2) dX0_writes_67 rfl rfl rfl ?_
                  obtain ⟨x68, g68, h⟩ := h
                  refine wp_gf (n := 71) dX0_writes_68 rfl fl_X0_9 g68 ?_
                  refine wp_iload (n := 73) (i := 4) (q := 1) dX0_writes_71 rfl rfl ?_
                  refine wp_iload_n (n := 74) (i := 3) (q := 5) dX0_writes_73 rfl rfl rfl ?_
                  refine wp_pI (n := 75) dX0_writes_74 rfl (pI_mono h (fun w74 h => ?_))
                  refine wp_aload_n (n := 76) (i := 0) (q := 2) dX0_writes_75 rfl rfl rfl ?_
                  obtain ⟨x76, g76, h⟩ := h
                  refine wp_gf (n := 79) dX0_writes_76 rfl fl_X0_13 g76 ?_
                  refine wp_iload (n := 81) (i := 4) (q := 1) dX0_writes_79 rfl rfl ?_
                  refine wp_aload_n (n := 82) (i := 0) (q := 2) dX0_writes_81 rfl rfl rfl ?_
                  obtain ⟨x82, g82, h⟩ := h
                  refine wp_gf (n := 85) dX0_writes_82 rfl fl_X0_16 g82 ?_
                  refine wp_pI (n := 86) dX0_writes_85 rfl (pI_mono h (fun w85 h => ?_))
                  refine wp_aload_n (n := 87) (i := 1) (q := 3) dX0_writes_86 rfl rfl rfl ?_
                  obtain ⟨x87, g87, h⟩ := h
                  refine wp_gf (n := 90) dX0_writes_87 rfl fl_X0_132 g87 ?_
                  refine wp_iload_n (n := 91) (i := 2) (q := 4) dX0_writes_90 rfl rfl rfl ?_
                  refine wp_iload (n := 93) (i := 4) (q := 1) dX0_writes_91 rfl rfl ?_
                  refine wp_pI (n := 94) dX0_writes_93 rfl (pI_mono h (fun w93 h => ?_))
                  refine wp_iload (n := 96) (i := 4) (q := 1) dX0_writes_94 rfl rfl ?_
                  exact wp_ireturn dX0_writes_96 rfl h
                · exact h.elim
              · replace h := h.2 c55
                refine wp_bipush (n := 60) (v := (-4)) dX0_writes_58 rfl (by decide) ?_
                exact wp_ireturn dX0_writes_60 rfl h
            · exact h.elim
          · obtain ⟨⟨fs52, o52⟩, h⟩ := h
            refine wp_call (n := 55) (K' := KX6_mayHave) (rc' := rc - 1) (rs' := rs - 8) (aRun_U (K' := KX6_mayHave) (As := [vL ((x8 + (Int32.toInt64 i3)) - (Int32.toInt64 0))]) (rest := []) (b := a15) (x := ⟨"DeadListPool$Folder", "mayHave", "(J)Z"⟩) (owner := "DeadListPool$Folder") (c0 := .inr (5, fs52)) dX0_writes_52 (aCal_of kf_X6_mayHave (Nat.le_of_ble_eq_true rfl)) rfl q484 q487 q488 q489 (Or.inl ⟨_, _, _, q485, q492⟩) ⟨by decide, by decide⟩ ar_X6_mayHave o52 (by decide : 5 < 9) rfl (Nat.le_of_ble_eq_true rfl)) rfl (Nat.le_of_eq (Nat.zero_add _)) (Nat.le_of_eq (Nat.zero_add _)) (fun v52 w52 h => ?_) (fun E52 w52 h => ?_) h
            · obtain ⟨x52, rfl, h⟩ := h
              refine wp_if_ne (n := 58) (t := 61) dX0_writes_55 rfl (by decide) (fun c55 => ?_) (fun c55 => ?_)
              · replace h := h.1 c55
                refine wp_aload_n (n := 62) (i := 0) (q := 2) dX0_writes_61 rfl rfl rfl ?_
                refine wp_aload_n (n := 63) (i := 1) (q := 3) dX0_writes_62 rfl rfl rfl ?_
                refine wp_iload_n (n := 64) (i := 2) (q := 4) dX0_writes_63 rfl rfl rfl ?_
                obtain ⟨⟨fs64, o64⟩, h⟩ := h
                refine wp_call (n := 67) (K' := KX0_leaves) (rc' := rc - 1) (rs' := rs - 8) (aRun_V (K' := KX0_leaves) (As := [vR (some a15), vI i2]) (rest := []) (b := h0) (c0 := .inr (0, fs64)) dX0_writes_64 (aCal_of kf_X0_leaves (Nat.le_of_ble_eq_true rfl)) q493 q495 qs8 ar_X0_leaves o64 (by decide : 0 < 9) rfl (Nat.le_of_ble_eq_true rfl)) rfl (Nat.le_of_eq (Nat.zero_add _)) (Nat.le_of_eq (Nat.zero_add _)) (fun v64 w64 h => ?_) (fun E64 w64 h => ?_) h
                · obtain ⟨rfl, h⟩ := h
                  refine wp_aload_n (n := 68) (i := 0) (q := 2) dX0_writes_67 rfl rfl rfl ?_
                  obtain ⟨x68, g68, h⟩ := h
                  refine wp_gf (n := 71) dX0_writes_68 rfl fl_X0_9 g68 ?_
                  refine wp_iload (n := 73) (i := 4) (q := 1) dX0_writes_71 rfl rfl ?_
                  refine wp_iload_n (n := 74) (i := 3) (q := 5) dX0_writes_73 rfl rfl rfl ?_
                  refine wp_pI (n := 75) dX0_writes_74 rfl (pI_mono h (fun w74 h => ?_))
                  refine wp_aload_n (n := 76) (i := 0) (q := 2) dX0_writes_75 rfl rfl rfl ?_
                  obtain ⟨x76, g76, h⟩ := h
                  refine wp_gf (n := 79) dX0_writes_76 rfl fl_X0_13 g76 ?_
                  refine wp_iload (n := 81) (i := 4) (q := 1) dX0_writes_79 rfl rfl ?_
                  refine wp_aload_n (n := 82) (i := 0) (q := 2) dX0_writes_81 rfl rfl rfl ?_
                  obtain ⟨x82, g82, h⟩ := h
                  refine wp_gf (n := 85) dX0_writes_82 rfl fl_X0_16 g82 ?_
                  refine wp_pI (n := 86) dX0_writes_85 rfl (pI_mono h (fun w85 h => ?_))
                  refine wp_aload_n (n := 87) (i := 1) (q := 3) dX0_writes_86 rfl rfl rfl ?_
                  obtain ⟨x87, g87, h⟩ := h
                  refine wp_gf (n := 90) dX0_writes_87 rfl fl_X0_132 g87 ?_
                  refine wp_iload_n (n := 91) (i := 2) (q := 4) dX0_writes_90 rfl rfl rfl ?_
                  refine wp_iload (n := 93) (i := 4) (q := 1) dX0_writes_91 rfl rfl ?_
                  refine wp_pI (n := 94) dX0_writes_93 rfl (pI_mono h (fun w93 h => ?_))
                  refine wp_iload (n := 96) (i := 4) (q := 1) dX0_writes_94 rfl rfl ?_
                  exact wp_ireturn dX0_writes_96 rfl h
                · exact h.elim
              · replace h := h.2 c55
                refine wp_bipush (n := 60) (v := (-4)) dX0_writes_58 rfl (by decide) ?_
                exact wp_ireturn dX0_writes_60 rfl h
            · exact h.elim
    · obtain ⟨rfl, h⟩ := h
      exact wpx_out (fun z hz => absurd hz List.not_mem_nil) h
  · exact h.elim
set_option maxHeartbeats 1000000 in
theorem sg_X0_write_0 {h0 : Nat} {i1 : Int32} {i2 : Int32} {i3 : Int32} {rc rs : Nat} {QR : Option aV → aW → Prop} {QX : String → aW → Prop} {w : aW} (h : ct (KX0_in) 0 0 [vL (Int32.toInt64 i2), vL 0, vL 11] w (fun v6 w6 => ∃ x6 : Int32, v6 = some (vI x6) ∧ (x6 = 0 → QR (some (vI (-2))) w6) ∧ (¬ x6 = 0 → ct (KX0_in) 0 0 [vL (Int32.toInt64 i3), vL 1, vL 1000000000] w6 (fun v18 w18 => ∃ x18 : Int32, v18 = some (vI x18) ∧ (¬ x18 = 0 → 1 ≤ rc ∧ 6 ≤ rs ∧ isO w18 h0 0 ∧ ct (KX0_thingAt) 1 6 [vR (some h0), vI i1] w18 (fun v30 w30 => ∃ x30 : Option Nat, v30 = some (vR x30) ∧ (x30 = none → 1 ≤ (rc - 1) ∧ 8 ≤ (rs - 6) ∧ isO w30 h0 0 ∧ ct (KX0_writes) 1 8 [vR (some h0), vR none, vI i2, vI i3] w30 (fun v38 w38 => ∃ x38 : Int32, v38 = some (vI x38) ∧ QR (some (vI x38)) w38) (fun E38 w38 => (E38 = "java/lang/NullPointerException" ∧ QR (some (vI (-11))) w38))) ∧ (∀ a33 : Nat, x30 = some a33 → ((ck w30 a33 [4, 5] ∧ 1 ≤ (rc - 1) ∧ 8 ≤ (rs - 6) ∧ isO w30 h0 0 ∧ ct (KX0_writes) 1 8 [vR (some h0), vR (some a33), vI i2, vI i3] w30 (fun v38 w38 => ∃ x38 : Int32, v38 = some (vI x38) ∧ QR (some (vI x38)) w38) (fun E38 w38 => (E38 = "java/lang/NullPointerException" ∧ QR (some (vI (-11))) w38))) ∨ (ck w30 a33 [6, 7, 8] ∧ 3 ≤ (rc - 1) ∧ 950 ≤ (rs - 6) ∧ QR (some (vI (-13))) w30)))) (fun E30 w30 => (E30 = "java/lang/IndexOutOfBoundsException" ∧ QR (some (vI (-12))) w30))) ∧ (x18 = 0 → QR (some (vI (-2))) w18)) (fun E18 w18 => False))) (fun E6 w6 => False)) : wp (KX0_write) rc rs QR QX 0 [(0, vR (some h0)), (1, vI i1), (2, vI i2), (3, vI i3)] [] w := by
  refine wp_iload_n (n := 1) (i := 2) (q := 2) dX0_write_0 rfl rfl rfl ?_
  refine wp_i2l (n := 2) dX0_write_1 rfl ?_
  refine wp_lconst (n := 3) (v := 0) dX0_write_2 rfl (by decide) ?_
  refine wp_ldc2 (n := 6) dX0_write_3 rfl q450 ?_
  refine wp_call (n := 9) (K' := KX0_in) (rc' := rc) (rs' := rs) (aRun_S (K' := KX0_in) (As := [vL (Int32.toInt64 i2), vL 0, vL 11]) (rest := []) dX0_write_6 (aCal_of kf_X0_in (Nat.le_of_ble_eq_true rfl)) rfl q228 q229 ar_X0_in rfl (Nat.le_of_ble_eq_true rfl)) rfl (Nat.le_of_eq (Nat.zero_add _)) (Nat.le_of_eq (Nat.zero_add _)) (fun v6 w6 h => ?_) (fun E6 w6 h => ?_) h
  · obtain ⟨x6, rfl, h⟩ := h
    refine wp_if_eq (n := 12) (t := 24) dX0_write_9 rfl (by decide) (fun c9 => ?_) (fun c9 => ?_)
    · replace h := h.1 c9
      refine wp_bipush (n := 26) (v := (-2)) dX0_write_24 rfl (by decide) ?_
      exact wp_ireturn dX0_write_26 rfl h
    · replace h := h.2 c9
      refine wp_iload_n (n := 13) (i := 3) (q := 3) dX0_write_12 rfl rfl rfl ?_
      refine wp_i2l (n := 14) dX0_write_13 rfl ?_
      refine wp_lconst (n := 15) (v := 1) dX0_write_14 rfl (by decide) ?_
      refine wp_ldc2 (n := 18) dX0_write_15 rfl q227 ?_
      refine wp_call (n := 21) (K' := KX0_in) (rc' := rc) (rs' := rs) (aRun_S (K' := KX0_in) (As := [vL (Int32.toInt64 i3), vL 1, vL 1000000000]) (rest := []) dX0_write_18 (aCal_of kf_X0_in (Nat.le_of_ble_eq_true rfl)) rfl q228 q229 ar_X0_in rfl (Nat.le_of_ble_eq_true rfl)) rfl (Nat.le_of_eq (Nat.zero_add _)) (Nat.le_of_eq (Nat.zero_add _)) (fun v18 w18 h => ?_) (fun E18 w18 h => ?_) h
      · obtain ⟨x18, rfl, h⟩ := h
        refine wp_if_ne (n := 24) (t := 27) dX0_write_21 rfl (by decide) (fun c21 => ?_) (fun c21 => ?_)
        · replace h := h.1 c21
          refine wp_aload_n (n := 28) (i := 0) (q := 0) dX0_write_27 rfl rfl rfl ?_
          refine wp_aload_n (n := 29) (i := 0) (q := 0) dX0_write_28 rfl rfl rfl ?_
          refine wp_iload_n (n := 30) (i := 1) (q := 1) dX0_write_29 rfl rfl rfl ?_
          obtain ⟨b30, bb30, h⟩ := h
          obtain ⟨⟨fs30, o30⟩, h⟩ := h
          refine wp_call (n := 33) (K' := KX0_thingAt) (rc' := rc - 1) (rs' := rs - 6) (aRun_V (K' := KX0_thingAt) (As := [vI i1]) (rest := [vR (some h0)]) (b := h0) (c0 := .inr (0, fs30)) dX0_write_30 (aCal_of kf_X0_thingAt (Nat.le_of_ble_eq_true rfl)) q451 q453 qs4 ar_X0_thingAt o30 (by decide : 0 < 9) rfl (Nat.le_of_ble_eq_true rfl)) rfl (by omega) (by omega) (fun v30 w30 h => ?_) (fun E30 w30 h => ?_) h
          · obtain ⟨x30, rfl, h⟩ := h
            rcases opt_c x30 with ea33 | ⟨a33, ea33⟩
            · replace h := h.1 ea33
              rw [ea33]
              refine wp_castN (n := 36) dX0_write_33 rfl ?_
              refine wp_iload_n (n := 37) (i := 2) (q := 2) dX0_write_36 rfl rfl rfl ?_
              refine wp_iload_n (n := 38) (i := 3) (q := 3) dX0_write_37 rfl rfl rfl ?_
              obtain ⟨b38, bb38, h⟩ := h
              obtain ⟨⟨fs38, o38⟩, h⟩ := h
              refine wp_call (n := 41) (K' := KX0_writes) (rc' := rc - 1 - 1) (rs' := rs - 6 - 8) (aRun_V (K' := KX0_writes) (As := [vR none, vI i2, vI i3]) (rest := []) (b := h0) (c0 := .inr (0, fs38)) dX0_write_38 (aCal_of kf_X0_writes (Nat.le_of_ble_eq_true rfl)) q472 q474 qs5 ar_X0_writes o38 (by decide : 0 < 9) rfl (Nat.le_of_ble_eq_true rfl)) rfl (by omega) (by omega) (fun v38 w38 h => ?_) (fun E38 w38 h => ?_) h
              · obtain ⟨x38, rfl, h⟩ := h
                exact wp_ireturn dX0_write_41 rfl h
              · obtain ⟨rfl, h⟩ := h
                refine wpx_catch (nm := "java/lang/NullPointerException") [(27, 41, 42, 53)] (27, 41, 47, 169) [(27, 41, 52, 171)] rfl (fun z hz => by have hz : z ∈ ([(27, 41, 42, 53)] : List (Nat × Nat × Nat × Nat)) := hz; simp only [List.mem_cons, List.not_mem_nil, or_false] at hz; subst hz; exact Or.inr ⟨by decide, "java/lang/IndexOutOfBoundsException", q320, nc_NullPointerException_IndexOutOfBoundsException⟩) (by decide) (by decide) q411 q433 (fun q9 => ?_)
                refine wp_astore (n := 49) (i := 4) (ls' := [(4, vR (some q9)), (0, vR (some h0)), (1, vI i1), (2, vI i2), (3, vI i3)]) dX0_write_47 rfl (Nat.le_of_ble_eq_true rfl) rfl ?_
                refine wp_bipush (n := 51) (v := (-11)) dX0_write_49 rfl (by decide) ?_
                exact wp_ireturn dX0_write_51 rfl h
            · replace h := h.2 a33 ea33
              rw [ea33]
              rcases h with h | h
              · obtain ⟨k33, h⟩ := h
                refine wp_ckY (n := 36) dX0_write_33 rfl q235 cok_Folder k33 ?_
                refine wp_iload_n (n := 37) (i := 2) (q := 2) dX0_write_36 rfl rfl rfl ?_
                refine wp_iload_n (n := 38) (i := 3) (q := 3) dX0_write_37 rfl rfl rfl ?_
                obtain ⟨b38, bb38, h⟩ := h
                obtain ⟨⟨fs38, o38⟩, h⟩ := h
                refine wp_call (n := 41) (K' := KX0_writes) (rc' := rc - 1 - 1) (rs' := rs - 6 - 8) (aRun_V (K' := KX0_writes) (As := [vR (some a33), vI i2, vI i3]) (rest := []) (b := h0) (c0 := .inr (0, fs38)) dX0_write_38 (aCal_of kf_X0_writes (Nat.le_of_ble_eq_true rfl)) q472 q474 qs5 ar_X0_writes o38 (by decide : 0 < 9) rfl (Nat.le_of_ble_eq_true rfl)) rfl (by omega) (by omega) (fun v38 w38 h => ?_) (fun E38 w38 h => ?_) h
                · obtain ⟨x38, rfl, h⟩ := h
                  exact wp_ireturn dX0_write_41 rfl h
                · obtain ⟨rfl, h⟩ := h
                  refine wpx_catch (nm := "java/lang/NullPointerException") [(27, 41, 42, 53)] (27, 41, 47, 169) [(27, 41, 52, 171)] rfl (fun z hz => by have hz : z ∈ ([(27, 41, 42, 53)] : List (Nat × Nat × Nat × Nat)) := hz; simp only [List.mem_cons, List.not_mem_nil, or_false] at hz; subst hz; exact Or.inr ⟨by decide, "java/lang/IndexOutOfBoundsException", q320, nc_NullPointerException_IndexOutOfBoundsException⟩) (by decide) (by decide) q411 q433 (fun q9 => ?_)
                  refine wp_astore (n := 49) (i := 4) (ls' := [(4, vR (some q9)), (0, vR (some h0)), (1, vI i1), (2, vI i2), (3, vI i3)]) dX0_write_47 rfl (Nat.le_of_ble_eq_true rfl) rfl ?_
                  refine wp_bipush (n := 51) (v := (-11)) dX0_write_49 rfl (by decide) ?_
                  exact wp_ireturn dX0_write_51 rfl h
              · obtain ⟨k33, b1, b2, h⟩ := h
                refine wp_ckX (rc' := 0) (rs' := 0) dX0_write_33 q235 cno_Folder sn_Folder k33 (by omega) (by omega) (Nat.le_of_ble_eq_true rfl) ?_
                refine wpx_catch (nm := "java/lang/ClassCastException") [(27, 41, 42, 53), (27, 41, 47, 169)] (27, 41, 52, 171) [] rfl (fun z hz => by have hz : z ∈ ([(27, 41, 42, 53), (27, 41, 47, 169)] : List (Nat × Nat × Nat × Nat)) := hz; simp only [List.mem_cons, List.not_mem_nil, or_false] at hz; rcases hz with rfl | rfl; exact Or.inr ⟨by decide, "java/lang/IndexOutOfBoundsException", q320, nc_ClassCastException_IndexOutOfBoundsException⟩; exact Or.inr ⟨by decide, "java/lang/NullPointerException", q411, nc_ClassCastException_NullPointerException⟩) (by decide) (by decide) q436 q448 (fun q9 => ?_)
                refine wp_astore (n := 54) (i := 4) (ls' := [(4, vR (some q9)), (0, vR (some h0)), (1, vI i1), (2, vI i2), (3, vI i3)]) dX0_write_52 rfl (Nat.le_of_ble_eq_true rfl) rfl ?_
                refine wp_bipush (n := 56) (v := (-13)) dX0_write_54 rfl (by decide) ?_
                exact wp_ireturn dX0_write_56 rfl h
          · obtain ⟨rfl, h⟩ := h
            refine wpx_catch (nm := "java/lang/IndexOutOfBoundsException") [] (27, 41, 42, 53) [(27, 41, 47, 169), (27, 41, 52, 171)] rfl (fun z hz => absurd hz List.not_mem_nil) (by decide) (by decide) q320 q459 (fun q9 => ?_)
            refine wp_astore (n := 44) (i := 4) (ls' := [(4, vR (some q9)), (0, vR (some h0)), (1, vI i1), (2, vI i2), (3, vI i3)]) dX0_write_42 rfl (Nat.le_of_ble_eq_true rfl) rfl ?_
            refine wp_bipush (n := 46) (v := (-12)) dX0_write_44 rfl (by decide) ?_
            exact wp_ireturn dX0_write_46 rfl h
        · replace h := h.2 c21
          refine wp_bipush (n := 26) (v := (-2)) dX0_write_24 rfl (by decide) ?_
          exact wp_ireturn dX0_write_26 rfl h
      · exact h.elim
  · exact h.elim
set_option maxHeartbeats 1000000 in
theorem sg_X0_erases_0 {h0 : Nat} {r1 : Option Nat} {i2 : Int32} {rc rs : Nat} {QR : Option aV → aW → Prop} {QX : String → aW → Prop} {w : aW} (h : (r1 = none → 1 ≤ rc ∧ 8 ≤ rs ∧ QX "java/lang/NullPointerException" w) ∧ (∀ a1 : Nat, r1 = some a1 → ∃ x1 : Nat, gf w a1 [4, 5] 1 (vR (some x1)) ∧ ∃ x5 : Int32, gI w x1 i2 x5 ∧ isO w h0 0 ∧ ct (KX0_leaves) 0 0 [vR (some h0), vR (some a1), vI i2] w (fun v10 w10 => v10 = none ∧ QR (some (vI x5)) w10) (fun E10 w10 => False))) : wp (KX0_erases) rc rs QR QX 0 [(0, vR (some h0)), (1, vR r1), (2, vI i2)] [] w := by
  refine wp_aload_n (n := 1) (i := 1) (q := 1) dX0_erases_0 rfl rfl rfl ?_
  rcases opt_c r1 with ea1 | ⟨a1, ea1⟩
  · obtain ⟨b1, b2, h⟩ := h.1 ea1
    rw [ea1]
    refine wp_getfNull (rc' := 0) (rs' := 0) dX0_erases_1 (fl_X0_132 4 (by decide)) (by omega) (by omega) (Nat.le_of_ble_eq_true rfl) ?_
    exact wpx_out (fun z hz => absurd hz List.not_mem_nil) h
  · replace h := h.2 a1 ea1
    rw [ea1]
    obtain ⟨x1, g1, h⟩ := h
    refine wp_gf (n := 4) dX0_erases_1 rfl fl_X0_132 g1 ?_
    refine wp_iload_n (n := 5) (i := 2) (q := 2) dX0_erases_4 rfl rfl rfl ?_
    obtain ⟨x5, g5, h⟩ := h
    refine wp_gI (n := 6) dX0_erases_5 rfl g5 ?_
    refine wp_istore_n (n := 7) (i := 3) (ls' := [(3, vI x5), (0, vR (some h0)), (1, vR (some a1)), (2, vI i2)]) dX0_erases_6 rfl rfl (Nat.le_of_ble_eq_true rfl) rfl ?_
    refine wp_aload_n (n := 8) (i := 0) (q := 1) dX0_erases_7 rfl rfl rfl ?_
    refine wp_aload_n (n := 9) (i := 1) (q := 2) dX0_erases_8 rfl rfl rfl ?_
    refine wp_iload_n (n := 10) (i := 2) (q := 3) dX0_erases_9 rfl rfl rfl ?_
    obtain ⟨⟨fs10, o10⟩, h⟩ := h
    refine wp_call (n := 13) (K' := KX0_leaves) (rc' := rc) (rs' := rs) (aRun_V (K' := KX0_leaves) (As := [vR (some a1), vI i2]) (rest := []) (b := h0) (c0 := .inr (0, fs10)) dX0_erases_10 (aCal_of kf_X0_leaves (Nat.le_of_ble_eq_true rfl)) q493 q495 qs8 ar_X0_leaves o10 (by decide : 0 < 9) rfl (Nat.le_of_ble_eq_true rfl)) rfl (Nat.le_of_eq (Nat.zero_add _)) (Nat.le_of_eq (Nat.zero_add _)) (fun v10 w10 h => ?_) (fun E10 w10 h => ?_) h
    · obtain ⟨rfl, h⟩ := h
      refine wp_iload_n (n := 14) (i := 3) (q := 0) dX0_erases_13 rfl rfl rfl ?_
      exact wp_ireturn dX0_erases_14 rfl h
    · exact h.elim
set_option maxHeartbeats 1000000 in
theorem sg_X0_erase_0 {h0 : Nat} {i1 : Int32} {i2 : Int32} {rc rs : Nat} {QR : Option aV → aW → Prop} {QX : String → aW → Prop} {w : aW} (h : ct (KX0_in) 0 0 [vL (Int32.toInt64 i2), vL 0, vL 11] w (fun v6 w6 => ∃ x6 : Int32, v6 = some (vI x6) ∧ (¬ x6 = 0 → 1 ≤ rc ∧ 6 ≤ rs ∧ isO w6 h0 0 ∧ ct (KX0_thingAt) 1 6 [vR (some h0), vI i1] w6 (fun v18 w18 => ∃ x18 : Option Nat, v18 = some (vR x18) ∧ (x18 = none → 1 ≤ (rc - 1) ∧ 8 ≤ (rs - 6) ∧ isO w18 h0 0 ∧ ct (KX0_erases) 1 8 [vR (some h0), vR none, vI i2] w18 (fun v25 w25 => ∃ x25 : Int32, v25 = some (vI x25) ∧ QR (some (vI x25)) w25) (fun E25 w25 => (E25 = "java/lang/NullPointerException" ∧ QR (some (vI (-11))) w25))) ∧ (∀ a21 : Nat, x18 = some a21 → ((ck w18 a21 [4, 5] ∧ 1 ≤ (rc - 1) ∧ 8 ≤ (rs - 6) ∧ isO w18 h0 0 ∧ ct (KX0_erases) 1 8 [vR (some h0), vR (some a21), vI i2] w18 (fun v25 w25 => ∃ x25 : Int32, v25 = some (vI x25) ∧ QR (some (vI x25)) w25) (fun E25 w25 => (E25 = "java/lang/NullPointerException" ∧ QR (some (vI (-11))) w25))) ∨ (ck w18 a21 [6, 7, 8] ∧ 3 ≤ (rc - 1) ∧ 950 ≤ (rs - 6) ∧ QR (some (vI (-13))) w18)))) (fun E18 w18 => (E18 = "java/lang/IndexOutOfBoundsException" ∧ QR (some (vI (-12))) w18))) ∧ (x6 = 0 → QR (some (vI (-2))) w6)) (fun E6 w6 => False)) : wp (KX0_erase) rc rs QR QX 0 [(0, vR (some h0)), (1, vI i1), (2, vI i2)] [] w := by
  refine wp_iload_n (n := 1) (i := 2) (q := 2) dX0_erase_0 rfl rfl rfl ?_
  refine wp_i2l (n := 2) dX0_erase_1 rfl ?_
  refine wp_lconst (n := 3) (v := 0) dX0_erase_2 rfl (by decide) ?_
  refine wp_ldc2 (n := 6) dX0_erase_3 rfl q450 ?_
  refine wp_call (n := 9) (K' := KX0_in) (rc' := rc) (rs' := rs) (aRun_S (K' := KX0_in) (As := [vL (Int32.toInt64 i2), vL 0, vL 11]) (rest := []) dX0_erase_6 (aCal_of kf_X0_in (Nat.le_of_ble_eq_true rfl)) rfl q228 q229 ar_X0_in rfl (Nat.le_of_ble_eq_true rfl)) rfl (Nat.le_of_eq (Nat.zero_add _)) (Nat.le_of_eq (Nat.zero_add _)) (fun v6 w6 h => ?_) (fun E6 w6 h => ?_) h
  · obtain ⟨x6, rfl, h⟩ := h
    refine wp_if_ne (n := 12) (t := 15) dX0_erase_9 rfl (by decide) (fun c9 => ?_) (fun c9 => ?_)
    · replace h := h.1 c9
      refine wp_aload_n (n := 16) (i := 0) (q := 0) dX0_erase_15 rfl rfl rfl ?_
      refine wp_aload_n (n := 17) (i := 0) (q := 0) dX0_erase_16 rfl rfl rfl ?_
      refine wp_iload_n (n := 18) (i := 1) (q := 1) dX0_erase_17 rfl rfl rfl ?_
      obtain ⟨b18, bb18, h⟩ := h
      obtain ⟨⟨fs18, o18⟩, h⟩ := h
      refine wp_call (n := 21) (K' := KX0_thingAt) (rc' := rc - 1) (rs' := rs - 6) (aRun_V (K' := KX0_thingAt) (As := [vI i1]) (rest := [vR (some h0)]) (b := h0) (c0 := .inr (0, fs18)) dX0_erase_18 (aCal_of kf_X0_thingAt (Nat.le_of_ble_eq_true rfl)) q451 q453 qs4 ar_X0_thingAt o18 (by decide : 0 < 9) rfl (Nat.le_of_ble_eq_true rfl)) rfl (by omega) (by omega) (fun v18 w18 h => ?_) (fun E18 w18 h => ?_) h
      · obtain ⟨x18, rfl, h⟩ := h
        rcases opt_c x18 with ea21 | ⟨a21, ea21⟩
        · replace h := h.1 ea21
          rw [ea21]
          refine wp_castN (n := 24) dX0_erase_21 rfl ?_
          refine wp_iload_n (n := 25) (i := 2) (q := 2) dX0_erase_24 rfl rfl rfl ?_
          obtain ⟨b25, bb25, h⟩ := h
          obtain ⟨⟨fs25, o25⟩, h⟩ := h
          refine wp_call (n := 28) (K' := KX0_erases) (rc' := rc - 1 - 1) (rs' := rs - 6 - 8) (aRun_V (K' := KX0_erases) (As := [vR none, vI i2]) (rest := []) (b := h0) (c0 := .inr (0, fs25)) dX0_erase_25 (aCal_of kf_X0_erases (Nat.le_of_ble_eq_true rfl)) q520 q522 qs12 ar_X0_erases o25 (by decide : 0 < 9) rfl (Nat.le_of_ble_eq_true rfl)) rfl (by omega) (by omega) (fun v25 w25 h => ?_) (fun E25 w25 h => ?_) h
          · obtain ⟨x25, rfl, h⟩ := h
            exact wp_ireturn dX0_erase_28 rfl h
          · obtain ⟨rfl, h⟩ := h
            refine wpx_catch (nm := "java/lang/NullPointerException") [(15, 28, 29, 53)] (15, 28, 33, 169) [(15, 28, 37, 171)] rfl (fun z hz => by have hz : z ∈ ([(15, 28, 29, 53)] : List (Nat × Nat × Nat × Nat)) := hz; simp only [List.mem_cons, List.not_mem_nil, or_false] at hz; subst hz; exact Or.inr ⟨by decide, "java/lang/IndexOutOfBoundsException", q320, nc_NullPointerException_IndexOutOfBoundsException⟩) (by decide) (by decide) q411 q433 (fun q9 => ?_)
            refine wp_astore_n (n := 34) (i := 3) (ls' := [(3, vR (some q9)), (0, vR (some h0)), (1, vI i1), (2, vI i2)]) dX0_erase_33 rfl rfl (Nat.le_of_ble_eq_true rfl) rfl ?_
            refine wp_bipush (n := 36) (v := (-11)) dX0_erase_34 rfl (by decide) ?_
            exact wp_ireturn dX0_erase_36 rfl h
        · replace h := h.2 a21 ea21
          rw [ea21]
          rcases h with h | h
          · obtain ⟨k21, h⟩ := h
            refine wp_ckY (n := 24) dX0_erase_21 rfl q235 cok_Folder k21 ?_
            refine wp_iload_n (n := 25) (i := 2) (q := 2) dX0_erase_24 rfl rfl rfl ?_
            obtain ⟨b25, bb25, h⟩ := h
            obtain ⟨⟨fs25, o25⟩, h⟩ := h
            refine wp_call (n := 28) (K' := KX0_erases) (rc' := rc - 1 - 1) (rs' := rs - 6 - 8) (aRun_V (K' := KX0_erases) (As := [vR (some a21), vI i2]) (rest := []) (b := h0) (c0 := .inr (0, fs25)) dX0_erase_25 (aCal_of kf_X0_erases (Nat.le_of_ble_eq_true rfl)) q520 q522 qs12 ar_X0_erases o25 (by decide : 0 < 9) rfl (Nat.le_of_ble_eq_true rfl)) rfl (by omega) (by omega) (fun v25 w25 h => ?_) (fun E25 w25 h => ?_) h
            · obtain ⟨x25, rfl, h⟩ := h
              exact wp_ireturn dX0_erase_28 rfl h
            · obtain ⟨rfl, h⟩ := h
              refine wpx_catch (nm := "java/lang/NullPointerException") [(15, 28, 29, 53)] (15, 28, 33, 169) [(15, 28, 37, 171)] rfl (fun z hz => by have hz : z ∈ ([(15, 28, 29, 53)] : List (Nat × Nat × Nat × Nat)) := hz; simp only [List.mem_cons, List.not_mem_nil, or_false] at hz; subst hz; exact Or.inr ⟨by decide, "java/lang/IndexOutOfBoundsException", q320, nc_NullPointerException_IndexOutOfBoundsException⟩) (by decide) (by decide) q411 q433 (fun q9 => ?_)
              refine wp_astore_n (n := 34) (i := 3) (ls' := [(3, vR (some q9)), (0, vR (some h0)), (1, vI i1), (2, vI i2)]) dX0_erase_33 rfl rfl (Nat.le_of_ble_eq_true rfl) rfl ?_
              refine wp_bipush (n := 36) (v := (-11)) dX0_erase_34 rfl (by decide) ?_
              exact wp_ireturn dX0_erase_36 rfl h
          · obtain ⟨k21, b1, b2, h⟩ := h
            refine wp_ckX (rc' := 0) (rs' := 0) dX0_erase_21 q235 cno_Folder sn_Folder k21 (by omega) (by omega) (Nat.le_of_ble_eq_true rfl) ?_
            refine wpx_catch (nm := "java/lang/ClassCastException") [(15, 28, 29, 53), (15, 28, 33, 169)] (15, 28, 37, 171) [] rfl (fun z hz => by have hz : z ∈ ([(15, 28, 29, 53), (15, 28, 33, 169)] : List (Nat × Nat × Nat × Nat)) := hz; simp only [List.mem_cons, List.not_mem_nil, or_false] at hz; rcases hz with rfl | rfl; exact Or.inr ⟨by decide, "java/lang/IndexOutOfBoundsException", q320, nc_ClassCastException_IndexOutOfBoundsException⟩; exact Or.inr ⟨by decide, "java/lang/NullPointerException", q411, nc_ClassCastException_NullPointerException⟩) (by decide) (by decide) q436 q448 (fun q9 => ?_)
            refine wp_astore_n (n := 38) (i := 3) (ls' := [(3, vR (some q9)), (0, vR (some h0)), (1, vI i1), (2, vI i2)]) dX0_erase_37 rfl rfl (Nat.le_of_ble_eq_true rfl) rfl ?_
            refine wp_bipush (n := 40) (v := (-13)) dX0_erase_38 rfl (by decide) ?_
            exact wp_ireturn dX0_erase_40 rfl h
      · obtain ⟨rfl, h⟩ := h
        refine wpx_catch (nm := "java/lang/IndexOutOfBoundsException") [] (15, 28, 29, 53) [(15, 28, 33, 169), (15, 28, 37, 171)] rfl (fun z hz => absurd hz List.not_mem_nil) (by decide) (by decide) q320 q459 (fun q9 => ?_)
        refine wp_astore_n (n := 30) (i := 3) (ls' := [(3, vR (some q9)), (0, vR (some h0)), (1, vI i1), (2, vI i2)]) dX0_erase_29 rfl rfl (Nat.le_of_ble_eq_true rfl) rfl ?_
        refine wp_bipush (n := 32) (v := (-12)) dX0_erase_30 rfl (by decide) ?_
        exact wp_ireturn dX0_erase_32 rfl h
    · replace h := h.2 c9
      refine wp_bipush (n := 14) (v := (-2)) dX0_erase_12 rfl (by decide) ?_
      exact wp_ireturn dX0_erase_14 rfl h
  · exact h.elim
set_option maxHeartbeats 1000000 in
theorem sg_X0_leastThing_0 {h0 : Nat} {rc rs : Nat} {QR : Option aV → aW → Prop} {QX : String → aW → Prop} {w : aW} (h : wp (KX0_leastThing) rc rs QR QX 2 [(0, vR (some h0)), (1, vI 0)] [] w) : wp (KX0_leastThing) rc rs QR QX 0 [(0, vR (some h0))] [] w := by
  refine wp_iconst (n := 1) (v := 0) dX0_leastThing_0 rfl (by decide) ?_
  refine wp_istore_n (n := 2) (i := 1) (ls' := [(1, vI 0), (0, vR (some h0))]) dX0_leastThing_1 rfl rfl (Nat.le_of_ble_eq_true rfl) rfl ?_
  exact wp_sub [1, 0] rfl h
set_option maxHeartbeats 1000000 in
theorem sg_X0_leastThing_2 {h0 : Nat} {i1 : Int32} {rc rs : Nat} {QR : Option aV → aW → Prop} {QX : String → aW → Prop} {w : aW} (h : (20 ≤ i1 → QR (some (vI (-1))) w) ∧ (¬ 20 ≤ i1 → ∃ x9 : Nat, gf w h0 [0] 4 (vR (some x9)) ∧ ∃ x13 : Option Nat, gR w x9 2 i1 x13 ∧ (x13 = none → QR (some (vI i1)) w) ∧ (∀ a14 : Nat, x13 = some a14 → wp (KX0_leastThing) rc rs QR QX 2 [(0, vR (some h0)), (1, vI (i1 + 1))] [] w))) : wp (KX0_leastThing) rc rs QR QX 2 [(0, vR (some h0)), (1, vI i1)] [] w := by
  refine wp_iload_n (n := 3) (i := 1) (q := 1) dX0_leastThing_2 rfl rfl rfl ?_
  refine wp_bipush (n := 5) (v := 20) dX0_leastThing_3 rfl (by decide) ?_
  refine wp_icmp_ge (n := 8) (t := 25) dX0_leastThing_5 rfl (by decide) (fun c5 => ?_) (fun c5 => ?_)
  · replace h := h.1 c5
    refine wp_iconst (n := 26) (v := (-1)) dX0_leastThing_25 rfl (by decide) ?_
    exact wp_ireturn dX0_leastThing_26 rfl h
  · replace h := h.2 c5
    refine wp_aload_n (n := 9) (i := 0) (q := 0) dX0_leastThing_8 rfl rfl rfl ?_
    obtain ⟨x9, g9, h⟩ := h
    refine wp_gf (n := 12) dX0_leastThing_9 rfl fl_X0_20 g9 ?_
    refine wp_iload_n (n := 13) (i := 1) (q := 1) dX0_leastThing_12 rfl rfl rfl ?_
    obtain ⟨x13, g13, h⟩ := h
    refine wp_gR (n := 14) dX0_leastThing_13 rfl (by decide) g13 ?_
    rcases opt_c x13 with ea14 | ⟨a14, ea14⟩
    · replace h := h.1 ea14
      rw [ea14]
      refine wp_ifnonnull (n := 17) (t := 19) dX0_leastThing_14 rfl (by decide) (fun z zz => nomatch zz) (fun _ => ?_)
      refine wp_iload_n (n := 18) (i := 1) (q := 1) dX0_leastThing_17 rfl rfl rfl ?_
      exact wp_ireturn dX0_leastThing_18 rfl h
    · replace h := h.2 a14 ea14
      rw [ea14]
      refine wp_ifnonnull (n := 17) (t := 19) dX0_leastThing_14 rfl (by decide) (fun _ _ => ?_) (fun zz => nomatch zz)
      refine wp_iinc (n := 22) (i := 1) (q := 1) (v := i1 + 1) (ls' := [(1, vI (i1 + 1)), (0, vR (some h0))]) dX0_leastThing_19 rfl rfl rfl (Nat.le_of_ble_eq_true rfl) rfl ?_
      refine wp_goto (t := 2) dX0_leastThing_22 (by decide) ?_
      exact wp_sub [1, 0] rfl h
set_option maxHeartbeats 1000000 in
theorem sg_X4_init_0 {h0 : Nat} {i1 : Int32} {r2 : Option Nat} {rc rs : Nat} {QR : Option aV → aW → Prop} {QX : String → aW → Prop} {w : aW} (h : 1 ≤ rc ∧ 12 ≤ rs ∧ ∀ (a7 : Nat) (w7 : aW), w a7 = none → w7 = aup w a7 (.inl (0, 12, .inl (fun _ => 0))) → pf w7 h0 [4, 5, 6, 7] 1 (vR (some a7)) (fun w9 => 1 ≤ (rc - 1) ∧ 12 ≤ (rs - 12) ∧ ∀ (a15 : Nat) (w15 : aW), w9 a15 = none → w15 = aup w9 a15 (.inl (0, 12, .inl (fun _ => 0))) → pf w15 h0 [4, 5, 6, 7] 2 (vR (some a15)) (fun w17 => pf w17 h0 [4, 5, 6, 7] 0 (vI i1) (fun w22 => pf w22 h0 [4, 5, 6, 7] 5 (vR r2) (fun w27 => wp (KX4_init) (rc - 1 - 1) (rs - 12 - 12) QR QX 32 [(0, vR (some h0)), (1, vI i1), (2, vR r2), (3, vI 0)] [] w27))))) : wp (KX4_init) rc rs QR QX 0 [(0, vR (some h0)), (1, vI i1), (2, vR r2)] [] w := by
  refine wp_aload_n (n := 1) (i := 0) (q := 0) dX4_init_0 rfl rfl rfl ?_
  refine wp_objInit (n := 4) dX4_init_1 rfl q243 q115 q116 (Nat.le_of_ble_eq_true rfl) ?_
  refine wp_aload_n (n := 5) (i := 0) (q := 0) dX4_init_4 rfl rfl rfl ?_
  refine wp_bipush (n := 7) (v := 12) dX4_init_5 rfl (by decide) ?_
  obtain ⟨b1, b2, h⟩ := h
  refine wp_newi (n := 9) (N := 12) (rc' := rc - 1) (rs' := rs - 12) dX4_init_7 rfl (by decide) (by decide) (by decide) (by omega) (by omega) q132 (fun a7 f7 => ?_)
  obtain ⟨w7, ew7⟩ : ∃ z, z = aup w a7 (.inl (0, 12, .inl (fun _ => 0))) := ⟨_, rfl⟩
  rw [← ew7]
  replace h := h a7 w7 f7 ew7
  refine wp_pf (n := 12) dX4_init_9 rfl pti_X4_9 (nar_a _ _) (fit_a _ _) (pf_mono h (fun w9 h => ?_))
  refine wp_aload_n (n := 13) (i := 0) (q := 0) dX4_init_12 rfl rfl rfl ?_
  refine wp_bipush (n := 15) (v := 12) dX4_init_13 rfl (by decide) ?_
  obtain ⟨b1, b2, h⟩ := h
  refine wp_newi (n := 17) (N := 12) (rc' := rc - 1 - 1) (rs' := rs - 12 - 12) dX4_init_15 rfl (by decide) (by decide) (by decide) (by omega) (by omega) q132 (fun a15 f15 => ?_)
  obtain ⟨w15, ew15⟩ : ∃ z, z = aup w9 a15 (.inl (0, 12, .inl (fun _ => 0))) := ⟨_, rfl⟩
  rw [← ew15]
  replace h := h a15 w15 f15 ew15
  refine wp_pf (n := 20) dX4_init_17 rfl pti_X4_15 (nar_a _ _) (fit_a _ _) (pf_mono h (fun w17 h => ?_))
  refine wp_aload_n (n := 21) (i := 0) (q := 0) dX4_init_20 rfl rfl rfl ?_
  refine wp_iload_n (n := 22) (i := 1) (q := 1) dX4_init_21 rfl rfl rfl ?_
  refine wp_pf (n := 25) dX4_init_22 rfl pti_X4_18 rfl rfl (pf_mono h (fun w22 h => ?_))
  refine wp_aload_n (n := 26) (i := 0) (q := 0) dX4_init_25 rfl rfl rfl ?_
  refine wp_aload_n (n := 27) (i := 2) (q := 2) dX4_init_26 rfl rfl rfl ?_
  refine wp_pf (n := 30) dX4_init_27 rfl (pt_X4_22 _) (nar_o _ _) (fit_o _ _) (pf_mono h (fun w27 h => ?_))
  refine wp_iconst (n := 31) (v := 0) dX4_init_30 rfl (by decide) ?_
  refine wp_istore_n (n := 32) (i := 3) (ls' := [(3, vI 0), (0, vR (some h0)), (1, vI i1), (2, vR r2)]) dX4_init_31 rfl rfl (Nat.le_of_ble_eq_true rfl) rfl ?_
  exact wp_sub [1, 2, 3, 0] rfl h
set_option maxHeartbeats 1000000 in
theorem sg_X4_init_32 {h0 : Nat} {i1 : Int32} {r2 : Option Nat} {i3 : Int32} {rc rs : Nat} {QR : Option aV → aW → Prop} {QX : String → aW → Prop} {w : aW} (h : (12 ≤ i3 → QR none w) ∧ (¬ 12 ≤ i3 → ∃ x39 : Nat, gf w h0 [4, 5, 6, 7] 1 (vR (some x39)) ∧ pI w x39 i3 (-1) (fun w44 => wp (KX4_init) rc rs QR QX 32 [(0, vR (some h0)), (1, vI i1), (2, vR r2), (3, vI (i3 + 1))] [] w44))) : wp (KX4_init) rc rs QR QX 32 [(0, vR (some h0)), (1, vI i1), (2, vR r2), (3, vI i3)] [] w := by
  refine wp_iload_n (n := 33) (i := 3) (q := 3) dX4_init_32 rfl rfl rfl ?_
  refine wp_bipush (n := 35) (v := 12) dX4_init_33 rfl (by decide) ?_
  refine wp_icmp_ge (n := 38) (t := 51) dX4_init_35 rfl (by decide) (fun c35 => ?_) (fun c35 => ?_)
  · replace h := h.1 c35
    exact wp_return dX4_init_51 rfl h
  · replace h := h.2 c35
    refine wp_aload_n (n := 39) (i := 0) (q := 0) dX4_init_38 rfl rfl rfl ?_
    obtain ⟨x39, g39, h⟩ := h
    refine wp_gf (n := 42) dX4_init_39 rfl fl_X4_9 g39 ?_
    refine wp_iload_n (n := 43) (i := 3) (q := 3) dX4_init_42 rfl rfl rfl ?_
    refine wp_iconst (n := 44) (v := (-1)) dX4_init_43 rfl (by decide) ?_
    refine wp_pI (n := 45) dX4_init_44 rfl (pI_mono h (fun w44 h => ?_))
    refine wp_iinc (n := 48) (i := 3) (q := 3) (v := i3 + 1) (ls' := [(3, vI (i3 + 1)), (0, vR (some h0)), (1, vI i1), (2, vR r2)]) dX4_init_45 rfl rfl rfl (Nat.le_of_ble_eq_true rfl) rfl ?_
    refine wp_goto (t := 32) dX4_init_48 (by decide) ?_
    exact wp_sub [1, 2, 3, 0] rfl h
set_option maxHeartbeats 1000000 in
theorem sg_X4_takesSlots_0 {h0 : Nat} {r1 : Option Nat} {rc rs : Nat} {QR : Option aV → aW → Prop} {QX : String → aW → Prop} {w : aW} (h : wp (KX4_takesSlots) rc rs QR QX 2 [(0, vR (some h0)), (1, vR r1), (2, vI 0)] [] w) : wp (KX4_takesSlots) rc rs QR QX 0 [(0, vR (some h0)), (1, vR r1)] [] w := by
  refine wp_iconst (n := 1) (v := 0) dX4_takesSlots_0 rfl (by decide) ?_
  refine wp_istore_n (n := 2) (i := 2) (ls' := [(2, vI 0), (0, vR (some h0)), (1, vR r1)]) dX4_takesSlots_1 rfl rfl (Nat.le_of_ble_eq_true rfl) rfl ?_
  exact wp_sub [1, 2, 0] rfl h
set_option maxHeartbeats 1000000 in
theorem sg_X4_takesSlots_2 {h0 : Nat} {r1 : Option Nat} {i2 : Int32} {rc rs : Nat} {QR : Option aV → aW → Prop} {QX : String → aW → Prop} {w : aW} (h : (12 ≤ i2 → QR none w) ∧ (¬ 12 ≤ i2 → ∃ x9 : Nat, gf w h0 [4, 5, 6, 7] 1 (vR (some x9)) ∧ ∃ a14 : Nat, r1 = some a14 ∧ ∃ x14 : Nat, gf w a14 [4, 5, 6, 7] 1 (vR (some x14)) ∧ ∃ x18 : Int32, gI w x14 i2 x18 ∧ pI w x9 i2 x18 (fun w19 => wp (KX4_takesSlots) rc rs QR QX 2 [(0, vR (some h0)), (1, vR (some a14)), (2, vI (i2 + 1))] [] w19))) : wp (KX4_takesSlots) rc rs QR QX 2 [(0, vR (some h0)), (1, vR r1), (2, vI i2)] [] w := by
  refine wp_iload_n (n := 3) (i := 2) (q := 2) dX4_takesSlots_2 rfl rfl rfl ?_
  refine wp_bipush (n := 5) (v := 12) dX4_takesSlots_3 rfl (by decide) ?_
  refine wp_icmp_ge (n := 8) (t := 26) dX4_takesSlots_5 rfl (by decide) (fun c5 => ?_) (fun c5 => ?_)
  · replace h := h.1 c5
    exact wp_return dX4_takesSlots_26 rfl h
  · replace h := h.2 c5
    refine wp_aload_n (n := 9) (i := 0) (q := 0) dX4_takesSlots_8 rfl rfl rfl ?_
    obtain ⟨x9, g9, h⟩ := h
    refine wp_gf (n := 12) dX4_takesSlots_9 rfl fl_X4_9 g9 ?_
    refine wp_iload_n (n := 13) (i := 2) (q := 2) dX4_takesSlots_12 rfl rfl rfl ?_
    refine wp_aload_n (n := 14) (i := 1) (q := 1) dX4_takesSlots_13 rfl rfl rfl ?_
    obtain ⟨a14, ea14, h⟩ := h
    rw [ea14]
    obtain ⟨x14, g14, h⟩ := h
    refine wp_gf (n := 17) dX4_takesSlots_14 rfl fl_X4_9 g14 ?_
    refine wp_iload_n (n := 18) (i := 2) (q := 2) dX4_takesSlots_17 rfl rfl rfl ?_
    obtain ⟨x18, g18, h⟩ := h
    refine wp_gI (n := 19) dX4_takesSlots_18 rfl g18 ?_
    refine wp_pI (n := 20) dX4_takesSlots_19 rfl (pI_mono h (fun w19 h => ?_))
    refine wp_iinc (n := 23) (i := 2) (q := 2) (v := i2 + 1) (ls' := [(2, vI (i2 + 1)), (0, vR (some h0)), (1, vR (some a14))]) dX4_takesSlots_20 rfl rfl rfl (Nat.le_of_ble_eq_true rfl) rfl ?_
    refine wp_goto (t := 2) dX4_takesSlots_23 (by decide) ?_
    exact wp_sub [1, 2, 0] rfl h
set_option maxHeartbeats 1000000 in
theorem sg_X4_takesDead_0 {h0 : Nat} {r1 : Option Nat} {rc rs : Nat} {QR : Option aV → aW → Prop} {QX : String → aW → Prop} {w : aW} (h : wp (KX4_takesDead) rc rs QR QX 2 [(0, vR (some h0)), (1, vR r1), (2, vI 0)] [] w) : wp (KX4_takesDead) rc rs QR QX 0 [(0, vR (some h0)), (1, vR r1)] [] w := by
  refine wp_iconst (n := 1) (v := 0) dX4_takesDead_0 rfl (by decide) ?_
  refine wp_istore_n (n := 2) (i := 2) (ls' := [(2, vI 0), (0, vR (some h0)), (1, vR r1)]) dX4_takesDead_1 rfl rfl (Nat.le_of_ble_eq_true rfl) rfl ?_
  exact wp_sub [1, 2, 0] rfl h
set_option maxHeartbeats 1000000 in
theorem sg_X4_takesDead_2 {h0 : Nat} {r1 : Option Nat} {i2 : Int32} {rc rs : Nat} {QR : Option aV → aW → Prop} {QX : String → aW → Prop} {w : aW} (h : ∃ a4 : Nat, r1 = some a4 ∧ ∃ x4 : Int32, gf w a4 [4, 5, 6, 7] 3 (vI x4) ∧ (x4 ≤ i2 → ∃ x30 : Int32, gf w a4 [4, 5, 6, 7] 3 (vI x30) ∧ pf w h0 [4, 5, 6, 7] 3 (vI x30) (fun w33 => QR none w33)) ∧ (¬ x4 ≤ i2 → ∃ x11 : Nat, gf w h0 [4, 5, 6, 7] 2 (vR (some x11)) ∧ ∃ x16 : Nat, gf w a4 [4, 5, 6, 7] 2 (vR (some x16)) ∧ ∃ x20 : Int32, gI w x16 i2 x20 ∧ pI w x11 i2 x20 (fun w21 => wp (KX4_takesDead) rc rs QR QX 2 [(0, vR (some h0)), (1, vR (some a4)), (2, vI (i2 + 1))] [] w21))) : wp (KX4_takesDead) rc rs QR QX 2 [(0, vR (some h0)), (1, vR r1), (2, vI i2)] [] w := by
  refine wp_iload_n (n := 3) (i := 2) (q := 2) dX4_takesDead_2 rfl rfl rfl ?_
  refine wp_aload_n (n := 4) (i := 1) (q := 1) dX4_takesDead_3 rfl rfl rfl ?_
  obtain ⟨a4, ea4, h⟩ := h
  rw [ea4]
  obtain ⟨x4, g4, h⟩ := h
  refine wp_gf (n := 7) dX4_takesDead_4 rfl fl_X4_29 g4 ?_
  refine wp_icmp_ge (n := 10) (t := 28) dX4_takesDead_7 rfl (by decide) (fun c7 => ?_) (fun c7 => ?_)
  · replace h := h.1 c7
    refine wp_aload_n (n := 29) (i := 0) (q := 0) dX4_takesDead_28 rfl rfl rfl ?_
    refine wp_aload_n (n := 30) (i := 1) (q := 1) dX4_takesDead_29 rfl rfl rfl ?_
    obtain ⟨x30, g30, h⟩ := h
    refine wp_gf (n := 33) dX4_takesDead_30 rfl fl_X4_29 g30 ?_
    refine wp_pf (n := 36) dX4_takesDead_33 rfl (pt_X4_29 _) rfl rfl (pf_mono h (fun w33 h => ?_))
    exact wp_return dX4_takesDead_36 rfl h
  · replace h := h.2 c7
    refine wp_aload_n (n := 11) (i := 0) (q := 0) dX4_takesDead_10 rfl rfl rfl ?_
    obtain ⟨x11, g11, h⟩ := h
    refine wp_gf (n := 14) dX4_takesDead_11 rfl fl_X4_15 g11 ?_
    refine wp_iload_n (n := 15) (i := 2) (q := 2) dX4_takesDead_14 rfl rfl rfl ?_
    refine wp_aload_n (n := 16) (i := 1) (q := 1) dX4_takesDead_15 rfl rfl rfl ?_
    obtain ⟨x16, g16, h⟩ := h
    refine wp_gf (n := 19) dX4_takesDead_16 rfl fl_X4_15 g16 ?_
    refine wp_iload_n (n := 20) (i := 2) (q := 2) dX4_takesDead_19 rfl rfl rfl ?_
    obtain ⟨x20, g20, h⟩ := h
    refine wp_gI (n := 21) dX4_takesDead_20 rfl g20 ?_
    refine wp_pI (n := 22) dX4_takesDead_21 rfl (pI_mono h (fun w21 h => ?_))
    refine wp_iinc (n := 25) (i := 2) (q := 2) (v := i2 + 1) (ls' := [(2, vI (i2 + 1)), (0, vR (some h0)), (1, vR (some a4))]) dX4_takesDead_22 rfl rfl rfl (Nat.le_of_ble_eq_true rfl) rfl ?_
    refine wp_goto (t := 2) dX4_takesDead_25 (by decide) ?_
    exact wp_sub [1, 2, 0] rfl h
set_option maxHeartbeats 1000000 in
theorem sg_X7_init_0 {h0 : Nat} {i1 : Int32} {r2 : Option Nat} {rc rs : Nat} {QR : Option aV → aW → Prop} {QX : String → aW → Prop} {w : aW} (h : ∃ a3 : Nat, r2 = some a3 ∧ ∃ x3 : Option Nat, gf w a3 [4, 5] 5 (vR x3) ∧ 2 ≤ rc ∧ 24 ≤ rs ∧ ct (KX4_init) 2 24 [vR (some h0), vI i1, vR x3] w (fun v6 w6 => v6 = none ∧ pf w6 h0 [6, 7] 6 (vR (some a3)) (fun w11 => ck w11 h0 [6, 7] ∧ ct (KX4_takesSlots) 0 0 [vR (some h0), vR (some a3)] w11 (fun v16 w16 => v16 = none ∧ ck w16 h0 [6, 7] ∧ ct (KX4_takesDead) 0 0 [vR (some h0), vR (some a3)] w16 (fun v21 w21 => v21 = none ∧ QR none w21) (fun E21 w21 => False)) (fun E16 w16 => False))) (fun E6 w6 => False)) : wp (KX7_init) rc rs QR QX 0 [(0, vR (some h0)), (1, vI i1), (2, vR r2)] [] w := by
  refine wp_aload_n (n := 1) (i := 0) (q := 0) dX7_init_0 rfl rfl rfl ?_
  refine wp_iload_n (n := 2) (i := 1) (q := 1) dX7_init_1 rfl rfl rfl ?_
  refine wp_aload_n (n := 3) (i := 2) (q := 2) dX7_init_2 rfl rfl rfl ?_
  obtain ⟨a3, ea3, h⟩ := h
  rw [ea3]
  obtain ⟨x3, g3, h⟩ := h
  refine wp_gf (n := 6) dX7_init_3 rfl fl_X7_1 g3 ?_
  obtain ⟨b6, bb6, h⟩ := h
  refine wp_call (n := 9) (K' := KX4_init) (rc' := rc - 2) (rs' := rs - 24) (aRun_I (K' := KX4_init) (As := [vI i1, vR x3]) (rest := []) (b := h0) dX7_init_6 (aCal_of kf_X4_init (Nat.le_of_ble_eq_true rfl)) rfl q540 q241 rfl rfl ar_X4_init rfl (Nat.le_of_ble_eq_true rfl)) rfl (by omega) (by omega) (fun v6 w6 h => ?_) (fun E6 w6 h => ?_) h
  · obtain ⟨rfl, h⟩ := h
    refine wp_aload_n (n := 10) (i := 0) (q := 0) dX7_init_9 rfl rfl rfl ?_
    refine wp_aload_n (n := 11) (i := 2) (q := 2) dX7_init_10 rfl rfl rfl ?_
    refine wp_pf (n := 14) dX7_init_11 rfl (pt_X7_13 _) (nar_o _ _) (fit_o _ _) (pf_mono h (fun w11 h => ?_))
    refine wp_aload_n (n := 15) (i := 0) (q := 0) dX7_init_14 rfl rfl rfl ?_
    refine wp_aload_n (n := 16) (i := 2) (q := 2) dX7_init_15 rfl rfl rfl ?_
    obtain ⟨⟨cc16, o16, kk16⟩, h⟩ := h
    have run16 : aRun (KX7_init) (KX4_takesSlots) 16 [vR (some h0), vR (some a3)] [vR (some a3), vR (some h0)] [] w11 := by
      simp only [List.mem_cons, List.not_mem_nil, or_false] at kk16
      rcases kk16 with kk16 | kk16
      · obtain ⟨fs16, rfl⟩ := kd_o kk16 (by decide)
        exact (aRun_U (K' := KX4_takesSlots) (As := [vR (some a3)]) (rest := []) (b := h0) (x := ⟨"DeadListPool$Snapshot", "takesSlots", "(LDeadListPool$Holder;)V"⟩) (owner := "DeadListPool$Holder") (c0 := .inr (6, fs16)) dX7_init_16 (aCal_of kf_X4_takesSlots (Nat.le_of_ble_eq_true rfl)) rfl q541 q542 q544 q546 (Or.inr q543) ⟨by decide, by decide⟩ ar_X4_takesSlots o16 (by decide : 6 < 9) rfl (Nat.le_of_ble_eq_true rfl))
      · obtain ⟨fs16, rfl⟩ := kd_o kk16 (by decide)
        exact (aRun_U (K' := KX4_takesSlots) (As := [vR (some a3)]) (rest := []) (b := h0) (x := ⟨"DeadListPool$Snapshot", "takesSlots", "(LDeadListPool$Holder;)V"⟩) (owner := "DeadListPool$Holder") (c0 := .inr (7, fs16)) dX7_init_16 (aCal_of kf_X4_takesSlots (Nat.le_of_ble_eq_true rfl)) rfl q541 q542 q545 q546 (Or.inr q543) ⟨by decide, by decide⟩ ar_X4_takesSlots o16 (by decide : 7 < 9) rfl (Nat.le_of_ble_eq_true rfl))
    refine wp_call (n := 19) (K' := KX4_takesSlots) (rc' := rc - 2) (rs' := rs - 24) run16 rfl (Nat.le_of_eq (Nat.zero_add _)) (Nat.le_of_eq (Nat.zero_add _)) (fun v16 w16 h => ?_) (fun E16 w16 h => ?_) h
    · obtain ⟨rfl, h⟩ := h
      refine wp_aload_n (n := 20) (i := 0) (q := 0) dX7_init_19 rfl rfl rfl ?_
      refine wp_aload_n (n := 21) (i := 2) (q := 2) dX7_init_20 rfl rfl rfl ?_
      obtain ⟨⟨cc21, o21, kk21⟩, h⟩ := h
      have run21 : aRun (KX7_init) (KX4_takesDead) 21 [vR (some h0), vR (some a3)] [vR (some a3), vR (some h0)] [] w16 := by
        simp only [List.mem_cons, List.not_mem_nil, or_false] at kk21
        rcases kk21 with kk21 | kk21
        · obtain ⟨fs21, rfl⟩ := kd_o kk21 (by decide)
          exact (aRun_U (K' := KX4_takesDead) (As := [vR (some a3)]) (rest := []) (b := h0) (x := ⟨"DeadListPool$Snapshot", "takesDead", "(LDeadListPool$Holder;)V"⟩) (owner := "DeadListPool$Holder") (c0 := .inr (6, fs21)) dX7_init_21 (aCal_of kf_X4_takesDead (Nat.le_of_ble_eq_true rfl)) rfl q548 q549 q551 q553 (Or.inr q550) ⟨by decide, by decide⟩ ar_X4_takesDead o21 (by decide : 6 < 9) rfl (Nat.le_of_ble_eq_true rfl))
        · obtain ⟨fs21, rfl⟩ := kd_o kk21 (by decide)
          exact (aRun_U (K' := KX4_takesDead) (As := [vR (some a3)]) (rest := []) (b := h0) (x := ⟨"DeadListPool$Snapshot", "takesDead", "(LDeadListPool$Holder;)V"⟩) (owner := "DeadListPool$Holder") (c0 := .inr (7, fs21)) dX7_init_21 (aCal_of kf_X4_takesDead (Nat.le_of_ble_eq_true rfl)) rfl q548 q549 q552 q553 (Or.inr q550) ⟨by decide, by decide⟩ ar_X4_takesDead o21 (by decide : 7 < 9) rfl (Nat.le_of_ble_eq_true rfl))
      refine wp_call (n := 24) (K' := KX4_takesDead) (rc' := rc - 2) (rs' := rs - 24) run21 rfl (Nat.le_of_eq (Nat.zero_add _)) (Nat.le_of_eq (Nat.zero_add _)) (fun v21 w21 h => ?_) (fun E21 w21 h => ?_) h
      · obtain ⟨rfl, h⟩ := h
        exact wp_return dX7_init_24 rfl h
      · exact h.elim
    · exact h.elim
  · exact h.elim
set_option maxHeartbeats 1000000 in
theorem sg_X8_init_0 {h0 : Nat} {i1 : Int32} {r2 : Option Nat} {rc rs : Nat} {QR : Option aV → aW → Prop} {QX : String → aW → Prop} {w : aW} (h : 2 ≤ rc ∧ 24 ≤ rs ∧ ct (KX7_init) 2 24 [vR (some h0), vI i1, vR r2] w (fun v3 w3 => v3 = none ∧ pf w3 h0 [7] 7 (vI 1) (fun w8 => QR none w8)) (fun E3 w3 => False)) : wp (KX8_init) rc rs QR QX 0 [(0, vR (some h0)), (1, vI i1), (2, vR r2)] [] w := by
  refine wp_aload_n (n := 1) (i := 0) (q := 0) dX8_init_0 rfl rfl rfl ?_
  refine wp_iload_n (n := 2) (i := 1) (q := 1) dX8_init_1 rfl rfl rfl ?_
  refine wp_aload_n (n := 3) (i := 2) (q := 2) dX8_init_2 rfl rfl rfl ?_
  obtain ⟨b3, bb3, h⟩ := h
  refine wp_call (n := 6) (K' := KX7_init) (rc' := rc - 2) (rs' := rs - 24) (aRun_I (K' := KX7_init) (As := [vI i1, vR r2]) (rest := []) (b := h0) dX8_init_3 (aCal_of kf_X7_init (Nat.le_of_ble_eq_true rfl)) rfl q537 q538 rfl rfl ar_X7_init rfl (Nat.le_of_ble_eq_true rfl)) rfl (by omega) (by omega) (fun v3 w3 h => ?_) (fun E3 w3 h => ?_) h
  · obtain ⟨rfl, h⟩ := h
    refine wp_aload_n (n := 7) (i := 0) (q := 0) dX8_init_6 rfl rfl rfl ?_
    refine wp_iconst (n := 8) (v := 1) dX8_init_7 rfl (by decide) ?_
    refine wp_pf (n := 11) dX8_init_8 rfl (pt_X8_7 _) rfl rfl (pf_mono h (fun w8 h => ?_))
    exact wp_return dX8_init_11 rfl h
  · exact h.elim
set_option maxHeartbeats 1000000 in
theorem sg_X0_takesPlace_0 {h0 : Nat} {r1 : Option Nat} {rc rs : Nat} {QR : Option aV → aW → Prop} {QX : String → aW → Prop} {w : aW} (h : isO w h0 0 ∧ ct (KX0_leastThing) 0 0 [vR (some h0)] w (fun v1 w1 => ∃ x1 : Int32, v1 = some (vI x1) ∧ ∃ a7 : Nat, r1 = some a7 ∧ pf w1 a7 [4, 5, 6, 7] 4 (vI x1) (fun w7 => ∃ x11 : Nat, gf w7 h0 [0] 4 (vR (some x11)) ∧ ck w7 a7 [4, 5, 6, 7, 8] ∧ pR w7 x11 2 x1 (some a7) (fun w16 => QR (some (vI x1)) w16))) (fun E1 w1 => False)) : wp (KX0_takesPlace) rc rs QR QX 0 [(0, vR (some h0)), (1, vR r1)] [] w := by
  refine wp_aload_n (n := 1) (i := 0) (q := 0) dX0_takesPlace_0 rfl rfl rfl ?_
  obtain ⟨⟨fs1, o1⟩, h⟩ := h
  refine wp_call (n := 4) (K' := KX0_leastThing) (rc' := rc) (rs' := rs) (aRun_V (K' := KX0_leastThing) (As := []) (rest := []) (b := h0) (c0 := .inr (0, fs1)) dX0_takesPlace_1 (aCal_of kf_X0_leastThing (Nat.le_of_ble_eq_true rfl)) q231 q233 qs0 ar_X0_leastThing o1 (by decide : 0 < 9) rfl (Nat.le_of_ble_eq_true rfl)) rfl (Nat.le_of_eq (Nat.zero_add _)) (Nat.le_of_eq (Nat.zero_add _)) (fun v1 w1 h => ?_) (fun E1 w1 h => ?_) h
  · obtain ⟨x1, rfl, h⟩ := h
    refine wp_istore_n (n := 5) (i := 2) (ls' := [(2, vI x1), (0, vR (some h0)), (1, vR r1)]) dX0_takesPlace_4 rfl rfl (Nat.le_of_ble_eq_true rfl) rfl ?_
    refine wp_aload_n (n := 6) (i := 1) (q := 2) dX0_takesPlace_5 rfl rfl rfl ?_
    refine wp_iload_n (n := 7) (i := 2) (q := 0) dX0_takesPlace_6 rfl rfl rfl ?_
    obtain ⟨a7, ea7, h⟩ := h
    rw [ea7]
    refine wp_pf (n := 10) dX0_takesPlace_7 rfl (pt_X0_78 _) rfl rfl (pf_mono h (fun w7 h => ?_))
    refine wp_aload_n (n := 11) (i := 0) (q := 1) dX0_takesPlace_10 rfl rfl rfl ?_
    obtain ⟨x11, g11, h⟩ := h
    refine wp_gf (n := 14) dX0_takesPlace_11 rfl fl_X0_20 g11 ?_
    refine wp_iload_n (n := 15) (i := 2) (q := 0) dX0_takesPlace_14 rfl rfl rfl ?_
    refine wp_aload_n (n := 16) (i := 1) (q := 2) dX0_takesPlace_15 rfl rfl rfl ?_
    obtain ⟨k16, h⟩ := h
    refine wp_pR (n := 17) dX0_takesPlace_16 rfl (by decide) rfl cok_Object (Or.inr ⟨_, rfl, k16⟩) (pR_mono h (fun w16 h => ?_))
    refine wp_iload_n (n := 18) (i := 2) (q := 0) dX0_takesPlace_17 rfl rfl rfl ?_
    exact wp_ireturn dX0_takesPlace_18 rfl h
  · exact h.elim
set_option maxHeartbeats 1000000 in
theorem sg_X0_snaps_0 {h0 : Nat} {r1 : Option Nat} {i2 : Int32} {rc rs : Nat} {QR : Option aV → aW → Prop} {QX : String → aW → Prop} {w : aW} (h : (r1 = none → 1 ≤ rc ∧ 8 ≤ rs ∧ QX "java/lang/NullPointerException" w) ∧ (∀ a1 : Nat, r1 = some a1 → ∃ x1 : Int32, gf w a1 [4, 5] 4 (vI x1) ∧ isO w h0 0 ∧ ct (KX0_leastThing) 0 0 [vR (some h0)] w (fun v6 w6 => ∃ x6 : Int32, v6 = some (vI x6) ∧ (¬ x6 = (-1) → (i2 = 0 → 1 ≤ rc ∧ 7 ≤ rs ∧ ∀ (a35 : Nat) (w35 : aW), w6 a35 = none → w35 = aup w6 a35 (.inr (6, [vI 0, vR none, vR none, vI 0, vI 0, vR none, vR none])) → ∃ x40 : Int32, gf w35 h0 [0] 2 (vI x40) ∧ 2 ≤ (rc - 1) ∧ 24 ≤ (rs - 7) ∧ ct (KX7_init) 2 24 [vR (some a35), vI x40, vR (some a1)] w35 (fun v44 w44 => v44 = none ∧ isO w44 h0 0 ∧ ct (KX0_takesPlace) 0 0 [vR (some h0), vR (some a35)] w44 (fun v52 w52 => ∃ x52 : Int32, v52 = some (vI x52) ∧ pf w52 a1 [4, 5] 5 (vR (some a35)) (fun w60 => pf w60 a1 [4, 5] 3 (vI 0) (fun w65 => ∃ x70 : Int32, gf w65 h0 [0] 2 (vI x70) ∧ pf w65 h0 [0] 2 (vI (x70 + 1)) (fun w75 => QR (some (vI x52)) w75)))) (fun E52 w52 => False)) (fun E44 w44 => False)) ∧ (¬ i2 = 0 → 1 ≤ rc ∧ 8 ≤ rs ∧ ∀ (a20 : Nat) (w20 : aW), w6 a20 = none → w20 = aup w6 a20 (.inr (7, [vI 0, vR none, vR none, vI 0, vI 0, vR none, vR none, vI 0])) → ∃ x25 : Int32, gf w20 h0 [0] 2 (vI x25) ∧ 2 ≤ (rc - 1) ∧ 24 ≤ (rs - 8) ∧ ct (KX8_init) 2 24 [vR (some a20), vI x25, vR (some a1)] w20 (fun v29 w29 => v29 = none ∧ isO w29 h0 0 ∧ ct (KX0_takesPlace) 0 0 [vR (some h0), vR (some a20)] w29 (fun v52 w52 => ∃ x52 : Int32, v52 = some (vI x52) ∧ pf w52 a1 [4, 5] 5 (vR (some a20)) (fun w60 => pf w60 a1 [4, 5] 3 (vI 0) (fun w65 => ∃ x70 : Int32, gf w65 h0 [0] 2 (vI x70) ∧ pf w65 h0 [0] 2 (vI (x70 + 1)) (fun w75 => QR (some (vI x52)) w75)))) (fun E52 w52 => False)) (fun E29 w29 => False))) ∧ (x6 = (-1) → QR (some (vI (-4))) w6)) (fun E6 w6 => False))) : wp (KX0_snaps) rc rs QR QX 0 [(0, vR (some h0)), (1, vR r1), (2, vI i2)] [] w := by
  refine wp_aload_n (n := 1) (i := 1) (q := 1) dX0_snaps_0 rfl rfl rfl ?_
  rcases opt_c r1 with ea1 | ⟨a1, ea1⟩
  · obtain ⟨b1, b2, h⟩ := h.1 ea1
    rw [ea1]
    refine wp_getfNull (rc' := 0) (rs' := 0) dX0_snaps_1 (fl_X0_177 4 (by decide)) (by omega) (by omega) (Nat.le_of_ble_eq_true rfl) ?_
    exact wpx_out (fun z hz => absurd hz List.not_mem_nil) h
  · replace h := h.2 a1 ea1
    rw [ea1]
    obtain ⟨x1, g1, h⟩ := h
    refine wp_gf (n := 4) dX0_snaps_1 rfl fl_X0_177 g1 ?_
    refine wp_istore_n (n := 5) (i := 3) (ls' := [(3, vI x1), (0, vR (some h0)), (1, vR (some a1)), (2, vI i2)]) dX0_snaps_4 rfl rfl (Nat.le_of_ble_eq_true rfl) rfl ?_
    refine wp_aload_n (n := 6) (i := 0) (q := 1) dX0_snaps_5 rfl rfl rfl ?_
    obtain ⟨⟨fs6, o6⟩, h⟩ := h
    refine wp_call (n := 9) (K' := KX0_leastThing) (rc' := rc) (rs' := rs) (aRun_V (K' := KX0_leastThing) (As := []) (rest := []) (b := h0) (c0 := .inr (0, fs6)) dX0_snaps_6 (aCal_of kf_X0_leastThing (Nat.le_of_ble_eq_true rfl)) q231 q233 qs0 ar_X0_leastThing o6 (by decide : 0 < 9) rfl (Nat.le_of_ble_eq_true rfl)) rfl (Nat.le_of_eq (Nat.zero_add _)) (Nat.le_of_eq (Nat.zero_add _)) (fun v6 w6 h => ?_) (fun E6 w6 h => ?_) h
    · obtain ⟨x6, rfl, h⟩ := h
      refine wp_iconst (n := 10) (v := (-1)) dX0_snaps_9 rfl (by decide) ?_
      refine wp_icmp_ne (n := 13) (t := 16) dX0_snaps_10 rfl (by decide) (fun c10 => ?_) (fun c10 => ?_)
      · replace h := h.1 c10
        refine wp_iload_n (n := 17) (i := 2) (q := 3) dX0_snaps_16 rfl rfl rfl ?_
        refine wp_if_eq (n := 20) (t := 35) dX0_snaps_17 rfl (by decide) (fun c17 => ?_) (fun c17 => ?_)
        · replace h := h.1 c17
          obtain ⟨b1, b2, h⟩ := h
          refine wp_new (n := 38) (rc' := rc - 1) (rs' := rs - 7) dX0_snaps_35 rfl nw_X0_27 (by omega) (by show _ + 7 ≤ _; omega) (fun a35 f35 => ?_)
          obtain ⟨w35, ew35⟩ : ∃ z, z = aup w6 a35 (.inr (6, [vI 0, vR none, vR none, vI 0, vI 0, vR none, vR none])) := ⟨_, rfl⟩
          rw [← ew35]
          replace h := h a35 w35 f35 ew35
          refine wp_dup (n := 39) dX0_snaps_38 rfl rfl ?_
          refine wp_aload_n (n := 40) (i := 0) (q := 1) dX0_snaps_39 rfl rfl rfl ?_
          obtain ⟨x40, g40, h⟩ := h
          refine wp_gf (n := 43) dX0_snaps_40 rfl fl_X0_16 g40 ?_
          refine wp_aload_n (n := 44) (i := 1) (q := 2) dX0_snaps_43 rfl rfl rfl ?_
          obtain ⟨b44, bb44, h⟩ := h
          refine wp_call (n := 47) (K' := KX7_init) (rc' := rc - 1 - 2) (rs' := rs - 7 - 24) (aRun_I (K' := KX7_init) (As := [vI x40, vR (some a1)]) (rest := [vR (some a35)]) (b := a35) dX0_snaps_44 (aCal_of kf_X7_init (Nat.le_of_ble_eq_true rfl)) rfl q570 q538 rfl rfl ar_X7_init rfl (Nat.le_of_ble_eq_true rfl)) rfl (by omega) (by omega) (fun v44 w44 h => ?_) (fun E44 w44 h => ?_) h
          · obtain ⟨rfl, h⟩ := h
            refine wp_astore (n := 49) (i := 4) (ls' := [(4, vR (some a35)), (3, vI x1), (0, vR (some h0)), (1, vR (some a1)), (2, vI i2)]) dX0_snaps_47 rfl (Nat.le_of_ble_eq_true rfl) rfl ?_
            refine wp_aload_n (n := 50) (i := 0) (q := 2) dX0_snaps_49 rfl rfl rfl ?_
            refine wp_aload (n := 52) (i := 4) (q := 0) dX0_snaps_50 rfl rfl ?_
            obtain ⟨⟨fs52, o52⟩, h⟩ := h
            refine wp_call (n := 55) (K' := KX0_takesPlace) (rc' := rc - 1 - 2) (rs' := rs - 7 - 24) (aRun_V (K' := KX0_takesPlace) (As := [vR (some a35)]) (rest := []) (b := h0) (c0 := .inr (0, fs52)) dX0_snaps_52 (aCal_of kf_X0_takesPlace (Nat.le_of_ble_eq_true rfl)) q312 q314 qs1 ar_X0_takesPlace o52 (by decide : 0 < 9) rfl (Nat.le_of_ble_eq_true rfl)) rfl (Nat.le_of_eq (Nat.zero_add _)) (Nat.le_of_eq (Nat.zero_add _)) (fun v52 w52 h => ?_) (fun E52 w52 h => ?_) h
            · obtain ⟨x52, rfl, h⟩ := h
              refine wp_istore (n := 57) (i := 5) (ls' := [(5, vI x52), (4, vR (some a35)), (3, vI x1), (0, vR (some h0)), (1, vR (some a1)), (2, vI i2)]) dX0_snaps_55 rfl (Nat.le_of_ble_eq_true rfl) rfl ?_
              refine wp_aload_n (n := 58) (i := 1) (q := 4) dX0_snaps_57 rfl rfl rfl ?_
              refine wp_aload (n := 60) (i := 4) (q := 1) dX0_snaps_58 rfl rfl ?_
              refine wp_pf (n := 63) dX0_snaps_60 rfl (pt_X0_92 _) (nar_o _ _) (fit_o _ _) (pf_mono h (fun w60 h => ?_))
              refine wp_aload_n (n := 64) (i := 1) (q := 4) dX0_snaps_63 rfl rfl rfl ?_
              refine wp_iconst (n := 65) (v := 0) dX0_snaps_64 rfl (by decide) ?_
              refine wp_pf (n := 68) dX0_snaps_65 rfl (pt_X0_184 _) rfl rfl (pf_mono h (fun w65 h => ?_))
              refine wp_aload_n (n := 69) (i := 0) (q := 3) dX0_snaps_68 rfl rfl rfl ?_
              refine wp_dup (n := 70) dX0_snaps_69 rfl rfl ?_
              obtain ⟨x70, g70, h⟩ := h
              refine wp_gf (n := 73) dX0_snaps_70 rfl fl_X0_16 g70 ?_
              refine wp_iconst (n := 74) (v := 1) dX0_snaps_73 rfl (by decide) ?_
              refine wp_iadd (n := 75) dX0_snaps_74 rfl ?_
              refine wp_pf (n := 78) dX0_snaps_75 rfl (pt_X0_16 _) rfl rfl (pf_mono h (fun w75 h => ?_))
              refine wp_iload (n := 80) (i := 5) (q := 0) dX0_snaps_78 rfl rfl ?_
              exact wp_ireturn dX0_snaps_80 rfl h
            · exact h.elim
          · exact h.elim
        · replace h := h.2 c17
          obtain ⟨b1, b2, h⟩ := h
          refine wp_new (n := 23) (rc' := rc - 1) (rs' := rs - 8) dX0_snaps_20 rfl nw_X0_178 (by omega) (by show _ + 8 ≤ _; omega) (fun a20 f20 => ?_)
          obtain ⟨w20, ew20⟩ : ∃ z, z = aup w6 a20 (.inr (7, [vI 0, vR none, vR none, vI 0, vI 0, vR none, vR none, vI 0])) := ⟨_, rfl⟩
          rw [← ew20]
          replace h := h a20 w20 f20 ew20
          refine wp_dup (n := 24) dX0_snaps_23 rfl rfl ?_
          refine wp_aload_n (n := 25) (i := 0) (q := 1) dX0_snaps_24 rfl rfl rfl ?_
          obtain ⟨x25, g25, h⟩ := h
          refine wp_gf (n := 28) dX0_snaps_25 rfl fl_X0_16 g25 ?_
          refine wp_aload_n (n := 29) (i := 1) (q := 2) dX0_snaps_28 rfl rfl rfl ?_
          obtain ⟨b29, bb29, h⟩ := h
          refine wp_call (n := 32) (K' := KX8_init) (rc' := rc - 1 - 2) (rs' := rs - 8 - 24) (aRun_I (K' := KX8_init) (As := [vI x25, vR (some a1)]) (rest := [vR (some a20)]) (b := a20) dX0_snaps_29 (aCal_of kf_X8_init (Nat.le_of_ble_eq_true rfl)) rfl q534 q535 rfl rfl ar_X8_init rfl (Nat.le_of_ble_eq_true rfl)) rfl (by omega) (by omega) (fun v29 w29 h => ?_) (fun E29 w29 h => ?_) h
          · obtain ⟨rfl, h⟩ := h
            refine wp_goto (t := 47) dX0_snaps_32 (by decide) ?_
            refine wp_astore (n := 49) (i := 4) (ls' := [(4, vR (some a20)), (3, vI x1), (0, vR (some h0)), (1, vR (some a1)), (2, vI i2)]) dX0_snaps_47 rfl (Nat.le_of_ble_eq_true rfl) rfl ?_
            refine wp_aload_n (n := 50) (i := 0) (q := 2) dX0_snaps_49 rfl rfl rfl ?_
            refine wp_aload (n := 52) (i := 4) (q := 0) dX0_snaps_50 rfl rfl ?_
            obtain ⟨⟨fs52, o52⟩, h⟩ := h
            refine wp_call (n := 55) (K' := KX0_takesPlace) (rc' := rc - 1 - 2) (rs' := rs - 8 - 24) (aRun_V (K' := KX0_takesPlace) (As := [vR (some a20)]) (rest := []) (b := h0) (c0 := .inr (0, fs52)) dX0_snaps_52 (aCal_of kf_X0_takesPlace (Nat.le_of_ble_eq_true rfl)) q312 q314 qs1 ar_X0_takesPlace o52 (by decide : 0 < 9) rfl (Nat.le_of_ble_eq_true rfl)) rfl (Nat.le_of_eq (Nat.zero_add _)) (Nat.le_of_eq (Nat.zero_add _)) (fun v52 w52 h => ?_) (fun E52 w52 h => ?_) h
            · obtain ⟨x52, rfl, h⟩ := h
              refine wp_istore (n := 57) (i := 5) (ls' := [(5, vI x52), (4, vR (some a20)), (3, vI x1), (0, vR (some h0)), (1, vR (some a1)), (2, vI i2)]) dX0_snaps_55 rfl (Nat.le_of_ble_eq_true rfl) rfl ?_
              refine wp_aload_n (n := 58) (i := 1) (q := 4) dX0_snaps_57 rfl rfl rfl ?_
              refine wp_aload (n := 60) (i := 4) (q := 1) dX0_snaps_58 rfl rfl ?_
              refine wp_pf (n := 63) dX0_snaps_60 rfl (pt_X0_92 _) (nar_o _ _) (fit_o _ _) (pf_mono h (fun w60 h => ?_))
              refine wp_aload_n (n := 64) (i := 1) (q := 4) dX0_snaps_63 rfl rfl rfl ?_
              refine wp_iconst (n := 65) (v := 0) dX0_snaps_64 rfl (by decide) ?_
              refine wp_pf (n := 68) dX0_snaps_65 rfl (pt_X0_184 _) rfl rfl (pf_mono h (fun w65 h => ?_))
              refine wp_aload_n (n := 69) (i := 0) (q := 3) dX0_snaps_68 rfl rfl rfl ?_
              refine wp_dup (n := 70) dX0_snaps_69 rfl rfl ?_
              obtain ⟨x70, g70, h⟩ := h
              refine wp_gf (n := 73) dX0_snaps_70 rfl fl_X0_16 g70 ?_
              refine wp_iconst (n := 74) (v := 1) dX0_snaps_73 rfl (by decide) ?_
              refine wp_iadd (n := 75) dX0_snaps_74 rfl ?_
              refine wp_pf (n := 78) dX0_snaps_75 rfl (pt_X0_16 _) rfl rfl (pf_mono h (fun w75 h => ?_))
              refine wp_iload (n := 80) (i := 5) (q := 0) dX0_snaps_78 rfl rfl ?_
              exact wp_ireturn dX0_snaps_80 rfl h
            · exact h.elim
          · exact h.elim
      · replace h := h.2 c10
        refine wp_bipush (n := 15) (v := (-4)) dX0_snaps_13 rfl (by decide) ?_
        exact wp_ireturn dX0_snaps_15 rfl h
    · exact h.elim
set_option maxHeartbeats 1000000 in
theorem sg_X0_snap_0 {h0 : Nat} {i1 : Int32} {i2 : Int32} {rc rs : Nat} {QR : Option aV → aW → Prop} {QX : String → aW → Prop} {w : aW} (h : ct (KX0_in) 0 0 [vL (Int32.toInt64 i2), vL 0, vL 1] w (fun v4 w4 => ∃ x4 : Int32, v4 = some (vI x4) ∧ (¬ x4 = 0 → 1 ≤ rc ∧ 6 ≤ rs ∧ isO w4 h0 0 ∧ ct (KX0_thingAt) 1 6 [vR (some h0), vI i1] w4 (fun v16 w16 => ∃ x16 : Option Nat, v16 = some (vR x16) ∧ (x16 = none → (¬ i2 = 1 → 3 ≤ (rc - 1) ∧ 36 ≤ (rs - 6) ∧ isO w16 h0 0 ∧ ct (KX0_snaps) 3 36 [vR (some h0), vR none, vI 0] w16 (fun v32 w32 => ∃ x32 : Int32, v32 = some (vI x32) ∧ QR (some (vI x32)) w32) (fun E32 w32 => (E32 = "java/lang/NullPointerException" ∧ QR (some (vI (-11))) w32))) ∧ (i2 = 1 → 3 ≤ (rc - 1) ∧ 36 ≤ (rs - 6) ∧ isO w16 h0 0 ∧ ct (KX0_snaps) 3 36 [vR (some h0), vR none, vI 1] w16 (fun v32 w32 => ∃ x32 : Int32, v32 = some (vI x32) ∧ QR (some (vI x32)) w32) (fun E32 w32 => (E32 = "java/lang/NullPointerException" ∧ QR (some (vI (-11))) w32)))) ∧ (∀ a19 : Nat, x16 = some a19 → ((ck w16 a19 [4, 5] ∧ (¬ i2 = 1 → 3 ≤ (rc - 1) ∧ 36 ≤ (rs - 6) ∧ isO w16 h0 0 ∧ ct (KX0_snaps) 3 36 [vR (some h0), vR (some a19), vI 0] w16 (fun v32 w32 => ∃ x32 : Int32, v32 = some (vI x32) ∧ QR (some (vI x32)) w32) (fun E32 w32 => (E32 = "java/lang/NullPointerException" ∧ QR (some (vI (-11))) w32))) ∧ (i2 = 1 → 3 ≤ (rc - 1) ∧ 36 ≤ (rs - 6) ∧ isO w16 h0 0 ∧ ct (KX0_snaps) 3 36 [vR (some h0), vR (some a19), vI 1] w16 (fun v32 w32 => ∃ x32 : Int32, v32 = some (vI x32) ∧ QR (some (vI x32)) w32) (fun E32 w32 => (E32 = "java/lang/NullPointerException" ∧ QR (some (vI (-11))) w32)))) ∨ (ck w16 a19 [6, 7, 8] ∧ 3 ≤ (rc - 1) ∧ 950 ≤ (rs - 6) ∧ QR (some (vI (-13))) w16)))) (fun E16 w16 => (E16 = "java/lang/IndexOutOfBoundsException" ∧ QR (some (vI (-12))) w16))) ∧ (x4 = 0 → QR (some (vI (-2))) w4)) (fun E4 w4 => False)) : wp (KX0_snap) rc rs QR QX 0 [(0, vR (some h0)), (1, vI i1), (2, vI i2)] [] w := by
  refine wp_iload_n (n := 1) (i := 2) (q := 2) dX0_snap_0 rfl rfl rfl ?_
  refine wp_i2l (n := 2) dX0_snap_1 rfl ?_
  refine wp_lconst (n := 3) (v := 0) dX0_snap_2 rfl (by decide) ?_
  refine wp_lconst (n := 4) (v := 1) dX0_snap_3 rfl (by decide) ?_
  refine wp_call (n := 7) (K' := KX0_in) (rc' := rc) (rs' := rs) (aRun_S (K' := KX0_in) (As := [vL (Int32.toInt64 i2), vL 0, vL 1]) (rest := []) dX0_snap_4 (aCal_of kf_X0_in (Nat.le_of_ble_eq_true rfl)) rfl q228 q229 ar_X0_in rfl (Nat.le_of_ble_eq_true rfl)) rfl (Nat.le_of_eq (Nat.zero_add _)) (Nat.le_of_eq (Nat.zero_add _)) (fun v4 w4 h => ?_) (fun E4 w4 h => ?_) h
  · obtain ⟨x4, rfl, h⟩ := h
    refine wp_if_ne (n := 10) (t := 13) dX0_snap_7 rfl (by decide) (fun c7 => ?_) (fun c7 => ?_)
    · replace h := h.1 c7
      refine wp_aload_n (n := 14) (i := 0) (q := 0) dX0_snap_13 rfl rfl rfl ?_
      refine wp_aload_n (n := 15) (i := 0) (q := 0) dX0_snap_14 rfl rfl rfl ?_
      refine wp_iload_n (n := 16) (i := 1) (q := 1) dX0_snap_15 rfl rfl rfl ?_
      obtain ⟨b16, bb16, h⟩ := h
      obtain ⟨⟨fs16, o16⟩, h⟩ := h
      refine wp_call (n := 19) (K' := KX0_thingAt) (rc' := rc - 1) (rs' := rs - 6) (aRun_V (K' := KX0_thingAt) (As := [vI i1]) (rest := [vR (some h0)]) (b := h0) (c0 := .inr (0, fs16)) dX0_snap_16 (aCal_of kf_X0_thingAt (Nat.le_of_ble_eq_true rfl)) q451 q453 qs4 ar_X0_thingAt o16 (by decide : 0 < 9) rfl (Nat.le_of_ble_eq_true rfl)) rfl (by omega) (by omega) (fun v16 w16 h => ?_) (fun E16 w16 h => ?_) h
      · obtain ⟨x16, rfl, h⟩ := h
        rcases opt_c x16 with ea19 | ⟨a19, ea19⟩
        · replace h := h.1 ea19
          rw [ea19]
          refine wp_castN (n := 22) dX0_snap_19 rfl ?_
          refine wp_iload_n (n := 23) (i := 2) (q := 2) dX0_snap_22 rfl rfl rfl ?_
          refine wp_iconst (n := 24) (v := 1) dX0_snap_23 rfl (by decide) ?_
          refine wp_icmp_ne (n := 27) (t := 31) dX0_snap_24 rfl (by decide) (fun c24 => ?_) (fun c24 => ?_)
          · replace h := h.1 c24
            refine wp_iconst (n := 32) (v := 0) dX0_snap_31 rfl (by decide) ?_
            obtain ⟨b32, bb32, h⟩ := h
            obtain ⟨⟨fs32, o32⟩, h⟩ := h
            refine wp_call (n := 35) (K' := KX0_snaps) (rc' := rc - 1 - 3) (rs' := rs - 6 - 36) (aRun_V (K' := KX0_snaps) (As := [vR none, vI 0]) (rest := []) (b := h0) (c0 := .inr (0, fs32)) dX0_snap_32 (aCal_of kf_X0_snaps (Nat.le_of_ble_eq_true rfl)) q528 q530 qs13 ar_X0_snaps o32 (by decide : 0 < 9) rfl (Nat.le_of_ble_eq_true rfl)) rfl (by omega) (by omega) (fun v32 w32 h => ?_) (fun E32 w32 h => ?_) h
            · obtain ⟨x32, rfl, h⟩ := h
              exact wp_ireturn dX0_snap_35 rfl h
            · obtain ⟨rfl, h⟩ := h
              refine wpx_catch (nm := "java/lang/NullPointerException") [(13, 35, 36, 53)] (13, 35, 40, 169) [(13, 35, 44, 171)] rfl (fun z hz => by have hz : z ∈ ([(13, 35, 36, 53)] : List (Nat × Nat × Nat × Nat)) := hz; simp only [List.mem_cons, List.not_mem_nil, or_false] at hz; subst hz; exact Or.inr ⟨by decide, "java/lang/IndexOutOfBoundsException", q320, nc_NullPointerException_IndexOutOfBoundsException⟩) (by decide) (by decide) q411 q433 (fun q9 => ?_)
              refine wp_astore_n (n := 41) (i := 3) (ls' := [(3, vR (some q9)), (0, vR (some h0)), (1, vI i1), (2, vI i2)]) dX0_snap_40 rfl rfl (Nat.le_of_ble_eq_true rfl) rfl ?_
              refine wp_bipush (n := 43) (v := (-11)) dX0_snap_41 rfl (by decide) ?_
              exact wp_ireturn dX0_snap_43 rfl h
          · replace h := h.2 c24
            refine wp_iconst (n := 28) (v := 1) dX0_snap_27 rfl (by decide) ?_
            refine wp_goto (t := 32) dX0_snap_28 (by decide) ?_
            obtain ⟨b32, bb32, h⟩ := h
            obtain ⟨⟨fs32, o32⟩, h⟩ := h
            refine wp_call (n := 35) (K' := KX0_snaps) (rc' := rc - 1 - 3) (rs' := rs - 6 - 36) (aRun_V (K' := KX0_snaps) (As := [vR none, vI 1]) (rest := []) (b := h0) (c0 := .inr (0, fs32)) dX0_snap_32 (aCal_of kf_X0_snaps (Nat.le_of_ble_eq_true rfl)) q528 q530 qs13 ar_X0_snaps o32 (by decide : 0 < 9) rfl (Nat.le_of_ble_eq_true rfl)) rfl (by omega) (by omega) (fun v32 w32 h => ?_) (fun E32 w32 h => ?_) h
            · obtain ⟨x32, rfl, h⟩ := h
              exact wp_ireturn dX0_snap_35 rfl h
            · obtain ⟨rfl, h⟩ := h
              refine wpx_catch (nm := "java/lang/NullPointerException") [(13, 35, 36, 53)] (13, 35, 40, 169) [(13, 35, 44, 171)] rfl (fun z hz => by have hz : z ∈ ([(13, 35, 36, 53)] : List (Nat × Nat × Nat × Nat)) := hz; simp only [List.mem_cons, List.not_mem_nil, or_false] at hz; subst hz; exact Or.inr ⟨by decide, "java/lang/IndexOutOfBoundsException", q320, nc_NullPointerException_IndexOutOfBoundsException⟩) (by decide) (by decide) q411 q433 (fun q9 => ?_)
              refine wp_astore_n (n := 41) (i := 3) (ls' := [(3, vR (some q9)), (0, vR (some h0)), (1, vI i1), (2, vI i2)]) dX0_snap_40 rfl rfl (Nat.le_of_ble_eq_true rfl) rfl ?_
              refine wp_bipush (n := 43) (v := (-11)) dX0_snap_41 rfl (by decide) ?_
              exact wp_ireturn dX0_snap_43 rfl h
        · replace h := h.2 a19 ea19
          rw [ea19]
          rcases h with h | h
          · obtain ⟨k19, h⟩ := h
            refine wp_ckY (n := 22) dX0_snap_19 rfl q235 cok_Folder k19 ?_
            refine wp_iload_n (n := 23) (i := 2) (q := 2) dX0_snap_22 rfl rfl rfl ?_
            refine wp_iconst (n := 24) (v := 1) dX0_snap_23 rfl (by decide) ?_
            refine wp_icmp_ne (n := 27) (t := 31) dX0_snap_24 rfl (by decide) (fun c24 => ?_) (fun c24 => ?_)
            · replace h := h.1 c24
              refine wp_iconst (n := 32) (v := 0) dX0_snap_31 rfl (by decide) ?_
              obtain ⟨b32, bb32, h⟩ := h
              obtain ⟨⟨fs32, o32⟩, h⟩ := h
              refine wp_call (n := 35) (K' := KX0_snaps) (rc' := rc - 1 - 3) (rs' := rs - 6 - 36) (aRun_V (K' := KX0_snaps) (As := [vR (some a19), vI 0]) (rest := []) (b := h0) (c0 := .inr (0, fs32)) dX0_snap_32 (aCal_of kf_X0_snaps (Nat.le_of_ble_eq_true rfl)) q528 q530 qs13 ar_X0_snaps o32 (by decide : 0 < 9) rfl (Nat.le_of_ble_eq_true rfl)) rfl (by omega) (by omega) (fun v32 w32 h => ?_) (fun E32 w32 h => ?_) h
              · obtain ⟨x32, rfl, h⟩ := h
                exact wp_ireturn dX0_snap_35 rfl h
              · obtain ⟨rfl, h⟩ := h
                refine wpx_catch (nm := "java/lang/NullPointerException") [(13, 35, 36, 53)] (13, 35, 40, 169) [(13, 35, 44, 171)] rfl (fun z hz => by have hz : z ∈ ([(13, 35, 36, 53)] : List (Nat × Nat × Nat × Nat)) := hz; simp only [List.mem_cons, List.not_mem_nil, or_false] at hz; subst hz; exact Or.inr ⟨by decide, "java/lang/IndexOutOfBoundsException", q320, nc_NullPointerException_IndexOutOfBoundsException⟩) (by decide) (by decide) q411 q433 (fun q9 => ?_)
                refine wp_astore_n (n := 41) (i := 3) (ls' := [(3, vR (some q9)), (0, vR (some h0)), (1, vI i1), (2, vI i2)]) dX0_snap_40 rfl rfl (Nat.le_of_ble_eq_true rfl) rfl ?_
                refine wp_bipush (n := 43) (v := (-11)) dX0_snap_41 rfl (by decide) ?_
                exact wp_ireturn dX0_snap_43 rfl h
            · replace h := h.2 c24
              refine wp_iconst (n := 28) (v := 1) dX0_snap_27 rfl (by decide) ?_
              refine wp_goto (t := 32) dX0_snap_28 (by decide) ?_
              obtain ⟨b32, bb32, h⟩ := h
              obtain ⟨⟨fs32, o32⟩, h⟩ := h
              refine wp_call (n := 35) (K' := KX0_snaps) (rc' := rc - 1 - 3) (rs' := rs - 6 - 36) (aRun_V (K' := KX0_snaps) (As := [vR (some a19), vI 1]) (rest := []) (b := h0) (c0 := .inr (0, fs32)) dX0_snap_32 (aCal_of kf_X0_snaps (Nat.le_of_ble_eq_true rfl)) q528 q530 qs13 ar_X0_snaps o32 (by decide : 0 < 9) rfl (Nat.le_of_ble_eq_true rfl)) rfl (by omega) (by omega) (fun v32 w32 h => ?_) (fun E32 w32 h => ?_) h
              · obtain ⟨x32, rfl, h⟩ := h
                exact wp_ireturn dX0_snap_35 rfl h
              · obtain ⟨rfl, h⟩ := h
                refine wpx_catch (nm := "java/lang/NullPointerException") [(13, 35, 36, 53)] (13, 35, 40, 169) [(13, 35, 44, 171)] rfl (fun z hz => by have hz : z ∈ ([(13, 35, 36, 53)] : List (Nat × Nat × Nat × Nat)) := hz; simp only [List.mem_cons, List.not_mem_nil, or_false] at hz; subst hz; exact Or.inr ⟨by decide, "java/lang/IndexOutOfBoundsException", q320, nc_NullPointerException_IndexOutOfBoundsException⟩) (by decide) (by decide) q411 q433 (fun q9 => ?_)
                refine wp_astore_n (n := 41) (i := 3) (ls' := [(3, vR (some q9)), (0, vR (some h0)), (1, vI i1), (2, vI i2)]) dX0_snap_40 rfl rfl (Nat.le_of_ble_eq_true rfl) rfl ?_
                refine wp_bipush (n := 43) (v := (-11)) dX0_snap_41 rfl (by decide) ?_
                exact wp_ireturn dX0_snap_43 rfl h
          · obtain ⟨k19, b1, b2, h⟩ := h
            refine wp_ckX (rc' := 0) (rs' := 0) dX0_snap_19 q235 cno_Folder sn_Folder k19 (by omega) (by omega) (Nat.le_of_ble_eq_true rfl) ?_
            refine wpx_catch (nm := "java/lang/ClassCastException") [(13, 35, 36, 53), (13, 35, 40, 169)] (13, 35, 44, 171) [] rfl (fun z hz => by have hz : z ∈ ([(13, 35, 36, 53), (13, 35, 40, 169)] : List (Nat × Nat × Nat × Nat)) := hz; simp only [List.mem_cons, List.not_mem_nil, or_false] at hz; rcases hz with rfl | rfl; exact Or.inr ⟨by decide, "java/lang/IndexOutOfBoundsException", q320, nc_ClassCastException_IndexOutOfBoundsException⟩; exact Or.inr ⟨by decide, "java/lang/NullPointerException", q411, nc_ClassCastException_NullPointerException⟩) (by decide) (by decide) q436 q448 (fun q9 => ?_)
            refine wp_astore_n (n := 45) (i := 3) (ls' := [(3, vR (some q9)), (0, vR (some h0)), (1, vI i1), (2, vI i2)]) dX0_snap_44 rfl rfl (Nat.le_of_ble_eq_true rfl) rfl ?_
            refine wp_bipush (n := 47) (v := (-13)) dX0_snap_45 rfl (by decide) ?_
            exact wp_ireturn dX0_snap_47 rfl h
      · obtain ⟨rfl, h⟩ := h
        refine wpx_catch (nm := "java/lang/IndexOutOfBoundsException") [] (13, 35, 36, 53) [(13, 35, 40, 169), (13, 35, 44, 171)] rfl (fun z hz => absurd hz List.not_mem_nil) (by decide) (by decide) q320 q459 (fun q9 => ?_)
        refine wp_astore_n (n := 37) (i := 3) (ls' := [(3, vR (some q9)), (0, vR (some h0)), (1, vI i1), (2, vI i2)]) dX0_snap_36 rfl rfl (Nat.le_of_ble_eq_true rfl) rfl ?_
        refine wp_bipush (n := 39) (v := (-12)) dX0_snap_37 rfl (by decide) ?_
        exact wp_ireturn dX0_snap_39 rfl h
    · replace h := h.2 c7
      refine wp_bipush (n := 12) (v := (-2)) dX0_snap_10 rfl (by decide) ?_
      exact wp_ireturn dX0_snap_12 rfl h
  · exact h.elim
set_option maxHeartbeats 1000000 in
theorem sg_X0_snapshotAt_0 {h0 : Nat} {i1 : Int32} {rc rs : Nat} {QR : Option aV → aW → Prop} {QX : String → aW → Prop} {w : aW} (h : ct (KX0_in) 0 0 [vL (Int32.toInt64 i1), vL 0, vL 19] w (fun v6 w6 => ∃ x6 : Int32, v6 = some (vI x6) ∧ (x6 = 0 → QR (some (vR none)) w6) ∧ (¬ x6 = 0 → ∃ x13 : Nat, gf w6 h0 [0] 4 (vR (some x13)) ∧ ∃ x17 : Option Nat, gR w6 x13 2 i1 x17 ∧ (x17 = none → QR (some (vR none)) w6) ∧ (∀ a18 : Nat, x17 = some a18 → ((ck w6 a18 [6, 7] ∧ ∃ x25 : Nat, gf w6 h0 [0] 4 (vR (some x25)) ∧ ∃ x29 : Option Nat, gR w6 x25 2 i1 x29 ∧ ∃ a30 : Nat, x29 = some a30 ∧ ck w6 a30 [6, 7] ∧ QR (some (vR (some a30))) w6) ∨ (ck w6 a18 [4, 5, 8] ∧ QR (some (vR none)) w6))))) (fun E6 w6 => False)) : wp (KX0_snapshotAt) rc rs QR QX 0 [(0, vR (some h0)), (1, vI i1)] [] w := by
  refine wp_iload_n (n := 1) (i := 1) (q := 1) dX0_snapshotAt_0 rfl rfl rfl ?_
  refine wp_i2l (n := 2) dX0_snapshotAt_1 rfl ?_
  refine wp_lconst (n := 3) (v := 0) dX0_snapshotAt_2 rfl (by decide) ?_
  refine wp_ldc2 (n := 6) dX0_snapshotAt_3 rfl q623 ?_
  refine wp_call (n := 9) (K' := KX0_in) (rc' := rc) (rs' := rs) (aRun_S (K' := KX0_in) (As := [vL (Int32.toInt64 i1), vL 0, vL 19]) (rest := []) dX0_snapshotAt_6 (aCal_of kf_X0_in (Nat.le_of_ble_eq_true rfl)) rfl q228 q229 ar_X0_in rfl (Nat.le_of_ble_eq_true rfl)) rfl (Nat.le_of_eq (Nat.zero_add _)) (Nat.le_of_eq (Nat.zero_add _)) (fun v6 w6 h => ?_) (fun E6 w6 h => ?_) h
  · obtain ⟨x6, rfl, h⟩ := h
    refine wp_if_eq (n := 12) (t := 36) dX0_snapshotAt_9 rfl (by decide) (fun c9 => ?_) (fun c9 => ?_)
    · replace h := h.1 c9
      refine wp_null (n := 37) dX0_snapshotAt_36 rfl ?_
      exact wp_areturn dX0_snapshotAt_37 rfl (Or.inl ⟨_, rfl⟩) h
    · replace h := h.2 c9
      refine wp_aload_n (n := 13) (i := 0) (q := 0) dX0_snapshotAt_12 rfl rfl rfl ?_
      obtain ⟨x13, g13, h⟩ := h
      refine wp_gf (n := 16) dX0_snapshotAt_13 rfl fl_X0_20 g13 ?_
      refine wp_iload_n (n := 17) (i := 1) (q := 1) dX0_snapshotAt_16 rfl rfl rfl ?_
      obtain ⟨x17, g17, h⟩ := h
      refine wp_gR (n := 18) dX0_snapshotAt_17 rfl (by decide) g17 ?_
      rcases opt_c x17 with ea18 | ⟨a18, ea18⟩
      · replace h := h.1 ea18
        rw [ea18]
        refine wp_instN (n := 21) dX0_snapshotAt_18 rfl ?_
        refine wp_if_eq (n := 24) (t := 36) dX0_snapshotAt_21 rfl (by decide) (fun _ => ?_) (fun z => absurd z (by decide))
        refine wp_null (n := 37) dX0_snapshotAt_36 rfl ?_
        exact wp_areturn dX0_snapshotAt_37 rfl (Or.inl ⟨_, rfl⟩) h
      · replace h := h.2 a18 ea18
        rw [ea18]
        rcases h with h | h
        · obtain ⟨k18, h⟩ := h
          refine wp_ciY (n := 21) dX0_snapshotAt_18 rfl q119 cok_Snapshot k18 ?_
          refine wp_if_eq (n := 24) (t := 36) dX0_snapshotAt_21 rfl (by decide) (fun z => absurd z (by decide)) (fun _ => ?_)
          refine wp_aload_n (n := 25) (i := 0) (q := 0) dX0_snapshotAt_24 rfl rfl rfl ?_
          obtain ⟨x25, g25, h⟩ := h
          refine wp_gf (n := 28) dX0_snapshotAt_25 rfl fl_X0_20 g25 ?_
          refine wp_iload_n (n := 29) (i := 1) (q := 1) dX0_snapshotAt_28 rfl rfl rfl ?_
          obtain ⟨x29, g29, h⟩ := h
          refine wp_gR (n := 30) dX0_snapshotAt_29 rfl (by decide) g29 ?_
          obtain ⟨a30, ea30, h⟩ := h
          rw [ea30]
          obtain ⟨k30, h⟩ := h
          refine wp_ckY (n := 33) dX0_snapshotAt_30 rfl q119 cok_Snapshot k30 ?_
          refine wp_goto (t := 37) dX0_snapshotAt_33 (by decide) ?_
          exact wp_areturn dX0_snapshotAt_37 rfl (Or.inl ⟨_, rfl⟩) h
        · obtain ⟨k18, h⟩ := h
          refine wp_ciX (n := 21) dX0_snapshotAt_18 rfl q119 cno_Snapshot k18 ?_
          refine wp_if_eq (n := 24) (t := 36) dX0_snapshotAt_21 rfl (by decide) (fun _ => ?_) (fun z => absurd z (by decide))
          refine wp_null (n := 37) dX0_snapshotAt_36 rfl ?_
          exact wp_areturn dX0_snapshotAt_37 rfl (Or.inl ⟨_, rfl⟩) h
  · exact h.elim
set_option maxHeartbeats 1000000 in
theorem sg_X0_ownMany_0 {h0 : Nat} {r1 : Option Nat} {rc rs : Nat} {QR : Option aV → aW → Prop} {QX : String → aW → Prop} {w : aW} (h : wp (KX0_ownMany) rc rs QR QX 4 [(0, vR (some h0)), (1, vR r1), (2, vI 0), (3, vI 0)] [] w) : wp (KX0_ownMany) rc rs QR QX 0 [(0, vR (some h0)), (1, vR r1)] [] w := by
  refine wp_iconst (n := 1) (v := 0) dX0_ownMany_0 rfl (by decide) ?_
  refine wp_istore_n (n := 2) (i := 2) (ls' := [(2, vI 0), (0, vR (some h0)), (1, vR r1)]) dX0_ownMany_1 rfl rfl (Nat.le_of_ble_eq_true rfl) rfl ?_
  refine wp_iconst (n := 3) (v := 0) dX0_ownMany_2 rfl (by decide) ?_
  refine wp_istore_n (n := 4) (i := 3) (ls' := [(3, vI 0), (2, vI 0), (0, vR (some h0)), (1, vR r1)]) dX0_ownMany_3 rfl rfl (Nat.le_of_ble_eq_true rfl) rfl ?_
  exact wp_sub [2, 3, 1, 0] rfl h
set_option maxHeartbeats 1000000 in
theorem sg_X0_ownMany_4 {h0 : Nat} {r1 : Option Nat} {i2 : Int32} {i3 : Int32} {rc rs : Nat} {QR : Option aV → aW → Prop} {QX : String → aW → Prop} {w : aW} (h : (20 ≤ i3 → QR (some (vI i2)) w) ∧ (¬ 20 ≤ i3 → isO w h0 0 ∧ ct (KX0_snapshotAt) 0 0 [vR (some h0), vI i3] w (fun v13 w13 => ∃ x13 : Option Nat, v13 = some (vR x13) ∧ (x13 = none → wp (KX0_ownMany) rc rs QR QX 4 [(0, vR (some h0)), (1, vR r1), (2, vI (i2 + 0)), (3, vI (i3 + 1))] [] w13) ∧ (∀ a16 : Nat, x13 = some a16 → isO w13 h0 0 ∧ ct (KX0_snapshotAt) 0 0 [vR (some h0), vI i3] w13 (fun v21 w21 => ∃ x21 : Option Nat, v21 = some (vR x21) ∧ ∃ a24 : Nat, x21 = some a24 ∧ ∃ x24 : Nat, gf w21 a24 [6, 7] 6 (vR (some x24)) ∧ (¬ some x24 = r1 → wp (KX0_ownMany) rc rs QR QX 4 [(0, vR (some h0)), (1, vR r1), (2, vI (i2 + 0)), (3, vI (i3 + 1))] [] w21) ∧ (some x24 = r1 → wp (KX0_ownMany) rc rs QR QX 4 [(0, vR (some h0)), (1, vR r1), (2, vI (i2 + 1)), (3, vI (i3 + 1))] [] w21)) (fun E21 w21 => False))) (fun E13 w13 => False))) : wp (KX0_ownMany) rc rs QR QX 4 [(0, vR (some h0)), (1, vR r1), (2, vI i2), (3, vI i3)] [] w := by
  refine wp_iload_n (n := 5) (i := 3) (q := 3) dX0_ownMany_4 rfl rfl rfl ?_
  refine wp_bipush (n := 7) (v := 20) dX0_ownMany_5 rfl (by decide) ?_
  refine wp_icmp_ge (n := 10) (t := 44) dX0_ownMany_7 rfl (by decide) (fun c7 => ?_) (fun c7 => ?_)
  · replace h := h.1 c7
    refine wp_iload_n (n := 45) (i := 2) (q := 2) dX0_ownMany_44 rfl rfl rfl ?_
    exact wp_ireturn dX0_ownMany_45 rfl h
  · replace h := h.2 c7
    refine wp_iload_n (n := 11) (i := 2) (q := 2) dX0_ownMany_10 rfl rfl rfl ?_
    refine wp_aload_n (n := 12) (i := 0) (q := 0) dX0_ownMany_11 rfl rfl rfl ?_
    refine wp_iload_n (n := 13) (i := 3) (q := 3) dX0_ownMany_12 rfl rfl rfl ?_
    obtain ⟨⟨fs13, o13⟩, h⟩ := h
    refine wp_call (n := 16) (K' := KX0_snapshotAt) (rc' := rc) (rs' := rs) (aRun_V (K' := KX0_snapshotAt) (As := [vI i3]) (rest := [vI i2]) (b := h0) (c0 := .inr (0, fs13)) dX0_ownMany_13 (aCal_of kf_X0_snapshotAt (Nat.le_of_ble_eq_true rfl)) q632 q634 qs17 ar_X0_snapshotAt o13 (by decide : 0 < 9) rfl (Nat.le_of_ble_eq_true rfl)) rfl (Nat.le_of_eq (Nat.zero_add _)) (Nat.le_of_eq (Nat.zero_add _)) (fun v13 w13 h => ?_) (fun E13 w13 h => ?_) h
    · obtain ⟨x13, rfl, h⟩ := h
      rcases opt_c x13 with ea16 | ⟨a16, ea16⟩
      · replace h := h.1 ea16
        rw [ea16]
        refine wp_ifnull (n := 19) (t := 35) dX0_ownMany_16 rfl (by decide) (fun _ => ?_) (fun z zz => nomatch zz)
        refine wp_iconst (n := 36) (v := 0) dX0_ownMany_35 rfl (by decide) ?_
        refine wp_iadd (n := 37) dX0_ownMany_36 rfl ?_
        refine wp_istore_n (n := 38) (i := 2) (ls' := [(2, vI (i2 + 0)), (0, vR (some h0)), (1, vR r1), (3, vI i3)]) dX0_ownMany_37 rfl rfl (Nat.le_of_ble_eq_true rfl) rfl ?_
        refine wp_iinc (n := 41) (i := 3) (q := 3) (v := i3 + 1) (ls' := [(3, vI (i3 + 1)), (2, vI (i2 + 0)), (0, vR (some h0)), (1, vR r1)]) dX0_ownMany_38 rfl rfl rfl (Nat.le_of_ble_eq_true rfl) rfl ?_
        refine wp_goto (t := 4) dX0_ownMany_41 (by decide) ?_
        exact wp_sub [2, 3, 1, 0] rfl h
      · replace h := h.2 a16 ea16
        rw [ea16]
        refine wp_ifnull (n := 19) (t := 35) dX0_ownMany_16 rfl (by decide) (fun zz => nomatch zz) (fun _ _ => ?_)
        refine wp_aload_n (n := 20) (i := 0) (q := 0) dX0_ownMany_19 rfl rfl rfl ?_
        refine wp_iload_n (n := 21) (i := 3) (q := 3) dX0_ownMany_20 rfl rfl rfl ?_
        obtain ⟨⟨fs21, o21⟩, h⟩ := h
        refine wp_call (n := 24) (K' := KX0_snapshotAt) (rc' := rc) (rs' := rs) (aRun_V (K' := KX0_snapshotAt) (As := [vI i3]) (rest := [vI i2]) (b := h0) (c0 := .inr (0, fs21)) dX0_ownMany_21 (aCal_of kf_X0_snapshotAt (Nat.le_of_ble_eq_true rfl)) q632 q634 qs17 ar_X0_snapshotAt o21 (by decide : 0 < 9) rfl (Nat.le_of_ble_eq_true rfl)) rfl (Nat.le_of_eq (Nat.zero_add _)) (Nat.le_of_eq (Nat.zero_add _)) (fun v21 w21 h => ?_) (fun E21 w21 h => ?_) h
        · obtain ⟨x21, rfl, h⟩ := h
          obtain ⟨a24, ea24, h⟩ := h
          rw [ea24]
          obtain ⟨x24, g24, h⟩ := h
          refine wp_gf (n := 27) dX0_ownMany_24 rfl fl_X0_95 g24 ?_
          refine wp_aload_n (n := 28) (i := 1) (q := 1) dX0_ownMany_27 rfl rfl rfl ?_
          refine wp_acmp_ne (n := 31) (t := 35) dX0_ownMany_28 rfl (by decide) (fun c28 => ?_) (fun c28 => ?_)
          · replace h := h.1 c28
            refine wp_iconst (n := 36) (v := 0) dX0_ownMany_35 rfl (by decide) ?_
            refine wp_iadd (n := 37) dX0_ownMany_36 rfl ?_
            refine wp_istore_n (n := 38) (i := 2) (ls' := [(2, vI (i2 + 0)), (0, vR (some h0)), (1, vR r1), (3, vI i3)]) dX0_ownMany_37 rfl rfl (Nat.le_of_ble_eq_true rfl) rfl ?_
            refine wp_iinc (n := 41) (i := 3) (q := 3) (v := i3 + 1) (ls' := [(3, vI (i3 + 1)), (2, vI (i2 + 0)), (0, vR (some h0)), (1, vR r1)]) dX0_ownMany_38 rfl rfl rfl (Nat.le_of_ble_eq_true rfl) rfl ?_
            refine wp_goto (t := 4) dX0_ownMany_41 (by decide) ?_
            exact wp_sub [2, 3, 1, 0] rfl h
          · replace h := h.2 c28
            refine wp_iconst (n := 32) (v := 1) dX0_ownMany_31 rfl (by decide) ?_
            refine wp_goto (t := 36) dX0_ownMany_32 (by decide) ?_
            refine wp_iadd (n := 37) dX0_ownMany_36 rfl ?_
            refine wp_istore_n (n := 38) (i := 2) (ls' := [(2, vI (i2 + 1)), (0, vR (some h0)), (1, vR r1), (3, vI i3)]) dX0_ownMany_37 rfl rfl (Nat.le_of_ble_eq_true rfl) rfl ?_
            refine wp_iinc (n := 41) (i := 3) (q := 3) (v := i3 + 1) (ls' := [(3, vI (i3 + 1)), (2, vI (i2 + 1)), (0, vR (some h0)), (1, vR r1)]) dX0_ownMany_38 rfl rfl rfl (Nat.le_of_ble_eq_true rfl) rfl ?_
            refine wp_goto (t := 4) dX0_ownMany_41 (by decide) ?_
            exact wp_sub [2, 3, 1, 0] rfl h
        · exact h.elim
    · exact h.elim
set_option maxHeartbeats 1000000 in
theorem sg_X0_freesLive_0 {h0 : Nat} {r1 : Option Nat} {rc rs : Nat} {QR : Option aV → aW → Prop} {QX : String → aW → Prop} {w : aW} (h : wp (KX0_freesLive) rc rs QR QX 4 [(0, vR (some h0)), (1, vR r1), (2, vI 0), (3, vI 0)] [] w) : wp (KX0_freesLive) rc rs QR QX 0 [(0, vR (some h0)), (1, vR r1)] [] w := by
  refine wp_iconst (n := 1) (v := 0) dX0_freesLive_0 rfl (by decide) ?_
  refine wp_istore_n (n := 2) (i := 2) (ls' := [(2, vI 0), (0, vR (some h0)), (1, vR r1)]) dX0_freesLive_1 rfl rfl (Nat.le_of_ble_eq_true rfl) rfl ?_
  refine wp_iconst (n := 3) (v := 0) dX0_freesLive_2 rfl (by decide) ?_
  refine wp_istore_n (n := 4) (i := 3) (ls' := [(3, vI 0), (2, vI 0), (0, vR (some h0)), (1, vR r1)]) dX0_freesLive_3 rfl rfl (Nat.le_of_ble_eq_true rfl) rfl ?_
  exact wp_sub [2, 3, 1, 0] rfl h
set_option maxHeartbeats 1000000 in
theorem sg_X0_freesLive_4 {h0 : Nat} {r1 : Option Nat} {i2 : Int32} {i3 : Int32} {rc rs : Nat} {QR : Option aV → aW → Prop} {QX : String → aW → Prop} {w : aW} (h : (12 ≤ i3 → QR (some (vI i2)) w) ∧ (¬ 12 ≤ i3 → ∃ a11 : Nat, r1 = some a11 ∧ ∃ x11 : Nat, gf w a11 [4, 5] 1 (vR (some x11)) ∧ ∃ x15 : Int32, gI w x11 i3 x15 ∧ (x15 = (-1) → wp (KX0_freesLive) rc rs QR QX 4 [(0, vR (some h0)), (1, vR (some a11)), (2, vI i2), (3, vI (i3 + 1))] [] w) ∧ (¬ x15 = (-1) → ∃ x21 : Nat, gf w h0 [0] 1 (vR (some x21)) ∧ ∃ x25 : Nat, gf w a11 [4, 5] 1 (vR (some x25)) ∧ ∃ x29 : Int32, gI w x25 i3 x29 ∧ ∃ x30 : Int32, gI w x21 x29 x30 ∧ ck w a11 [4, 5] ∧ ct (KX4_prevMade) 0 0 [vR (some a11)] w (fun v32 w32 => ∃ x32 : Int32, v32 = some (vI x32) ∧ (x30 ≤ x32 → wp (KX0_freesLive) rc rs QR QX 4 [(0, vR (some h0)), (1, vR (some a11)), (2, vI i2), (3, vI (i3 + 1))] [] w32) ∧ (¬ x30 ≤ x32 → ∃ x40 : Nat, gf w32 a11 [4, 5] 1 (vR (some x40)) ∧ ∃ x44 : Int32, gI w32 x40 i3 x44 ∧ isO w32 h0 0 ∧ ct (KX0_frees) 0 0 [vR (some h0), vI x44] w32 (fun v45 w45 => v45 = none ∧ wp (KX0_freesLive) rc rs QR QX 4 [(0, vR (some h0)), (1, vR (some a11)), (2, vI (i2 + 1)), (3, vI (i3 + 1))] [] w45) (fun E45 w45 => False))) (fun E32 w32 => False)))) : wp (KX0_freesLive) rc rs QR QX 4 [(0, vR (some h0)), (1, vR r1), (2, vI i2), (3, vI i3)] [] w := by
  refine wp_iload_n (n := 5) (i := 3) (q := 3) dX0_freesLive_4 rfl rfl rfl ?_
  refine wp_bipush (n := 7) (v := 12) dX0_freesLive_5 rfl (by decide) ?_
  refine wp_icmp_ge (n := 10) (t := 57) dX0_freesLive_7 rfl (by decide) (fun c7 => ?_) (fun c7 => ?_)
  · replace h := h.1 c7
    refine wp_iload_n (n := 58) (i := 2) (q := 2) dX0_freesLive_57 rfl rfl rfl ?_
    exact wp_ireturn dX0_freesLive_58 rfl h
  · replace h := h.2 c7
    refine wp_aload_n (n := 11) (i := 1) (q := 1) dX0_freesLive_10 rfl rfl rfl ?_
    obtain ⟨a11, ea11, h⟩ := h
    rw [ea11]
    obtain ⟨x11, g11, h⟩ := h
    refine wp_gf (n := 14) dX0_freesLive_11 rfl fl_X0_132 g11 ?_
    refine wp_iload_n (n := 15) (i := 3) (q := 3) dX0_freesLive_14 rfl rfl rfl ?_
    obtain ⟨x15, g15, h⟩ := h
    refine wp_gI (n := 16) dX0_freesLive_15 rfl g15 ?_
    refine wp_iconst (n := 17) (v := (-1)) dX0_freesLive_16 rfl (by decide) ?_
    refine wp_icmp_eq (n := 20) (t := 51) dX0_freesLive_17 rfl (by decide) (fun c17 => ?_) (fun c17 => ?_)
    · replace h := h.1 c17
      refine wp_iinc (n := 54) (i := 3) (q := 3) (v := i3 + 1) (ls' := [(3, vI (i3 + 1)), (0, vR (some h0)), (1, vR (some a11)), (2, vI i2)]) dX0_freesLive_51 rfl rfl rfl (Nat.le_of_ble_eq_true rfl) rfl ?_
      refine wp_goto (t := 4) dX0_freesLive_54 (by decide) ?_
      exact wp_sub [1, 2, 3, 0] rfl h
    · replace h := h.2 c17
      refine wp_aload_n (n := 21) (i := 0) (q := 0) dX0_freesLive_20 rfl rfl rfl ?_
      obtain ⟨x21, g21, h⟩ := h
      refine wp_gf (n := 24) dX0_freesLive_21 rfl fl_X0_13 g21 ?_
      refine wp_aload_n (n := 25) (i := 1) (q := 1) dX0_freesLive_24 rfl rfl rfl ?_
      obtain ⟨x25, g25, h⟩ := h
      refine wp_gf (n := 28) dX0_freesLive_25 rfl fl_X0_132 g25 ?_
      refine wp_iload_n (n := 29) (i := 3) (q := 3) dX0_freesLive_28 rfl rfl rfl ?_
      obtain ⟨x29, g29, h⟩ := h
      refine wp_gI (n := 30) dX0_freesLive_29 rfl g29 ?_
      obtain ⟨x30, g30, h⟩ := h
      refine wp_gI (n := 31) dX0_freesLive_30 rfl g30 ?_
      refine wp_aload_n (n := 32) (i := 1) (q := 1) dX0_freesLive_31 rfl rfl rfl ?_
      obtain ⟨⟨cc32, o32, kk32⟩, h⟩ := h
      have run32 : aRun (KX0_freesLive) (KX4_prevMade) 32 [vR (some a11)] [vR (some a11), vI x30] [vI x30] w := by
        simp only [List.mem_cons, List.not_mem_nil, or_false] at kk32
        rcases kk32 with kk32 | kk32
        · obtain ⟨fs32, rfl⟩ := kd_o kk32 (by decide)
          exact (aRun_U (K' := KX4_prevMade) (As := []) (rest := [vI x30]) (b := a11) (x := ⟨"DeadListPool$Folder", "prevMade", "()I"⟩) (owner := "DeadListPool$Holder") (c0 := .inr (4, fs32)) dX0_freesLive_32 (aCal_of kf_X4_prevMade (Nat.le_of_ble_eq_true rfl)) rfl q497 q498 q501 q502 (Or.inr q499) ⟨by decide, by decide⟩ ar_X4_prevMade o32 (by decide : 4 < 9) rfl (Nat.le_of_ble_eq_true rfl))
        · obtain ⟨fs32, rfl⟩ := kd_o kk32 (by decide)
          exact (aRun_U (K' := KX4_prevMade) (As := []) (rest := [vI x30]) (b := a11) (x := ⟨"DeadListPool$Folder", "prevMade", "()I"⟩) (owner := "DeadListPool$Holder") (c0 := .inr (5, fs32)) dX0_freesLive_32 (aCal_of kf_X4_prevMade (Nat.le_of_ble_eq_true rfl)) rfl q497 q498 q500 q502 (Or.inr q499) ⟨by decide, by decide⟩ ar_X4_prevMade o32 (by decide : 5 < 9) rfl (Nat.le_of_ble_eq_true rfl))
      refine wp_call (n := 35) (K' := KX4_prevMade) (rc' := rc) (rs' := rs) run32 rfl (Nat.le_of_eq (Nat.zero_add _)) (Nat.le_of_eq (Nat.zero_add _)) (fun v32 w32 h => ?_) (fun E32 w32 h => ?_) h
      · obtain ⟨x32, rfl, h⟩ := h
        refine wp_icmp_le (n := 38) (t := 51) dX0_freesLive_35 rfl (by decide) (fun c35 => ?_) (fun c35 => ?_)
        · replace h := h.1 c35
          refine wp_iinc (n := 54) (i := 3) (q := 3) (v := i3 + 1) (ls' := [(3, vI (i3 + 1)), (0, vR (some h0)), (1, vR (some a11)), (2, vI i2)]) dX0_freesLive_51 rfl rfl rfl (Nat.le_of_ble_eq_true rfl) rfl ?_
          refine wp_goto (t := 4) dX0_freesLive_54 (by decide) ?_
          exact wp_sub [1, 2, 3, 0] rfl h
        · replace h := h.2 c35
          refine wp_aload_n (n := 39) (i := 0) (q := 0) dX0_freesLive_38 rfl rfl rfl ?_
          refine wp_aload_n (n := 40) (i := 1) (q := 1) dX0_freesLive_39 rfl rfl rfl ?_
          obtain ⟨x40, g40, h⟩ := h
          refine wp_gf (n := 43) dX0_freesLive_40 rfl fl_X0_132 g40 ?_
          refine wp_iload_n (n := 44) (i := 3) (q := 3) dX0_freesLive_43 rfl rfl rfl ?_
          obtain ⟨x44, g44, h⟩ := h
          refine wp_gI (n := 45) dX0_freesLive_44 rfl g44 ?_
          obtain ⟨⟨fs45, o45⟩, h⟩ := h
          refine wp_call (n := 48) (K' := KX0_frees) (rc' := rc) (rs' := rs) (aRun_V (K' := KX0_frees) (As := [vI x44]) (rest := []) (b := h0) (c0 := .inr (0, fs45)) dX0_freesLive_45 (aCal_of kf_X0_frees (Nat.le_of_ble_eq_true rfl)) q504 q506 qs9 ar_X0_frees o45 (by decide : 0 < 9) rfl (Nat.le_of_ble_eq_true rfl)) rfl (Nat.le_of_eq (Nat.zero_add _)) (Nat.le_of_eq (Nat.zero_add _)) (fun v45 w45 h => ?_) (fun E45 w45 h => ?_) h
          · obtain ⟨rfl, h⟩ := h
            refine wp_iinc (n := 51) (i := 2) (q := 2) (v := i2 + 1) (ls' := [(2, vI (i2 + 1)), (0, vR (some h0)), (1, vR (some a11)), (3, vI i3)]) dX0_freesLive_48 rfl rfl rfl (Nat.le_of_ble_eq_true rfl) rfl ?_
            refine wp_iinc (n := 54) (i := 3) (q := 3) (v := i3 + 1) (ls' := [(3, vI (i3 + 1)), (2, vI (i2 + 1)), (0, vR (some h0)), (1, vR (some a11))]) dX0_freesLive_51 rfl rfl rfl (Nat.le_of_ble_eq_true rfl) rfl ?_
            refine wp_goto (t := 4) dX0_freesLive_54 (by decide) ?_
            exact wp_sub [2, 3, 1, 0] rfl h
          · exact h.elim
      · exact h.elim
set_option maxHeartbeats 1000000 in
theorem sg_X0_removesFiles_0 {h0 : Nat} {r1 : Option Nat} {rc rs : Nat} {QR : Option aV → aW → Prop} {QX : String → aW → Prop} {w : aW} (h : isO w h0 0 ∧ ct (KX0_ownMany) 0 0 [vR (some h0), vR r1] w (fun v2 w2 => ∃ x2 : Int32, v2 = some (vI x2) ∧ (x2 ≤ 0 → ∃ x12 : Nat, gf w2 h0 [0] 4 (vR (some x12)) ∧ ∃ a16 : Nat, r1 = some a16 ∧ ∃ x16 : Int32, gf w2 a16 [4, 5] 4 (vI x16) ∧ pR w2 x12 2 x16 none (fun w20 => isO w20 h0 0 ∧ ct (KX0_freesLive) 0 0 [vR (some h0), vR (some a16)] w20 (fun v23 w23 => ∃ x23 : Int32, v23 = some (vI x23) ∧ QR (some (vI x23)) w23) (fun E23 w23 => False))) ∧ (¬ x2 ≤ 0 → QR (some (vI (-3))) w2)) (fun E2 w2 => False)) : wp (KX0_removesFiles) rc rs QR QX 0 [(0, vR (some h0)), (1, vR r1)] [] w := by
  refine wp_aload_n (n := 1) (i := 0) (q := 0) dX0_removesFiles_0 rfl rfl rfl ?_
  refine wp_aload_n (n := 2) (i := 1) (q := 1) dX0_removesFiles_1 rfl rfl rfl ?_
  obtain ⟨⟨fs2, o2⟩, h⟩ := h
  refine wp_call (n := 5) (K' := KX0_ownMany) (rc' := rc) (rs' := rs) (aRun_V (K' := KX0_ownMany) (As := [vR r1]) (rest := []) (b := h0) (c0 := .inr (0, fs2)) dX0_removesFiles_2 (aCal_of kf_X0_ownMany (Nat.le_of_ble_eq_true rfl)) q628 q630 qs16 ar_X0_ownMany o2 (by decide : 0 < 9) rfl (Nat.le_of_ble_eq_true rfl)) rfl (Nat.le_of_eq (Nat.zero_add _)) (Nat.le_of_eq (Nat.zero_add _)) (fun v2 w2 h => ?_) (fun E2 w2 h => ?_) h
  · obtain ⟨x2, rfl, h⟩ := h
    refine wp_if_le (n := 8) (t := 11) dX0_removesFiles_5 rfl (by decide) (fun c5 => ?_) (fun c5 => ?_)
    · replace h := h.1 c5
      refine wp_aload_n (n := 12) (i := 0) (q := 0) dX0_removesFiles_11 rfl rfl rfl ?_
      obtain ⟨x12, g12, h⟩ := h
      refine wp_gf (n := 15) dX0_removesFiles_12 rfl fl_X0_20 g12 ?_
      refine wp_aload_n (n := 16) (i := 1) (q := 1) dX0_removesFiles_15 rfl rfl rfl ?_
      obtain ⟨a16, ea16, h⟩ := h
      rw [ea16]
      obtain ⟨x16, g16, h⟩ := h
      refine wp_gf (n := 19) dX0_removesFiles_16 rfl fl_X0_177 g16 ?_
      refine wp_null (n := 20) dX0_removesFiles_19 rfl ?_
      refine wp_pR (n := 21) dX0_removesFiles_20 rfl (by decide) rfl cok_Object (Or.inl rfl) (pR_mono h (fun w20 h => ?_))
      refine wp_aload_n (n := 22) (i := 0) (q := 0) dX0_removesFiles_21 rfl rfl rfl ?_
      refine wp_aload_n (n := 23) (i := 1) (q := 1) dX0_removesFiles_22 rfl rfl rfl ?_
      obtain ⟨⟨fs23, o23⟩, h⟩ := h
      refine wp_call (n := 26) (K' := KX0_freesLive) (rc' := rc) (rs' := rs) (aRun_V (K' := KX0_freesLive) (As := [vR (some a16)]) (rest := []) (b := h0) (c0 := .inr (0, fs23)) dX0_removesFiles_23 (aCal_of kf_X0_freesLive (Nat.le_of_ble_eq_true rfl)) q636 q638 qs18 ar_X0_freesLive o23 (by decide : 0 < 9) rfl (Nat.le_of_ble_eq_true rfl)) rfl (Nat.le_of_eq (Nat.zero_add _)) (Nat.le_of_eq (Nat.zero_add _)) (fun v23 w23 h => ?_) (fun E23 w23 h => ?_) h
      · obtain ⟨x23, rfl, h⟩ := h
        exact wp_ireturn dX0_removesFiles_26 rfl h
      · exact h.elim
    · replace h := h.2 c5
      refine wp_bipush (n := 10) (v := (-3)) dX0_removesFiles_8 rfl (by decide) ?_
      exact wp_ireturn dX0_removesFiles_10 rfl h
  · exact h.elim
set_option maxHeartbeats 1000000 in
theorem sg_X4_tags_0 {h0 : Nat} {rc rs : Nat} {QR : Option aV → aW → Prop} {QX : String → aW → Prop} {w : aW} (h : QR (some (vI 0)) w) : wp (KX4_tags) rc rs QR QX 0 [(0, vR (some h0))] [] w := by
  refine wp_iconst (n := 1) (v := 0) dX4_tags_0 rfl (by decide) ?_
  exact wp_ireturn dX4_tags_1 rfl h
set_option maxHeartbeats 1000000 in
theorem sg_X8_tags_0 {h0 : Nat} {rc rs : Nat} {QR : Option aV → aW → Prop} {QX : String → aW → Prop} {w : aW} (h : ∃ x1 : Int32, gf w h0 [7] 7 (vI x1) ∧ QR (some (vI x1)) w) : wp (KX8_tags) rc rs QR QX 0 [(0, vR (some h0))] [] w := by
  refine wp_aload_n (n := 1) (i := 0) (q := 0) dX8_tags_0 rfl rfl rfl ?_
  obtain ⟨x1, g1, h⟩ := h
  refine wp_gf (n := 4) dX8_tags_1 rfl fl_X8_7 g1 ?_
  exact wp_ireturn dX8_tags_4 rfl h
set_option maxHeartbeats 1000000 in
theorem sg_X0_holderAt_0 {h0 : Nat} {i1 : Int32} {rc rs : Nat} {QR : Option aV → aW → Prop} {QX : String → aW → Prop} {w : aW} (h : ct (KX0_in) 0 0 [vL (Int32.toInt64 i1), vL 0, vL 19] w (fun v6 w6 => ∃ x6 : Int32, v6 = some (vI x6) ∧ (x6 = 0 → QR (some (vR none)) w6) ∧ (¬ x6 = 0 → ∃ x13 : Nat, gf w6 h0 [0] 4 (vR (some x13)) ∧ ∃ x17 : Option Nat, gR w6 x13 2 i1 x17 ∧ (x17 = none → QR (some (vR none)) w6) ∧ (∀ a18 : Nat, x17 = some a18 → ((ck w6 a18 [4, 5, 6, 7] ∧ ∃ x25 : Nat, gf w6 h0 [0] 4 (vR (some x25)) ∧ ∃ x29 : Option Nat, gR w6 x25 2 i1 x29 ∧ ∃ a30 : Nat, x29 = some a30 ∧ ck w6 a30 [4, 5, 6, 7] ∧ QR (some (vR (some a30))) w6) ∨ (ck w6 a18 [8] ∧ QR (some (vR none)) w6))))) (fun E6 w6 => False)) : wp (KX0_holderAt) rc rs QR QX 0 [(0, vR (some h0)), (1, vI i1)] [] w := by
  refine wp_iload_n (n := 1) (i := 1) (q := 1) dX0_holderAt_0 rfl rfl rfl ?_
  refine wp_i2l (n := 2) dX0_holderAt_1 rfl ?_
  refine wp_lconst (n := 3) (v := 0) dX0_holderAt_2 rfl (by decide) ?_
  refine wp_ldc2 (n := 6) dX0_holderAt_3 rfl q623 ?_
  refine wp_call (n := 9) (K' := KX0_in) (rc' := rc) (rs' := rs) (aRun_S (K' := KX0_in) (As := [vL (Int32.toInt64 i1), vL 0, vL 19]) (rest := []) dX0_holderAt_6 (aCal_of kf_X0_in (Nat.le_of_ble_eq_true rfl)) rfl q228 q229 ar_X0_in rfl (Nat.le_of_ble_eq_true rfl)) rfl (Nat.le_of_eq (Nat.zero_add _)) (Nat.le_of_eq (Nat.zero_add _)) (fun v6 w6 h => ?_) (fun E6 w6 h => ?_) h
  · obtain ⟨x6, rfl, h⟩ := h
    refine wp_if_eq (n := 12) (t := 36) dX0_holderAt_9 rfl (by decide) (fun c9 => ?_) (fun c9 => ?_)
    · replace h := h.1 c9
      refine wp_null (n := 37) dX0_holderAt_36 rfl ?_
      exact wp_areturn dX0_holderAt_37 rfl (Or.inl ⟨_, rfl⟩) h
    · replace h := h.2 c9
      refine wp_aload_n (n := 13) (i := 0) (q := 0) dX0_holderAt_12 rfl rfl rfl ?_
      obtain ⟨x13, g13, h⟩ := h
      refine wp_gf (n := 16) dX0_holderAt_13 rfl fl_X0_20 g13 ?_
      refine wp_iload_n (n := 17) (i := 1) (q := 1) dX0_holderAt_16 rfl rfl rfl ?_
      obtain ⟨x17, g17, h⟩ := h
      refine wp_gR (n := 18) dX0_holderAt_17 rfl (by decide) g17 ?_
      rcases opt_c x17 with ea18 | ⟨a18, ea18⟩
      · replace h := h.1 ea18
        rw [ea18]
        refine wp_instN (n := 21) dX0_holderAt_18 rfl ?_
        refine wp_if_eq (n := 24) (t := 36) dX0_holderAt_21 rfl (by decide) (fun _ => ?_) (fun z => absurd z (by decide))
        refine wp_null (n := 37) dX0_holderAt_36 rfl ?_
        exact wp_areturn dX0_holderAt_37 rfl (Or.inl ⟨_, rfl⟩) h
      · replace h := h.2 a18 ea18
        rw [ea18]
        rcases h with h | h
        · obtain ⟨k18, h⟩ := h
          refine wp_ciY (n := 21) dX0_holderAt_18 rfl q659 cok_Holder k18 ?_
          refine wp_if_eq (n := 24) (t := 36) dX0_holderAt_21 rfl (by decide) (fun z => absurd z (by decide)) (fun _ => ?_)
          refine wp_aload_n (n := 25) (i := 0) (q := 0) dX0_holderAt_24 rfl rfl rfl ?_
          obtain ⟨x25, g25, h⟩ := h
          refine wp_gf (n := 28) dX0_holderAt_25 rfl fl_X0_20 g25 ?_
          refine wp_iload_n (n := 29) (i := 1) (q := 1) dX0_holderAt_28 rfl rfl rfl ?_
          obtain ⟨x29, g29, h⟩ := h
          refine wp_gR (n := 30) dX0_holderAt_29 rfl (by decide) g29 ?_
          obtain ⟨a30, ea30, h⟩ := h
          rw [ea30]
          obtain ⟨k30, h⟩ := h
          refine wp_ckY (n := 33) dX0_holderAt_30 rfl q659 cok_Holder k30 ?_
          refine wp_goto (t := 37) dX0_holderAt_33 (by decide) ?_
          exact wp_areturn dX0_holderAt_37 rfl (Or.inl ⟨_, rfl⟩) h
        · obtain ⟨k18, h⟩ := h
          refine wp_ciX (n := 21) dX0_holderAt_18 rfl q659 cno_Holder k18 ?_
          refine wp_if_eq (n := 24) (t := 36) dX0_holderAt_21 rfl (by decide) (fun _ => ?_) (fun z => absurd z (by decide))
          refine wp_null (n := 37) dX0_holderAt_36 rfl ?_
          exact wp_areturn dX0_holderAt_37 rfl (Or.inl ⟨_, rfl⟩) h
  · exact h.elim
set_option maxHeartbeats 1000000 in
theorem sg_X0_nextMany_0 {h0 : Nat} {r1 : Option Nat} {rc rs : Nat} {QR : Option aV → aW → Prop} {QX : String → aW → Prop} {w : aW} (h : wp (KX0_nextMany) rc rs QR QX 4 [(0, vR (some h0)), (1, vR r1), (2, vI 0), (3, vI 0)] [] w) : wp (KX0_nextMany) rc rs QR QX 0 [(0, vR (some h0)), (1, vR r1)] [] w := by
  refine wp_iconst (n := 1) (v := 0) dX0_nextMany_0 rfl (by decide) ?_
  refine wp_istore_n (n := 2) (i := 2) (ls' := [(2, vI 0), (0, vR (some h0)), (1, vR r1)]) dX0_nextMany_1 rfl rfl (Nat.le_of_ble_eq_true rfl) rfl ?_
  refine wp_iconst (n := 3) (v := 0) dX0_nextMany_2 rfl (by decide) ?_
  refine wp_istore_n (n := 4) (i := 3) (ls' := [(3, vI 0), (2, vI 0), (0, vR (some h0)), (1, vR r1)]) dX0_nextMany_3 rfl rfl (Nat.le_of_ble_eq_true rfl) rfl ?_
  exact wp_sub [2, 3, 1, 0] rfl h
set_option maxHeartbeats 1000000 in
theorem sg_X0_nextMany_4 {h0 : Nat} {r1 : Option Nat} {i2 : Int32} {i3 : Int32} {rc rs : Nat} {QR : Option aV → aW → Prop} {QX : String → aW → Prop} {w : aW} (h : (20 ≤ i3 → QR (some (vI i2)) w) ∧ (¬ 20 ≤ i3 → isO w h0 0 ∧ ct (KX0_holderAt) 0 0 [vR (some h0), vI i3] w (fun v13 w13 => ∃ x13 : Option Nat, v13 = some (vR x13) ∧ (x13 = none → wp (KX0_nextMany) rc rs QR QX 4 [(0, vR (some h0)), (1, vR r1), (2, vI (i2 + 0)), (3, vI (i3 + 1))] [] w13) ∧ (∀ a16 : Nat, x13 = some a16 → isO w13 h0 0 ∧ ct (KX0_holderAt) 0 0 [vR (some h0), vI i3] w13 (fun v21 w21 => ∃ x21 : Option Nat, v21 = some (vR x21) ∧ ∃ a24 : Nat, x21 = some a24 ∧ ∃ x24 : Option Nat, gf w21 a24 [4, 5, 6, 7] 5 (vR x24) ∧ (¬ x24 = r1 → wp (KX0_nextMany) rc rs QR QX 4 [(0, vR (some h0)), (1, vR r1), (2, vI (i2 + 0)), (3, vI (i3 + 1))] [] w21) ∧ (x24 = r1 → wp (KX0_nextMany) rc rs QR QX 4 [(0, vR (some h0)), (1, vR r1), (2, vI (i2 + 1)), (3, vI (i3 + 1))] [] w21)) (fun E21 w21 => False))) (fun E13 w13 => False))) : wp (KX0_nextMany) rc rs QR QX 4 [(0, vR (some h0)), (1, vR r1), (2, vI i2), (3, vI i3)] [] w := by
  refine wp_iload_n (n := 5) (i := 3) (q := 3) dX0_nextMany_4 rfl rfl rfl ?_
  refine wp_bipush (n := 7) (v := 20) dX0_nextMany_5 rfl (by decide) ?_
  refine wp_icmp_ge (n := 10) (t := 44) dX0_nextMany_7 rfl (by decide) (fun c7 => ?_) (fun c7 => ?_)
  · replace h := h.1 c7
    refine wp_iload_n (n := 45) (i := 2) (q := 2) dX0_nextMany_44 rfl rfl rfl ?_
    exact wp_ireturn dX0_nextMany_45 rfl h
  · replace h := h.2 c7
    refine wp_iload_n (n := 11) (i := 2) (q := 2) dX0_nextMany_10 rfl rfl rfl ?_
    refine wp_aload_n (n := 12) (i := 0) (q := 0) dX0_nextMany_11 rfl rfl rfl ?_
    refine wp_iload_n (n := 13) (i := 3) (q := 3) dX0_nextMany_12 rfl rfl rfl ?_
    obtain ⟨⟨fs13, o13⟩, h⟩ := h
    refine wp_call (n := 16) (K' := KX0_holderAt) (rc' := rc) (rs' := rs) (aRun_V (K' := KX0_holderAt) (As := [vI i3]) (rest := [vI i2]) (b := h0) (c0 := .inr (0, fs13)) dX0_nextMany_13 (aCal_of kf_X0_holderAt (Nat.le_of_ble_eq_true rfl)) q655 q657 qs21 ar_X0_holderAt o13 (by decide : 0 < 9) rfl (Nat.le_of_ble_eq_true rfl)) rfl (Nat.le_of_eq (Nat.zero_add _)) (Nat.le_of_eq (Nat.zero_add _)) (fun v13 w13 h => ?_) (fun E13 w13 h => ?_) h
    · obtain ⟨x13, rfl, h⟩ := h
      rcases opt_c x13 with ea16 | ⟨a16, ea16⟩
      · replace h := h.1 ea16
        rw [ea16]
        refine wp_ifnull (n := 19) (t := 35) dX0_nextMany_16 rfl (by decide) (fun _ => ?_) (fun z zz => nomatch zz)
        refine wp_iconst (n := 36) (v := 0) dX0_nextMany_35 rfl (by decide) ?_
        refine wp_iadd (n := 37) dX0_nextMany_36 rfl ?_
        refine wp_istore_n (n := 38) (i := 2) (ls' := [(2, vI (i2 + 0)), (0, vR (some h0)), (1, vR r1), (3, vI i3)]) dX0_nextMany_37 rfl rfl (Nat.le_of_ble_eq_true rfl) rfl ?_
        refine wp_iinc (n := 41) (i := 3) (q := 3) (v := i3 + 1) (ls' := [(3, vI (i3 + 1)), (2, vI (i2 + 0)), (0, vR (some h0)), (1, vR r1)]) dX0_nextMany_38 rfl rfl rfl (Nat.le_of_ble_eq_true rfl) rfl ?_
        refine wp_goto (t := 4) dX0_nextMany_41 (by decide) ?_
        exact wp_sub [2, 3, 1, 0] rfl h
      · replace h := h.2 a16 ea16
        rw [ea16]
        refine wp_ifnull (n := 19) (t := 35) dX0_nextMany_16 rfl (by decide) (fun zz => nomatch zz) (fun _ _ => ?_)
        refine wp_aload_n (n := 20) (i := 0) (q := 0) dX0_nextMany_19 rfl rfl rfl ?_
        refine wp_iload_n (n := 21) (i := 3) (q := 3) dX0_nextMany_20 rfl rfl rfl ?_
        obtain ⟨⟨fs21, o21⟩, h⟩ := h
        refine wp_call (n := 24) (K' := KX0_holderAt) (rc' := rc) (rs' := rs) (aRun_V (K' := KX0_holderAt) (As := [vI i3]) (rest := [vI i2]) (b := h0) (c0 := .inr (0, fs21)) dX0_nextMany_21 (aCal_of kf_X0_holderAt (Nat.le_of_ble_eq_true rfl)) q655 q657 qs21 ar_X0_holderAt o21 (by decide : 0 < 9) rfl (Nat.le_of_ble_eq_true rfl)) rfl (Nat.le_of_eq (Nat.zero_add _)) (Nat.le_of_eq (Nat.zero_add _)) (fun v21 w21 h => ?_) (fun E21 w21 h => ?_) h
        · obtain ⟨x21, rfl, h⟩ := h
          obtain ⟨a24, ea24, h⟩ := h
          rw [ea24]
          obtain ⟨x24, g24, h⟩ := h
          refine wp_gf (n := 27) dX0_nextMany_24 rfl fl_X0_88 g24 ?_
          refine wp_aload_n (n := 28) (i := 1) (q := 1) dX0_nextMany_27 rfl rfl rfl ?_
          refine wp_acmp_ne (n := 31) (t := 35) dX0_nextMany_28 rfl (by decide) (fun c28 => ?_) (fun c28 => ?_)
          · replace h := h.1 c28
            refine wp_iconst (n := 36) (v := 0) dX0_nextMany_35 rfl (by decide) ?_
            refine wp_iadd (n := 37) dX0_nextMany_36 rfl ?_
            refine wp_istore_n (n := 38) (i := 2) (ls' := [(2, vI (i2 + 0)), (0, vR (some h0)), (1, vR r1), (3, vI i3)]) dX0_nextMany_37 rfl rfl (Nat.le_of_ble_eq_true rfl) rfl ?_
            refine wp_iinc (n := 41) (i := 3) (q := 3) (v := i3 + 1) (ls' := [(3, vI (i3 + 1)), (2, vI (i2 + 0)), (0, vR (some h0)), (1, vR r1)]) dX0_nextMany_38 rfl rfl rfl (Nat.le_of_ble_eq_true rfl) rfl ?_
            refine wp_goto (t := 4) dX0_nextMany_41 (by decide) ?_
            exact wp_sub [2, 3, 1, 0] rfl h
          · replace h := h.2 c28
            refine wp_iconst (n := 32) (v := 1) dX0_nextMany_31 rfl (by decide) ?_
            refine wp_goto (t := 36) dX0_nextMany_32 (by decide) ?_
            refine wp_iadd (n := 37) dX0_nextMany_36 rfl ?_
            refine wp_istore_n (n := 38) (i := 2) (ls' := [(2, vI (i2 + 1)), (0, vR (some h0)), (1, vR r1), (3, vI i3)]) dX0_nextMany_37 rfl rfl (Nat.le_of_ble_eq_true rfl) rfl ?_
            refine wp_iinc (n := 41) (i := 3) (q := 3) (v := i3 + 1) (ls' := [(3, vI (i3 + 1)), (2, vI (i2 + 1)), (0, vR (some h0)), (1, vR r1)]) dX0_nextMany_38 rfl rfl rfl (Nat.le_of_ble_eq_true rfl) rfl ?_
            refine wp_goto (t := 4) dX0_nextMany_41 (by decide) ?_
            exact wp_sub [2, 3, 1, 0] rfl h
        · exact h.elim
    · exact h.elim
set_option maxHeartbeats 1000000 in
theorem sg_X0_isLoose_0 {h0 : Nat} {r1 : Option Nat} {rc rs : Nat} {QR : Option aV → aW → Prop} {QX : String → aW → Prop} {w : aW} (h : ∃ a1 : Nat, r1 = some a1 ∧ ((isO w a1 6 ∧ ct (KX4_tags) 0 0 [vR (some a1)] w (fun v1 w1 => ∃ x1 : Int32, v1 = some (vI x1) ∧ (¬ x1 = 0 → QR (some (vI 0)) w1) ∧ (x1 = 0 → isO w1 h0 0 ∧ ct (KX0_nextMany) 0 0 [vR (some h0), vR (some a1)] w1 (fun v9 w9 => ∃ x9 : Int32, v9 = some (vI x9) ∧ (¬ x9 = 1 → QR (some (vI 0)) w9) ∧ (x9 = 1 → QR (some (vI 1)) w9)) (fun E9 w9 => False))) (fun E1 w1 => False)) ∨ (isO w a1 7 ∧ ct (KX8_tags) 0 0 [vR (some a1)] w (fun v1 w1 => ∃ x1 : Int32, v1 = some (vI x1) ∧ (¬ x1 = 0 → QR (some (vI 0)) w1) ∧ (x1 = 0 → isO w1 h0 0 ∧ ct (KX0_nextMany) 0 0 [vR (some h0), vR (some a1)] w1 (fun v9 w9 => ∃ x9 : Int32, v9 = some (vI x9) ∧ (¬ x9 = 1 → QR (some (vI 0)) w9) ∧ (x9 = 1 → QR (some (vI 1)) w9)) (fun E9 w9 => False))) (fun E1 w1 => False)))) : wp (KX0_isLoose) rc rs QR QX 0 [(0, vR (some h0)), (1, vR r1)] [] w := by
  refine wp_aload_n (n := 1) (i := 1) (q := 1) dX0_isLoose_0 rfl rfl rfl ?_
  obtain ⟨a1, ea1, h⟩ := h
  rw [ea1]
  rcases h with h | h
  · obtain ⟨⟨fs1, o1⟩, h⟩ := h
    refine wp_call (n := 4) (K' := KX4_tags) (rc' := rc) (rs' := rs) (aRun_U (K' := KX4_tags) (As := []) (rest := []) (b := a1) (x := ⟨"DeadListPool$Snapshot", "tags", "()I"⟩) (owner := "DeadListPool$Holder") (c0 := .inr (6, fs1)) dX0_isLoose_1 (aCal_of kf_X4_tags (Nat.le_of_ble_eq_true rfl)) rfl q644 q645 q647 q649 (Or.inr q646) ⟨by decide, by decide⟩ ar_X4_tags o1 (by decide : 6 < 9) rfl (Nat.le_of_ble_eq_true rfl)) rfl (Nat.le_of_eq (Nat.zero_add _)) (Nat.le_of_eq (Nat.zero_add _)) (fun v1 w1 h => ?_) (fun E1 w1 h => ?_) h
    · obtain ⟨x1, rfl, h⟩ := h
      refine wp_if_ne (n := 7) (t := 20) dX0_isLoose_4 rfl (by decide) (fun c4 => ?_) (fun c4 => ?_)
      · replace h := h.1 c4
        refine wp_iconst (n := 21) (v := 0) dX0_isLoose_20 rfl (by decide) ?_
        exact wp_zreturn dX0_isLoose_21 rfl (by decide) h
      · replace h := h.2 c4
        refine wp_aload_n (n := 8) (i := 0) (q := 0) dX0_isLoose_7 rfl rfl rfl ?_
        refine wp_aload_n (n := 9) (i := 1) (q := 1) dX0_isLoose_8 rfl rfl rfl ?_
        obtain ⟨⟨fs9, o9⟩, h⟩ := h
        refine wp_call (n := 12) (K' := KX0_nextMany) (rc' := rc) (rs' := rs) (aRun_V (K' := KX0_nextMany) (As := [vR (some a1)]) (rest := []) (b := h0) (c0 := .inr (0, fs9)) dX0_isLoose_9 (aCal_of kf_X0_nextMany (Nat.le_of_ble_eq_true rfl)) q651 q653 qs20 ar_X0_nextMany o9 (by decide : 0 < 9) rfl (Nat.le_of_ble_eq_true rfl)) rfl (Nat.le_of_eq (Nat.zero_add _)) (Nat.le_of_eq (Nat.zero_add _)) (fun v9 w9 h => ?_) (fun E9 w9 h => ?_) h
        · obtain ⟨x9, rfl, h⟩ := h
          refine wp_iconst (n := 13) (v := 1) dX0_isLoose_12 rfl (by decide) ?_
          refine wp_icmp_ne (n := 16) (t := 20) dX0_isLoose_13 rfl (by decide) (fun c13 => ?_) (fun c13 => ?_)
          · replace h := h.1 c13
            refine wp_iconst (n := 21) (v := 0) dX0_isLoose_20 rfl (by decide) ?_
            exact wp_zreturn dX0_isLoose_21 rfl (by decide) h
          · replace h := h.2 c13
            refine wp_iconst (n := 17) (v := 1) dX0_isLoose_16 rfl (by decide) ?_
            refine wp_goto (t := 21) dX0_isLoose_17 (by decide) ?_
            exact wp_zreturn dX0_isLoose_21 rfl (by decide) h
        · exact h.elim
    · exact h.elim
  · obtain ⟨⟨fs1, o1⟩, h⟩ := h
    refine wp_call (n := 4) (K' := KX8_tags) (rc' := rc) (rs' := rs) (aRun_U (K' := KX8_tags) (As := []) (rest := []) (b := a1) (x := ⟨"DeadListPool$Snapshot", "tags", "()I"⟩) (owner := "DeadListPool$Holder") (c0 := .inr (7, fs1)) dX0_isLoose_1 (aCal_of kf_X8_tags (Nat.le_of_ble_eq_true rfl)) rfl q644 q645 q648 q585 (Or.inr q646) ⟨by decide, by decide⟩ ar_X8_tags o1 (by decide : 7 < 9) rfl (Nat.le_of_ble_eq_true rfl)) rfl (Nat.le_of_eq (Nat.zero_add _)) (Nat.le_of_eq (Nat.zero_add _)) (fun v1 w1 h => ?_) (fun E1 w1 h => ?_) h
    · obtain ⟨x1, rfl, h⟩ := h
      refine wp_if_ne (n := 7) (t := 20) dX0_isLoose_4 rfl (by decide) (fun c4 => ?_) (fun c4 => ?_)
      · replace h := h.1 c4
        refine wp_iconst (n := 21) (v := 0) dX0_isLoose_20 rfl (by decide) ?_
        exact wp_zreturn dX0_isLoose_21 rfl (by decide) h
      · replace h := h.2 c4
        refine wp_aload_n (n := 8) (i := 0) (q := 0) dX0_isLoose_7 rfl rfl rfl ?_
        refine wp_aload_n (n := 9) (i := 1) (q := 1) dX0_isLoose_8 rfl rfl rfl ?_
        obtain ⟨⟨fs9, o9⟩, h⟩ := h
        refine wp_call (n := 12) (K' := KX0_nextMany) (rc' := rc) (rs' := rs) (aRun_V (K' := KX0_nextMany) (As := [vR (some a1)]) (rest := []) (b := h0) (c0 := .inr (0, fs9)) dX0_isLoose_9 (aCal_of kf_X0_nextMany (Nat.le_of_ble_eq_true rfl)) q651 q653 qs20 ar_X0_nextMany o9 (by decide : 0 < 9) rfl (Nat.le_of_ble_eq_true rfl)) rfl (Nat.le_of_eq (Nat.zero_add _)) (Nat.le_of_eq (Nat.zero_add _)) (fun v9 w9 h => ?_) (fun E9 w9 h => ?_) h
        · obtain ⟨x9, rfl, h⟩ := h
          refine wp_iconst (n := 13) (v := 1) dX0_isLoose_12 rfl (by decide) ?_
          refine wp_icmp_ne (n := 16) (t := 20) dX0_isLoose_13 rfl (by decide) (fun c13 => ?_) (fun c13 => ?_)
          · replace h := h.1 c13
            refine wp_iconst (n := 21) (v := 0) dX0_isLoose_20 rfl (by decide) ?_
            exact wp_zreturn dX0_isLoose_21 rfl (by decide) h
          · replace h := h.2 c13
            refine wp_iconst (n := 17) (v := 1) dX0_isLoose_16 rfl (by decide) ?_
            refine wp_goto (t := 21) dX0_isLoose_17 (by decide) ?_
            exact wp_zreturn dX0_isLoose_21 rfl (by decide) h
        · exact h.elim
    · exact h.elim
set_option maxHeartbeats 1000000 in
theorem sg_X0_nextOf_0 {h0 : Nat} {r1 : Option Nat} {rc rs : Nat} {QR : Option aV → aW → Prop} {QX : String → aW → Prop} {w : aW} (h : wp (KX0_nextOf) rc rs QR QX 2 [(0, vR (some h0)), (1, vR r1), (2, vI 0)] [] w) : wp (KX0_nextOf) rc rs QR QX 0 [(0, vR (some h0)), (1, vR r1)] [] w := by
  refine wp_iconst (n := 1) (v := 0) dX0_nextOf_0 rfl (by decide) ?_
  refine wp_istore_n (n := 2) (i := 2) (ls' := [(2, vI 0), (0, vR (some h0)), (1, vR r1)]) dX0_nextOf_1 rfl rfl (Nat.le_of_ble_eq_true rfl) rfl ?_
  exact wp_sub [1, 2, 0] rfl h
set_option maxHeartbeats 1000000 in
theorem sg_X0_nextOf_2 {h0 : Nat} {r1 : Option Nat} {i2 : Int32} {rc rs : Nat} {QR : Option aV → aW → Prop} {QX : String → aW → Prop} {w : aW} (h : (20 ≤ i2 → QR (some (vR none)) w) ∧ (¬ 20 ≤ i2 → isO w h0 0 ∧ ct (KX0_holderAt) 0 0 [vR (some h0), vI i2] w (fun v10 w10 => ∃ x10 : Option Nat, v10 = some (vR x10) ∧ (x10 = none → wp (KX0_nextOf) rc rs QR QX 2 [(0, vR (some h0)), (1, vR r1), (2, vI (i2 + 1))] [] w10) ∧ (∀ a15 : Nat, x10 = some a15 → ∃ x19 : Option Nat, gf w10 a15 [4, 5, 6, 7] 5 (vR x19) ∧ (¬ x19 = r1 → wp (KX0_nextOf) rc rs QR QX 2 [(0, vR (some h0)), (1, vR r1), (2, vI (i2 + 1))] [] w10) ∧ (x19 = r1 → QR (some (vR (some a15))) w10))) (fun E10 w10 => False))) : wp (KX0_nextOf) rc rs QR QX 2 [(0, vR (some h0)), (1, vR r1), (2, vI i2)] [] w := by
  refine wp_iload_n (n := 3) (i := 2) (q := 2) dX0_nextOf_2 rfl rfl rfl ?_
  refine wp_bipush (n := 5) (v := 20) dX0_nextOf_3 rfl (by decide) ?_
  refine wp_icmp_ge (n := 8) (t := 34) dX0_nextOf_5 rfl (by decide) (fun c5 => ?_) (fun c5 => ?_)
  · replace h := h.1 c5
    refine wp_null (n := 35) dX0_nextOf_34 rfl ?_
    exact wp_areturn dX0_nextOf_35 rfl (Or.inl ⟨_, rfl⟩) h
  · replace h := h.2 c5
    refine wp_aload_n (n := 9) (i := 0) (q := 0) dX0_nextOf_8 rfl rfl rfl ?_
    refine wp_iload_n (n := 10) (i := 2) (q := 2) dX0_nextOf_9 rfl rfl rfl ?_
    obtain ⟨⟨fs10, o10⟩, h⟩ := h
    refine wp_call (n := 13) (K' := KX0_holderAt) (rc' := rc) (rs' := rs) (aRun_V (K' := KX0_holderAt) (As := [vI i2]) (rest := []) (b := h0) (c0 := .inr (0, fs10)) dX0_nextOf_10 (aCal_of kf_X0_holderAt (Nat.le_of_ble_eq_true rfl)) q655 q657 qs21 ar_X0_holderAt o10 (by decide : 0 < 9) rfl (Nat.le_of_ble_eq_true rfl)) rfl (Nat.le_of_eq (Nat.zero_add _)) (Nat.le_of_eq (Nat.zero_add _)) (fun v10 w10 h => ?_) (fun E10 w10 h => ?_) h
    · obtain ⟨x10, rfl, h⟩ := h
      refine wp_astore_n (n := 14) (i := 3) (ls' := [(3, vR x10), (0, vR (some h0)), (1, vR r1), (2, vI i2)]) dX0_nextOf_13 rfl rfl (Nat.le_of_ble_eq_true rfl) rfl ?_
      refine wp_aload_n (n := 15) (i := 3) (q := 0) dX0_nextOf_14 rfl rfl rfl ?_
      rcases opt_c x10 with ea15 | ⟨a15, ea15⟩
      · replace h := h.1 ea15
        rw [ea15]
        refine wp_ifnull (n := 18) (t := 28) dX0_nextOf_15 rfl (by decide) (fun _ => ?_) (fun z zz => nomatch zz)
        refine wp_iinc (n := 31) (i := 2) (q := 3) (v := i2 + 1) (ls' := [(2, vI (i2 + 1)), (3, vR none), (0, vR (some h0)), (1, vR r1)]) dX0_nextOf_28 rfl rfl rfl (Nat.le_of_ble_eq_true rfl) rfl ?_
        refine wp_goto (t := 2) dX0_nextOf_31 (by decide) ?_
        exact wp_sub [2, 3, 0] rfl h
      · replace h := h.2 a15 ea15
        rw [ea15]
        refine wp_ifnull (n := 18) (t := 28) dX0_nextOf_15 rfl (by decide) (fun zz => nomatch zz) (fun _ _ => ?_)
        refine wp_aload_n (n := 19) (i := 3) (q := 0) dX0_nextOf_18 rfl rfl rfl ?_
        obtain ⟨x19, g19, h⟩ := h
        refine wp_gf (n := 22) dX0_nextOf_19 rfl fl_X0_88 g19 ?_
        refine wp_aload_n (n := 23) (i := 1) (q := 2) dX0_nextOf_22 rfl rfl rfl ?_
        refine wp_acmp_ne (n := 26) (t := 28) dX0_nextOf_23 rfl (by decide) (fun c23 => ?_) (fun c23 => ?_)
        · replace h := h.1 c23
          refine wp_iinc (n := 31) (i := 2) (q := 3) (v := i2 + 1) (ls' := [(2, vI (i2 + 1)), (3, vR (some a15)), (0, vR (some h0)), (1, vR r1)]) dX0_nextOf_28 rfl rfl rfl (Nat.le_of_ble_eq_true rfl) rfl ?_
          refine wp_goto (t := 2) dX0_nextOf_31 (by decide) ?_
          exact wp_sub [2, 3, 0] rfl h
        · replace h := h.2 c23
          refine wp_aload_n (n := 27) (i := 3) (q := 0) dX0_nextOf_26 rfl rfl rfl ?_
          exact wp_areturn dX0_nextOf_27 rfl (Or.inl ⟨_, rfl⟩) h
    · exact h.elim
set_option maxHeartbeats 1000000 in
theorem sg_X0_merges_0 {h0 : Nat} {r1 : Option Nat} {i2 : Int32} {r3 : Option Nat} {rc rs : Nat} {QR : Option aV → aW → Prop} {QX : String → aW → Prop} {w : aW} (h : wp (KX0_merges) rc rs QR QX 9 [(0, vR (some h0)), (1, vR r1), (2, vI i2), (3, vR r3), (4, vI i2), (5, vI 0), (6, vI 0)] [] w) : wp (KX0_merges) rc rs QR QX 0 [(0, vR (some h0)), (1, vR r1), (2, vI i2), (3, vR r3)] [] w := by
  refine wp_iload_n (n := 1) (i := 2) (q := 2) dX0_merges_0 rfl rfl rfl ?_
  refine wp_istore (n := 3) (i := 4) (ls' := [(4, vI i2), (0, vR (some h0)), (1, vR r1), (2, vI i2), (3, vR r3)]) dX0_merges_1 rfl (Nat.le_of_ble_eq_true rfl) rfl ?_
  refine wp_iconst (n := 4) (v := 0) dX0_merges_3 rfl (by decide) ?_
  refine wp_istore (n := 6) (i := 5) (ls' := [(5, vI 0), (4, vI i2), (0, vR (some h0)), (1, vR r1), (2, vI i2), (3, vR r3)]) dX0_merges_4 rfl (Nat.le_of_ble_eq_true rfl) rfl ?_
  refine wp_iconst (n := 7) (v := 0) dX0_merges_6 rfl (by decide) ?_
  refine wp_istore (n := 9) (i := 6) (ls' := [(6, vI 0), (5, vI 0), (4, vI i2), (0, vR (some h0)), (1, vR r1), (2, vI i2), (3, vR r3)]) dX0_merges_7 rfl (Nat.le_of_ble_eq_true rfl) rfl ?_
  exact wp_sub [3, 4, 5, 6, 2, 1, 0] rfl h
set_option maxHeartbeats 1000000 in
theorem sg_X0_merges_9 {h0 : Nat} {r1 : Option Nat} {i2 : Int32} {r3 : Option Nat} {i4 : Int32} {i5 : Int32} {i6 : Int32} {rc rs : Nat} {QR : Option aV → aW → Prop} {QX : String → aW → Prop} {w : aW} (h : ∃ a12 : Nat, r1 = some a12 ∧ ∃ x12 : Int32, gf w a12 [4, 5, 6, 7] 3 (vI x12) ∧ (i4 < x12 → ∃ a30 : Nat, r3 = some a30 ∧ ∃ x30 : Int32, gf w a30 [6, 7] 3 (vI x30) ∧ (i5 = x30 → ∃ x74 : Nat, gf w h0 [0] 5 (vR (some x74)) ∧ ∃ x85 : Nat, gf w a12 [4, 5, 6, 7] 2 (vR (some x85)) ∧ ∃ x90 : Int32, gI w x85 i4 x90 ∧ pI w x74 i6 x90 (fun w101 => wp (KX0_merges) rc rs QR QX 9 [(0, vR (some h0)), (1, vR (some a12)), (2, vI i2), (3, vR (some a30)), (4, vI (i4 + 1)), (5, vI (i5 + 0)), (6, vI (i6 + 1))] [] w101)) ∧ (¬ i5 = x30 → ∃ x39 : Int32, gf w a12 [4, 5, 6, 7] 3 (vI x39) ∧ (x39 ≤ i4 → ∃ x74 : Nat, gf w h0 [0] 5 (vR (some x74)) ∧ ∃ x95 : Nat, gf w a30 [6, 7] 2 (vR (some x95)) ∧ ∃ x100 : Int32, gI w x95 i5 x100 ∧ pI w x74 i6 x100 (fun w101 => wp (KX0_merges) rc rs QR QX 9 [(0, vR (some h0)), (1, vR (some a12)), (2, vI i2), (3, vR (some a30)), (4, vI (i4 + 0)), (5, vI (i5 + 1)), (6, vI (i6 + 1))] [] w101)) ∧ (¬ x39 ≤ i4 → ∃ x47 : Nat, gf w a12 [4, 5, 6, 7] 2 (vR (some x47)) ∧ ∃ x52 : Int32, gI w x47 i4 x52 ∧ ∃ x54 : Nat, gf w a30 [6, 7] 2 (vR (some x54)) ∧ ∃ x59 : Int32, gI w x54 i5 x59 ∧ isO w h0 0 ∧ ct (KX0_isLater) 0 0 [vR (some h0), vI x52, vI x59] w (fun v60 w60 => ∃ x60 : Int32, v60 = some (vI x60) ∧ (x60 = 0 → ∃ x74 : Nat, gf w60 h0 [0] 5 (vR (some x74)) ∧ ∃ x95 : Nat, gf w60 a30 [6, 7] 2 (vR (some x95)) ∧ ∃ x100 : Int32, gI w60 x95 i5 x100 ∧ pI w60 x74 i6 x100 (fun w101 => wp (KX0_merges) rc rs QR QX 9 [(0, vR (some h0)), (1, vR (some a12)), (2, vI i2), (3, vR (some a30)), (4, vI (i4 + 0)), (5, vI (i5 + 1)), (6, vI (i6 + 1))] [] w101)) ∧ (¬ x60 = 0 → ∃ x74 : Nat, gf w60 h0 [0] 5 (vR (some x74)) ∧ ∃ x85 : Nat, gf w60 a12 [4, 5, 6, 7] 2 (vR (some x85)) ∧ ∃ x90 : Int32, gI w60 x85 i4 x90 ∧ pI w60 x74 i6 x90 (fun w101 => wp (KX0_merges) rc rs QR QX 9 [(0, vR (some h0)), (1, vR (some a12)), (2, vI i2), (3, vR (some a30)), (4, vI (i4 + 1)), (5, vI (i5 + 0)), (6, vI (i6 + 1))] [] w101))) (fun E60 w60 => False)))) ∧ (¬ i4 < x12 → ∃ a21 : Nat, r3 = some a21 ∧ ∃ x21 : Int32, gf w a21 [6, 7] 3 (vI x21) ∧ (x21 ≤ i5 → wp (KX0_merges) rc rs QR QX 141 [(0, vR (some h0)), (1, vR (some a12)), (2, vI i2), (3, vR (some a21)), (4, vI i4), (5, vI i5), (6, vI i6), (7, vI 0)] [] w) ∧ (¬ x21 ≤ i5 → ∃ x30 : Int32, gf w a21 [6, 7] 3 (vI x30) ∧ (i5 = x30 → ∃ x74 : Nat, gf w h0 [0] 5 (vR (some x74)) ∧ ∃ x85 : Nat, gf w a12 [4, 5, 6, 7] 2 (vR (some x85)) ∧ ∃ x90 : Int32, gI w x85 i4 x90 ∧ pI w x74 i6 x90 (fun w101 => wp (KX0_merges) rc rs QR QX 9 [(0, vR (some h0)), (1, vR (some a12)), (2, vI i2), (3, vR (some a21)), (4, vI (i4 + 1)), (5, vI (i5 + 0)), (6, vI (i6 + 1))] [] w101)) ∧ (¬ i5 = x30 → ∃ x39 : Int32, gf w a12 [4, 5, 6, 7] 3 (vI x39) ∧ (x39 ≤ i4 → ∃ x74 : Nat, gf w h0 [0] 5 (vR (some x74)) ∧ ∃ x95 : Nat, gf w a21 [6, 7] 2 (vR (some x95)) ∧ ∃ x100 : Int32, gI w x95 i5 x100 ∧ pI w x74 i6 x100 (fun w101 => wp (KX0_merges) rc rs QR QX 9 [(0, vR (some h0)), (1, vR (some a12)), (2, vI i2), (3, vR (some a21)), (4, vI (i4 + 0)), (5, vI (i5 + 1)), (6, vI (i6 + 1))] [] w101)) ∧ (¬ x39 ≤ i4 → ∃ x47 : Nat, gf w a12 [4, 5, 6, 7] 2 (vR (some x47)) ∧ ∃ x52 : Int32, gI w x47 i4 x52 ∧ ∃ x54 : Nat, gf w a21 [6, 7] 2 (vR (some x54)) ∧ ∃ x59 : Int32, gI w x54 i5 x59 ∧ isO w h0 0 ∧ ct (KX0_isLater) 0 0 [vR (some h0), vI x52, vI x59] w (fun v60 w60 => ∃ x60 : Int32, v60 = some (vI x60) ∧ (x60 = 0 → ∃ x74 : Nat, gf w60 h0 [0] 5 (vR (some x74)) ∧ ∃ x95 : Nat, gf w60 a21 [6, 7] 2 (vR (some x95)) ∧ ∃ x100 : Int32, gI w60 x95 i5 x100 ∧ pI w60 x74 i6 x100 (fun w101 => wp (KX0_merges) rc rs QR QX 9 [(0, vR (some h0)), (1, vR (some a12)), (2, vI i2), (3, vR (some a21)), (4, vI (i4 + 0)), (5, vI (i5 + 1)), (6, vI (i6 + 1))] [] w101)) ∧ (¬ x60 = 0 → ∃ x74 : Nat, gf w60 h0 [0] 5 (vR (some x74)) ∧ ∃ x85 : Nat, gf w60 a12 [4, 5, 6, 7] 2 (vR (some x85)) ∧ ∃ x90 : Int32, gI w60 x85 i4 x90 ∧ pI w60 x74 i6 x90 (fun w101 => wp (KX0_merges) rc rs QR QX 9 [(0, vR (some h0)), (1, vR (some a12)), (2, vI i2), (3, vR (some a21)), (4, vI (i4 + 1)), (5, vI (i5 + 0)), (6, vI (i6 + 1))] [] w101))) (fun E60 w60 => False)))))) : wp (KX0_merges) rc rs QR QX 9 [(0, vR (some h0)), (1, vR r1), (2, vI i2), (3, vR r3), (4, vI i4), (5, vI i5), (6, vI i6)] [] w := by
  refine wp_iload (n := 11) (i := 4) (q := 4) dX0_merges_9 rfl rfl ?_
  refine wp_aload_n (n := 12) (i := 1) (q := 1) dX0_merges_11 rfl rfl rfl ?_
  obtain ⟨a12, ea12, h⟩ := h
  rw [ea12]
  obtain ⟨x12, g12, h⟩ := h
  refine wp_gf (n := 15) dX0_merges_12 rfl fl_X0_122 g12 ?_
  refine wp_icmp_lt (n := 18) (t := 27) dX0_merges_15 rfl (by decide) (fun c15 => ?_) (fun c15 => ?_)
  · replace h := h.1 c15
    refine wp_iload (n := 29) (i := 5) (q := 5) dX0_merges_27 rfl rfl ?_
    refine wp_aload_n (n := 30) (i := 3) (q := 3) dX0_merges_29 rfl rfl rfl ?_
    obtain ⟨a30, ea30, h⟩ := h
    rw [ea30]
    obtain ⟨x30, g30, h⟩ := h
    refine wp_gf (n := 33) dX0_merges_30 rfl fl_X0_209 g30 ?_
    refine wp_icmp_eq (n := 36) (t := 66) dX0_merges_33 rfl (by decide) (fun c33 => ?_) (fun c33 => ?_)
    · replace h := h.1 c33
      refine wp_iconst (n := 67) (v := 1) dX0_merges_66 rfl (by decide) ?_
      refine wp_goto (t := 71) dX0_merges_67 (by decide) ?_
      refine wp_istore (n := 73) (i := 7) (ls' := [(7, vI 1), (0, vR (some h0)), (1, vR (some a12)), (2, vI i2), (3, vR (some a30)), (4, vI i4), (5, vI i5), (6, vI i6)]) dX0_merges_71 rfl (Nat.le_of_ble_eq_true rfl) rfl ?_
      refine wp_aload_n (n := 74) (i := 0) (q := 1) dX0_merges_73 rfl rfl rfl ?_
      obtain ⟨x74, g74, h⟩ := h
      refine wp_gf (n := 77) dX0_merges_74 rfl fl_X0_24 g74 ?_
      refine wp_iload (n := 79) (i := 6) (q := 7) dX0_merges_77 rfl rfl ?_
      refine wp_iload (n := 81) (i := 7) (q := 0) dX0_merges_79 rfl rfl ?_
      refine wp_if_eq (n := 84) (t := 94) dX0_merges_81 rfl (by decide) (fun z => absurd z (by decide)) (fun _ => ?_)
      refine wp_aload_n (n := 85) (i := 1) (q := 2) dX0_merges_84 rfl rfl rfl ?_
      obtain ⟨x85, g85, h⟩ := h
      refine wp_gf (n := 88) dX0_merges_85 rfl fl_X0_125 g85 ?_
      refine wp_iload (n := 90) (i := 4) (q := 5) dX0_merges_88 rfl rfl ?_
      obtain ⟨x90, g90, h⟩ := h
      refine wp_gI (n := 91) dX0_merges_90 rfl g90 ?_
      refine wp_goto (t := 101) dX0_merges_91 (by decide) ?_
      refine wp_pI (n := 102) dX0_merges_101 rfl (pI_mono h (fun w101 h => ?_))
      refine wp_iload (n := 104) (i := 4) (q := 5) dX0_merges_102 rfl rfl ?_
      refine wp_iload (n := 106) (i := 7) (q := 0) dX0_merges_104 rfl rfl ?_
      refine wp_if_eq (n := 109) (t := 113) dX0_merges_106 rfl (by decide) (fun z => absurd z (by decide)) (fun _ => ?_)
      refine wp_iconst (n := 110) (v := 1) dX0_merges_109 rfl (by decide) ?_
      refine wp_goto (t := 114) dX0_merges_110 (by decide) ?_
      refine wp_iadd (n := 115) dX0_merges_114 rfl ?_
      refine wp_istore (n := 117) (i := 4) (ls' := [(4, vI (i4 + 1)), (7, vI 1), (0, vR (some h0)), (1, vR (some a12)), (2, vI i2), (3, vR (some a30)), (5, vI i5), (6, vI i6)]) dX0_merges_115 rfl (Nat.le_of_ble_eq_true rfl) rfl ?_
      refine wp_iload (n := 119) (i := 5) (q := 6) dX0_merges_117 rfl rfl ?_
      refine wp_iload (n := 121) (i := 7) (q := 1) dX0_merges_119 rfl rfl ?_
      refine wp_if_eq (n := 124) (t := 128) dX0_merges_121 rfl (by decide) (fun z => absurd z (by decide)) (fun _ => ?_)
      refine wp_iconst (n := 125) (v := 0) dX0_merges_124 rfl (by decide) ?_
      refine wp_goto (t := 129) dX0_merges_125 (by decide) ?_
      refine wp_iadd (n := 130) dX0_merges_129 rfl ?_
      refine wp_istore (n := 132) (i := 5) (ls' := [(5, vI (i5 + 0)), (4, vI (i4 + 1)), (7, vI 1), (0, vR (some h0)), (1, vR (some a12)), (2, vI i2), (3, vR (some a30)), (6, vI i6)]) dX0_merges_130 rfl (Nat.le_of_ble_eq_true rfl) rfl ?_
      refine wp_iinc (n := 135) (i := 6) (q := 7) (v := i6 + 1) (ls' := [(6, vI (i6 + 1)), (5, vI (i5 + 0)), (4, vI (i4 + 1)), (7, vI 1), (0, vR (some h0)), (1, vR (some a12)), (2, vI i2), (3, vR (some a30))]) dX0_merges_132 rfl rfl rfl (Nat.le_of_ble_eq_true rfl) rfl ?_
      refine wp_goto (t := 9) dX0_merges_135 (by decide) ?_
      exact wp_sub [4, 5, 6, 7, 2, 1, 0] rfl h
    · replace h := h.2 c33
      refine wp_iload (n := 38) (i := 4) (q := 4) dX0_merges_36 rfl rfl ?_
      refine wp_aload_n (n := 39) (i := 1) (q := 1) dX0_merges_38 rfl rfl rfl ?_
      obtain ⟨x39, g39, h⟩ := h
      refine wp_gf (n := 42) dX0_merges_39 rfl fl_X0_122 g39 ?_
      refine wp_icmp_ge (n := 45) (t := 70) dX0_merges_42 rfl (by decide) (fun c42 => ?_) (fun c42 => ?_)
      · replace h := h.1 c42
        refine wp_iconst (n := 71) (v := 0) dX0_merges_70 rfl (by decide) ?_
        refine wp_istore (n := 73) (i := 7) (ls' := [(7, vI 0), (0, vR (some h0)), (1, vR (some a12)), (2, vI i2), (3, vR (some a30)), (4, vI i4), (5, vI i5), (6, vI i6)]) dX0_merges_71 rfl (Nat.le_of_ble_eq_true rfl) rfl ?_
        refine wp_aload_n (n := 74) (i := 0) (q := 1) dX0_merges_73 rfl rfl rfl ?_
        obtain ⟨x74, g74, h⟩ := h
        refine wp_gf (n := 77) dX0_merges_74 rfl fl_X0_24 g74 ?_
        refine wp_iload (n := 79) (i := 6) (q := 7) dX0_merges_77 rfl rfl ?_
        refine wp_iload (n := 81) (i := 7) (q := 0) dX0_merges_79 rfl rfl ?_
        refine wp_if_eq (n := 84) (t := 94) dX0_merges_81 rfl (by decide) (fun _ => ?_) (fun z => absurd z (by decide))
        refine wp_aload_n (n := 95) (i := 3) (q := 4) dX0_merges_94 rfl rfl rfl ?_
        obtain ⟨x95, g95, h⟩ := h
        refine wp_gf (n := 98) dX0_merges_95 rfl fl_X0_210 g95 ?_
        refine wp_iload (n := 100) (i := 5) (q := 6) dX0_merges_98 rfl rfl ?_
        obtain ⟨x100, g100, h⟩ := h
        refine wp_gI (n := 101) dX0_merges_100 rfl g100 ?_
        refine wp_pI (n := 102) dX0_merges_101 rfl (pI_mono h (fun w101 h => ?_))
        refine wp_iload (n := 104) (i := 4) (q := 5) dX0_merges_102 rfl rfl ?_
        refine wp_iload (n := 106) (i := 7) (q := 0) dX0_merges_104 rfl rfl ?_
        refine wp_if_eq (n := 109) (t := 113) dX0_merges_106 rfl (by decide) (fun _ => ?_) (fun z => absurd z (by decide))
        refine wp_iconst (n := 114) (v := 0) dX0_merges_113 rfl (by decide) ?_
        refine wp_iadd (n := 115) dX0_merges_114 rfl ?_
        refine wp_istore (n := 117) (i := 4) (ls' := [(4, vI (i4 + 0)), (7, vI 0), (0, vR (some h0)), (1, vR (some a12)), (2, vI i2), (3, vR (some a30)), (5, vI i5), (6, vI i6)]) dX0_merges_115 rfl (Nat.le_of_ble_eq_true rfl) rfl ?_
        refine wp_iload (n := 119) (i := 5) (q := 6) dX0_merges_117 rfl rfl ?_
        refine wp_iload (n := 121) (i := 7) (q := 1) dX0_merges_119 rfl rfl ?_
        refine wp_if_eq (n := 124) (t := 128) dX0_merges_121 rfl (by decide) (fun _ => ?_) (fun z => absurd z (by decide))
        refine wp_iconst (n := 129) (v := 1) dX0_merges_128 rfl (by decide) ?_
        refine wp_iadd (n := 130) dX0_merges_129 rfl ?_
        refine wp_istore (n := 132) (i := 5) (ls' := [(5, vI (i5 + 1)), (4, vI (i4 + 0)), (7, vI 0), (0, vR (some h0)), (1, vR (some a12)), (2, vI i2), (3, vR (some a30)), (6, vI i6)]) dX0_merges_130 rfl (Nat.le_of_ble_eq_true rfl) rfl ?_
        refine wp_iinc (n := 135) (i := 6) (q := 7) (v := i6 + 1) (ls' := [(6, vI (i6 + 1)), (5, vI (i5 + 1)), (4, vI (i4 + 0)), (7, vI 0), (0, vR (some h0)), (1, vR (some a12)), (2, vI i2), (3, vR (some a30))]) dX0_merges_132 rfl rfl rfl (Nat.le_of_ble_eq_true rfl) rfl ?_
        refine wp_goto (t := 9) dX0_merges_135 (by decide) ?_
        exact wp_sub [4, 5, 6, 7, 2, 1, 0] rfl h
      · replace h := h.2 c42
        refine wp_aload_n (n := 46) (i := 0) (q := 0) dX0_merges_45 rfl rfl rfl ?_
        refine wp_aload_n (n := 47) (i := 1) (q := 1) dX0_merges_46 rfl rfl rfl ?_
        obtain ⟨x47, g47, h⟩ := h
        refine wp_gf (n := 50) dX0_merges_47 rfl fl_X0_125 g47 ?_
        refine wp_iload (n := 52) (i := 4) (q := 4) dX0_merges_50 rfl rfl ?_
        obtain ⟨x52, g52, h⟩ := h
        refine wp_gI (n := 53) dX0_merges_52 rfl g52 ?_
        refine wp_aload_n (n := 54) (i := 3) (q := 3) dX0_merges_53 rfl rfl rfl ?_
        obtain ⟨x54, g54, h⟩ := h
        refine wp_gf (n := 57) dX0_merges_54 rfl fl_X0_210 g54 ?_
        refine wp_iload (n := 59) (i := 5) (q := 5) dX0_merges_57 rfl rfl ?_
        obtain ⟨x59, g59, h⟩ := h
        refine wp_gI (n := 60) dX0_merges_59 rfl g59 ?_
        obtain ⟨⟨fs60, o60⟩, h⟩ := h
        refine wp_call (n := 63) (K' := KX0_isLater) (rc' := rc) (rs' := rs) (aRun_V (K' := KX0_isLater) (As := [vI x52, vI x59]) (rest := []) (b := h0) (c0 := .inr (0, fs60)) dX0_merges_60 (aCal_of kf_X0_isLater (Nat.le_of_ble_eq_true rfl)) q512 q514 qs11 ar_X0_isLater o60 (by decide : 0 < 9) rfl (Nat.le_of_ble_eq_true rfl)) rfl (Nat.le_of_eq (Nat.zero_add _)) (Nat.le_of_eq (Nat.zero_add _)) (fun v60 w60 h => ?_) (fun E60 w60 h => ?_) h
        · obtain ⟨x60, rfl, h⟩ := h
          refine wp_if_eq (n := 66) (t := 70) dX0_merges_63 rfl (by decide) (fun c63 => ?_) (fun c63 => ?_)
          · replace h := h.1 c63
            refine wp_iconst (n := 71) (v := 0) dX0_merges_70 rfl (by decide) ?_
            refine wp_istore (n := 73) (i := 7) (ls' := [(7, vI 0), (0, vR (some h0)), (1, vR (some a12)), (2, vI i2), (3, vR (some a30)), (4, vI i4), (5, vI i5), (6, vI i6)]) dX0_merges_71 rfl (Nat.le_of_ble_eq_true rfl) rfl ?_
            refine wp_aload_n (n := 74) (i := 0) (q := 1) dX0_merges_73 rfl rfl rfl ?_
            obtain ⟨x74, g74, h⟩ := h
            refine wp_gf (n := 77) dX0_merges_74 rfl fl_X0_24 g74 ?_
            refine wp_iload (n := 79) (i := 6) (q := 7) dX0_merges_77 rfl rfl ?_
            refine wp_iload (n := 81) (i := 7) (q := 0) dX0_merges_79 rfl rfl ?_
            refine wp_if_eq (n := 84) (t := 94) dX0_merges_81 rfl (by decide) (fun _ => ?_) (fun z => absurd z (by decide))
            refine wp_aload_n (n := 95) (i := 3) (q := 4) dX0_merges_94 rfl rfl rfl ?_
            obtain ⟨x95, g95, h⟩ := h
            refine wp_gf (n := 98) dX0_merges_95 rfl fl_X0_210 g95 ?_
            refine wp_iload (n := 100) (i := 5) (q := 6) dX0_merges_98 rfl rfl ?_
            obtain ⟨x100, g100, h⟩ := h
            refine wp_gI (n := 101) dX0_merges_100 rfl g100 ?_
            refine wp_pI (n := 102) dX0_merges_101 rfl (pI_mono h (fun w101 h => ?_))
            refine wp_iload (n := 104) (i := 4) (q := 5) dX0_merges_102 rfl rfl ?_
            refine wp_iload (n := 106) (i := 7) (q := 0) dX0_merges_104 rfl rfl ?_
            refine wp_if_eq (n := 109) (t := 113) dX0_merges_106 rfl (by decide) (fun _ => ?_) (fun z => absurd z (by decide))
            refine wp_iconst (n := 114) (v := 0) dX0_merges_113 rfl (by decide) ?_
            refine wp_iadd (n := 115) dX0_merges_114 rfl ?_
            refine wp_istore (n := 117) (i := 4) (ls' := [(4, vI (i4 + 0)), (7, vI 0), (0, vR (some h0)), (1, vR (some a12)), (2, vI i2), (3, vR (some a30)), (5, vI i5), (6, vI i6)]) dX0_merges_115 rfl (Nat.le_of_ble_eq_true rfl) rfl ?_
            refine wp_iload (n := 119) (i := 5) (q := 6) dX0_merges_117 rfl rfl ?_
            refine wp_iload (n := 121) (i := 7) (q := 1) dX0_merges_119 rfl rfl ?_
            refine wp_if_eq (n := 124) (t := 128) dX0_merges_121 rfl (by decide) (fun _ => ?_) (fun z => absurd z (by decide))
            refine wp_iconst (n := 129) (v := 1) dX0_merges_128 rfl (by decide) ?_
            refine wp_iadd (n := 130) dX0_merges_129 rfl ?_
            refine wp_istore (n := 132) (i := 5) (ls' := [(5, vI (i5 + 1)), (4, vI (i4 + 0)), (7, vI 0), (0, vR (some h0)), (1, vR (some a12)), (2, vI i2), (3, vR (some a30)), (6, vI i6)]) dX0_merges_130 rfl (Nat.le_of_ble_eq_true rfl) rfl ?_
            refine wp_iinc (n := 135) (i := 6) (q := 7) (v := i6 + 1) (ls' := [(6, vI (i6 + 1)), (5, vI (i5 + 1)), (4, vI (i4 + 0)), (7, vI 0), (0, vR (some h0)), (1, vR (some a12)), (2, vI i2), (3, vR (some a30))]) dX0_merges_132 rfl rfl rfl (Nat.le_of_ble_eq_true rfl) rfl ?_
            refine wp_goto (t := 9) dX0_merges_135 (by decide) ?_
            exact wp_sub [4, 5, 6, 7, 2, 1, 0] rfl h
          · replace h := h.2 c63
            refine wp_iconst (n := 67) (v := 1) dX0_merges_66 rfl (by decide) ?_
            refine wp_goto (t := 71) dX0_merges_67 (by decide) ?_
            refine wp_istore (n := 73) (i := 7) (ls' := [(7, vI 1), (0, vR (some h0)), (1, vR (some a12)), (2, vI i2), (3, vR (some a30)), (4, vI i4), (5, vI i5), (6, vI i6)]) dX0_merges_71 rfl (Nat.le_of_ble_eq_true rfl) rfl ?_
            refine wp_aload_n (n := 74) (i := 0) (q := 1) dX0_merges_73 rfl rfl rfl ?_
            obtain ⟨x74, g74, h⟩ := h
            refine wp_gf (n := 77) dX0_merges_74 rfl fl_X0_24 g74 ?_
            refine wp_iload (n := 79) (i := 6) (q := 7) dX0_merges_77 rfl rfl ?_
            refine wp_iload (n := 81) (i := 7) (q := 0) dX0_merges_79 rfl rfl ?_
            refine wp_if_eq (n := 84) (t := 94) dX0_merges_81 rfl (by decide) (fun z => absurd z (by decide)) (fun _ => ?_)
            refine wp_aload_n (n := 85) (i := 1) (q := 2) dX0_merges_84 rfl rfl rfl ?_
            obtain ⟨x85, g85, h⟩ := h
            refine wp_gf (n := 88) dX0_merges_85 rfl fl_X0_125 g85 ?_
            refine wp_iload (n := 90) (i := 4) (q := 5) dX0_merges_88 rfl rfl ?_
            obtain ⟨x90, g90, h⟩ := h
            refine wp_gI (n := 91) dX0_merges_90 rfl g90 ?_
            refine wp_goto (t := 101) dX0_merges_91 (by decide) ?_
            refine wp_pI (n := 102) dX0_merges_101 rfl (pI_mono h (fun w101 h => ?_))
            refine wp_iload (n := 104) (i := 4) (q := 5) dX0_merges_102 rfl rfl ?_
            refine wp_iload (n := 106) (i := 7) (q := 0) dX0_merges_104 rfl rfl ?_
            refine wp_if_eq (n := 109) (t := 113) dX0_merges_106 rfl (by decide) (fun z => absurd z (by decide)) (fun _ => ?_)
            refine wp_iconst (n := 110) (v := 1) dX0_merges_109 rfl (by decide) ?_
            refine wp_goto (t := 114) dX0_merges_110 (by decide) ?_
            refine wp_iadd (n := 115) dX0_merges_114 rfl ?_
            refine wp_istore (n := 117) (i := 4) (ls' := [(4, vI (i4 + 1)), (7, vI 1), (0, vR (some h0)), (1, vR (some a12)), (2, vI i2), (3, vR (some a30)), (5, vI i5), (6, vI i6)]) dX0_merges_115 rfl (Nat.le_of_ble_eq_true rfl) rfl ?_
            refine wp_iload (n := 119) (i := 5) (q := 6) dX0_merges_117 rfl rfl ?_
            refine wp_iload (n := 121) (i := 7) (q := 1) dX0_merges_119 rfl rfl ?_
            refine wp_if_eq (n := 124) (t := 128) dX0_merges_121 rfl (by decide) (fun z => absurd z (by decide)) (fun _ => ?_)
            refine wp_iconst (n := 125) (v := 0) dX0_merges_124 rfl (by decide) ?_
            refine wp_goto (t := 129) dX0_merges_125 (by decide) ?_
            refine wp_iadd (n := 130) dX0_merges_129 rfl ?_
            refine wp_istore (n := 132) (i := 5) (ls' := [(5, vI (i5 + 0)), (4, vI (i4 + 1)), (7, vI 1), (0, vR (some h0)), (1, vR (some a12)), (2, vI i2), (3, vR (some a30)), (6, vI i6)]) dX0_merges_130 rfl (Nat.le_of_ble_eq_true rfl) rfl ?_
            refine wp_iinc (n := 135) (i := 6) (q := 7) (v := i6 + 1) (ls' := [(6, vI (i6 + 1)), (5, vI (i5 + 0)), (4, vI (i4 + 1)), (7, vI 1), (0, vR (some h0)), (1, vR (some a12)), (2, vI i2), (3, vR (some a30))]) dX0_merges_132 rfl rfl rfl (Nat.le_of_ble_eq_true rfl) rfl ?_
            refine wp_goto (t := 9) dX0_merges_135 (by decide) ?_
            exact wp_sub [4, 5, 6, 7, 2, 1, 0] rfl h
        · exact h.elim
  · replace h := h.2 c15
    refine wp_iload (n := 20) (i := 5) (q := 5) dX0_merges_18 rfl rfl ?_
    refine wp_aload_n (n := 21) (i := 3) (q := 3) dX0_merges_20 rfl rfl rfl ?_
    obtain ⟨a21, ea21, h⟩ := h
    rw [ea21]
    obtain ⟨x21, g21, h⟩ := h
    refine wp_gf (n := 24) dX0_merges_21 rfl fl_X0_209 g21 ?_
    refine wp_icmp_ge (n := 27) (t := 138) dX0_merges_24 rfl (by decide) (fun c24 => ?_) (fun c24 => ?_)
    · replace h := h.1 c24
      refine wp_iconst (n := 139) (v := 0) dX0_merges_138 rfl (by decide) ?_
      refine wp_istore (n := 141) (i := 7) (ls' := [(7, vI 0), (0, vR (some h0)), (1, vR (some a12)), (2, vI i2), (3, vR (some a21)), (4, vI i4), (5, vI i5), (6, vI i6)]) dX0_merges_139 rfl (Nat.le_of_ble_eq_true rfl) rfl ?_
      exact wp_sub [1, 2, 3, 4, 5, 6, 7, 0] rfl h
    · replace h := h.2 c24
      refine wp_iload (n := 29) (i := 5) (q := 5) dX0_merges_27 rfl rfl ?_
      refine wp_aload_n (n := 30) (i := 3) (q := 3) dX0_merges_29 rfl rfl rfl ?_
      obtain ⟨x30, g30, h⟩ := h
      refine wp_gf (n := 33) dX0_merges_30 rfl fl_X0_209 g30 ?_
      refine wp_icmp_eq (n := 36) (t := 66) dX0_merges_33 rfl (by decide) (fun c33 => ?_) (fun c33 => ?_)
      · replace h := h.1 c33
        refine wp_iconst (n := 67) (v := 1) dX0_merges_66 rfl (by decide) ?_
        refine wp_goto (t := 71) dX0_merges_67 (by decide) ?_
        refine wp_istore (n := 73) (i := 7) (ls' := [(7, vI 1), (0, vR (some h0)), (1, vR (some a12)), (2, vI i2), (3, vR (some a21)), (4, vI i4), (5, vI i5), (6, vI i6)]) dX0_merges_71 rfl (Nat.le_of_ble_eq_true rfl) rfl ?_
        refine wp_aload_n (n := 74) (i := 0) (q := 1) dX0_merges_73 rfl rfl rfl ?_
        obtain ⟨x74, g74, h⟩ := h
        refine wp_gf (n := 77) dX0_merges_74 rfl fl_X0_24 g74 ?_
        refine wp_iload (n := 79) (i := 6) (q := 7) dX0_merges_77 rfl rfl ?_
        refine wp_iload (n := 81) (i := 7) (q := 0) dX0_merges_79 rfl rfl ?_
        refine wp_if_eq (n := 84) (t := 94) dX0_merges_81 rfl (by decide) (fun z => absurd z (by decide)) (fun _ => ?_)
        refine wp_aload_n (n := 85) (i := 1) (q := 2) dX0_merges_84 rfl rfl rfl ?_
        obtain ⟨x85, g85, h⟩ := h
        refine wp_gf (n := 88) dX0_merges_85 rfl fl_X0_125 g85 ?_
        refine wp_iload (n := 90) (i := 4) (q := 5) dX0_merges_88 rfl rfl ?_
        obtain ⟨x90, g90, h⟩ := h
        refine wp_gI (n := 91) dX0_merges_90 rfl g90 ?_
        refine wp_goto (t := 101) dX0_merges_91 (by decide) ?_
        refine wp_pI (n := 102) dX0_merges_101 rfl (pI_mono h (fun w101 h => ?_))
        refine wp_iload (n := 104) (i := 4) (q := 5) dX0_merges_102 rfl rfl ?_
        refine wp_iload (n := 106) (i := 7) (q := 0) dX0_merges_104 rfl rfl ?_
        refine wp_if_eq (n := 109) (t := 113) dX0_merges_106 rfl (by decide) (fun z => absurd z (by decide)) (fun _ => ?_)
        refine wp_iconst (n := 110) (v := 1) dX0_merges_109 rfl (by decide) ?_
        refine wp_goto (t := 114) dX0_merges_110 (by decide) ?_
        refine wp_iadd (n := 115) dX0_merges_114 rfl ?_
        refine wp_istore (n := 117) (i := 4) (ls' := [(4, vI (i4 + 1)), (7, vI 1), (0, vR (some h0)), (1, vR (some a12)), (2, vI i2), (3, vR (some a21)), (5, vI i5), (6, vI i6)]) dX0_merges_115 rfl (Nat.le_of_ble_eq_true rfl) rfl ?_
        refine wp_iload (n := 119) (i := 5) (q := 6) dX0_merges_117 rfl rfl ?_
        refine wp_iload (n := 121) (i := 7) (q := 1) dX0_merges_119 rfl rfl ?_
        refine wp_if_eq (n := 124) (t := 128) dX0_merges_121 rfl (by decide) (fun z => absurd z (by decide)) (fun _ => ?_)
        refine wp_iconst (n := 125) (v := 0) dX0_merges_124 rfl (by decide) ?_
        refine wp_goto (t := 129) dX0_merges_125 (by decide) ?_
        refine wp_iadd (n := 130) dX0_merges_129 rfl ?_
        refine wp_istore (n := 132) (i := 5) (ls' := [(5, vI (i5 + 0)), (4, vI (i4 + 1)), (7, vI 1), (0, vR (some h0)), (1, vR (some a12)), (2, vI i2), (3, vR (some a21)), (6, vI i6)]) dX0_merges_130 rfl (Nat.le_of_ble_eq_true rfl) rfl ?_
        refine wp_iinc (n := 135) (i := 6) (q := 7) (v := i6 + 1) (ls' := [(6, vI (i6 + 1)), (5, vI (i5 + 0)), (4, vI (i4 + 1)), (7, vI 1), (0, vR (some h0)), (1, vR (some a12)), (2, vI i2), (3, vR (some a21))]) dX0_merges_132 rfl rfl rfl (Nat.le_of_ble_eq_true rfl) rfl ?_
        refine wp_goto (t := 9) dX0_merges_135 (by decide) ?_
        exact wp_sub [4, 5, 6, 7, 2, 1, 0] rfl h
      · replace h := h.2 c33
        refine wp_iload (n := 38) (i := 4) (q := 4) dX0_merges_36 rfl rfl ?_
        refine wp_aload_n (n := 39) (i := 1) (q := 1) dX0_merges_38 rfl rfl rfl ?_
        obtain ⟨x39, g39, h⟩ := h
        refine wp_gf (n := 42) dX0_merges_39 rfl fl_X0_122 g39 ?_
        refine wp_icmp_ge (n := 45) (t := 70) dX0_merges_42 rfl (by decide) (fun c42 => ?_) (fun c42 => ?_)
        · replace h := h.1 c42
          refine wp_iconst (n := 71) (v := 0) dX0_merges_70 rfl (by decide) ?_
          refine wp_istore (n := 73) (i := 7) (ls' := [(7, vI 0), (0, vR (some h0)), (1, vR (some a12)), (2, vI i2), (3, vR (some a21)), (4, vI i4), (5, vI i5), (6, vI i6)]) dX0_merges_71 rfl (Nat.le_of_ble_eq_true rfl) rfl ?_
          refine wp_aload_n (n := 74) (i := 0) (q := 1) dX0_merges_73 rfl rfl rfl ?_
          obtain ⟨x74, g74, h⟩ := h
          refine wp_gf (n := 77) dX0_merges_74 rfl fl_X0_24 g74 ?_
          refine wp_iload (n := 79) (i := 6) (q := 7) dX0_merges_77 rfl rfl ?_
          refine wp_iload (n := 81) (i := 7) (q := 0) dX0_merges_79 rfl rfl ?_
          refine wp_if_eq (n := 84) (t := 94) dX0_merges_81 rfl (by decide) (fun _ => ?_) (fun z => absurd z (by decide))
          refine wp_aload_n (n := 95) (i := 3) (q := 4) dX0_merges_94 rfl rfl rfl ?_
          obtain ⟨x95, g95, h⟩ := h
          refine wp_gf (n := 98) dX0_merges_95 rfl fl_X0_210 g95 ?_
          refine wp_iload (n := 100) (i := 5) (q := 6) dX0_merges_98 rfl rfl ?_
          obtain ⟨x100, g100, h⟩ := h
          refine wp_gI (n := 101) dX0_merges_100 rfl g100 ?_
          refine wp_pI (n := 102) dX0_merges_101 rfl (pI_mono h (fun w101 h => ?_))
          refine wp_iload (n := 104) (i := 4) (q := 5) dX0_merges_102 rfl rfl ?_
          refine wp_iload (n := 106) (i := 7) (q := 0) dX0_merges_104 rfl rfl ?_
          refine wp_if_eq (n := 109) (t := 113) dX0_merges_106 rfl (by decide) (fun _ => ?_) (fun z => absurd z (by decide))
          refine wp_iconst (n := 114) (v := 0) dX0_merges_113 rfl (by decide) ?_
          refine wp_iadd (n := 115) dX0_merges_114 rfl ?_
          refine wp_istore (n := 117) (i := 4) (ls' := [(4, vI (i4 + 0)), (7, vI 0), (0, vR (some h0)), (1, vR (some a12)), (2, vI i2), (3, vR (some a21)), (5, vI i5), (6, vI i6)]) dX0_merges_115 rfl (Nat.le_of_ble_eq_true rfl) rfl ?_
          refine wp_iload (n := 119) (i := 5) (q := 6) dX0_merges_117 rfl rfl ?_
          refine wp_iload (n := 121) (i := 7) (q := 1) dX0_merges_119 rfl rfl ?_
          refine wp_if_eq (n := 124) (t := 128) dX0_merges_121 rfl (by decide) (fun _ => ?_) (fun z => absurd z (by decide))
          refine wp_iconst (n := 129) (v := 1) dX0_merges_128 rfl (by decide) ?_
          refine wp_iadd (n := 130) dX0_merges_129 rfl ?_
          refine wp_istore (n := 132) (i := 5) (ls' := [(5, vI (i5 + 1)), (4, vI (i4 + 0)), (7, vI 0), (0, vR (some h0)), (1, vR (some a12)), (2, vI i2), (3, vR (some a21)), (6, vI i6)]) dX0_merges_130 rfl (Nat.le_of_ble_eq_true rfl) rfl ?_
          refine wp_iinc (n := 135) (i := 6) (q := 7) (v := i6 + 1) (ls' := [(6, vI (i6 + 1)), (5, vI (i5 + 1)), (4, vI (i4 + 0)), (7, vI 0), (0, vR (some h0)), (1, vR (some a12)), (2, vI i2), (3, vR (some a21))]) dX0_merges_132 rfl rfl rfl (Nat.le_of_ble_eq_true rfl) rfl ?_
          refine wp_goto (t := 9) dX0_merges_135 (by decide) ?_
          exact wp_sub [4, 5, 6, 7, 2, 1, 0] rfl h
        · replace h := h.2 c42
          refine wp_aload_n (n := 46) (i := 0) (q := 0) dX0_merges_45 rfl rfl rfl ?_
          refine wp_aload_n (n := 47) (i := 1) (q := 1) dX0_merges_46 rfl rfl rfl ?_
          obtain ⟨x47, g47, h⟩ := h
          refine wp_gf (n := 50) dX0_merges_47 rfl fl_X0_125 g47 ?_
          refine wp_iload (n := 52) (i := 4) (q := 4) dX0_merges_50 rfl rfl ?_
          obtain ⟨x52, g52, h⟩ := h
          refine wp_gI (n := 53) dX0_merges_52 rfl g52 ?_
          refine wp_aload_n (n := 54) (i := 3) (q := 3) dX0_merges_53 rfl rfl rfl ?_
          obtain ⟨x54, g54, h⟩ := h
          refine wp_gf (n := 57) dX0_merges_54 rfl fl_X0_210 g54 ?_
          refine wp_iload (n := 59) (i := 5) (q := 5) dX0_merges_57 rfl rfl ?_
          obtain ⟨x59, g59, h⟩ := h
          refine wp_gI (n := 60) dX0_merges_59 rfl g59 ?_
          obtain ⟨⟨fs60, o60⟩, h⟩ := h
          refine wp_call (n := 63) (K' := KX0_isLater) (rc' := rc) (rs' := rs) (aRun_V (K' := KX0_isLater) (As := [vI x52, vI x59]) (rest := []) (b := h0) (c0 := .inr (0, fs60)) dX0_merges_60 (aCal_of kf_X0_isLater (Nat.le_of_ble_eq_true rfl)) q512 q514 qs11 ar_X0_isLater o60 (by decide : 0 < 9) rfl (Nat.le_of_ble_eq_true rfl)) rfl (Nat.le_of_eq (Nat.zero_add _)) (Nat.le_of_eq (Nat.zero_add _)) (fun v60 w60 h => ?_) (fun E60 w60 h => ?_) h
          · obtain ⟨x60, rfl, h⟩ := h
            refine wp_if_eq (n := 66) (t := 70) dX0_merges_63 rfl (by decide) (fun c63 => ?_) (fun c63 => ?_)
            · replace h := h.1 c63
              refine wp_iconst (n := 71) (v := 0) dX0_merges_70 rfl (by decide) ?_
              refine wp_istore (n := 73) (i := 7) (ls' := [(7, vI 0), (0, vR (some h0)), (1, vR (some a12)), (2, vI i2), (3, vR (some a21)), (4, vI i4), (5, vI i5), (6, vI i6)]) dX0_merges_71 rfl (Nat.le_of_ble_eq_true rfl) rfl ?_
              refine wp_aload_n (n := 74) (i := 0) (q := 1) dX0_merges_73 rfl rfl rfl ?_
              obtain ⟨x74, g74, h⟩ := h
              refine wp_gf (n := 77) dX0_merges_74 rfl fl_X0_24 g74 ?_
              refine wp_iload (n := 79) (i := 6) (q := 7) dX0_merges_77 rfl rfl ?_
              refine wp_iload (n := 81) (i := 7) (q := 0) dX0_merges_79 rfl rfl ?_
              refine wp_if_eq (n := 84) (t := 94) dX0_merges_81 rfl (by decide) (fun _ => ?_) (fun z => absurd z (by decide))
              refine wp_aload_n (n := 95) (i := 3) (q := 4) dX0_merges_94 rfl rfl rfl ?_
              obtain ⟨x95, g95, h⟩ := h
              refine wp_gf (n := 98) dX0_merges_95 rfl fl_X0_210 g95 ?_
              refine wp_iload (n := 100) (i := 5) (q := 6) dX0_merges_98 rfl rfl ?_
              obtain ⟨x100, g100, h⟩ := h
              refine wp_gI (n := 101) dX0_merges_100 rfl g100 ?_
              refine wp_pI (n := 102) dX0_merges_101 rfl (pI_mono h (fun w101 h => ?_))
              refine wp_iload (n := 104) (i := 4) (q := 5) dX0_merges_102 rfl rfl ?_
              refine wp_iload (n := 106) (i := 7) (q := 0) dX0_merges_104 rfl rfl ?_
              refine wp_if_eq (n := 109) (t := 113) dX0_merges_106 rfl (by decide) (fun _ => ?_) (fun z => absurd z (by decide))
              refine wp_iconst (n := 114) (v := 0) dX0_merges_113 rfl (by decide) ?_
              refine wp_iadd (n := 115) dX0_merges_114 rfl ?_
              refine wp_istore (n := 117) (i := 4) (ls' := [(4, vI (i4 + 0)), (7, vI 0), (0, vR (some h0)), (1, vR (some a12)), (2, vI i2), (3, vR (some a21)), (5, vI i5), (6, vI i6)]) dX0_merges_115 rfl (Nat.le_of_ble_eq_true rfl) rfl ?_
              refine wp_iload (n := 119) (i := 5) (q := 6) dX0_merges_117 rfl rfl ?_
              refine wp_iload (n := 121) (i := 7) (q := 1) dX0_merges_119 rfl rfl ?_
              refine wp_if_eq (n := 124) (t := 128) dX0_merges_121 rfl (by decide) (fun _ => ?_) (fun z => absurd z (by decide))
              refine wp_iconst (n := 129) (v := 1) dX0_merges_128 rfl (by decide) ?_
              refine wp_iadd (n := 130) dX0_merges_129 rfl ?_
              refine wp_istore (n := 132) (i := 5) (ls' := [(5, vI (i5 + 1)), (4, vI (i4 + 0)), (7, vI 0), (0, vR (some h0)), (1, vR (some a12)), (2, vI i2), (3, vR (some a21)), (6, vI i6)]) dX0_merges_130 rfl (Nat.le_of_ble_eq_true rfl) rfl ?_
              refine wp_iinc (n := 135) (i := 6) (q := 7) (v := i6 + 1) (ls' := [(6, vI (i6 + 1)), (5, vI (i5 + 1)), (4, vI (i4 + 0)), (7, vI 0), (0, vR (some h0)), (1, vR (some a12)), (2, vI i2), (3, vR (some a21))]) dX0_merges_132 rfl rfl rfl (Nat.le_of_ble_eq_true rfl) rfl ?_
              refine wp_goto (t := 9) dX0_merges_135 (by decide) ?_
              exact wp_sub [4, 5, 6, 7, 2, 1, 0] rfl h
            · replace h := h.2 c63
              refine wp_iconst (n := 67) (v := 1) dX0_merges_66 rfl (by decide) ?_
              refine wp_goto (t := 71) dX0_merges_67 (by decide) ?_
              refine wp_istore (n := 73) (i := 7) (ls' := [(7, vI 1), (0, vR (some h0)), (1, vR (some a12)), (2, vI i2), (3, vR (some a21)), (4, vI i4), (5, vI i5), (6, vI i6)]) dX0_merges_71 rfl (Nat.le_of_ble_eq_true rfl) rfl ?_
              refine wp_aload_n (n := 74) (i := 0) (q := 1) dX0_merges_73 rfl rfl rfl ?_
              obtain ⟨x74, g74, h⟩ := h
              refine wp_gf (n := 77) dX0_merges_74 rfl fl_X0_24 g74 ?_
              refine wp_iload (n := 79) (i := 6) (q := 7) dX0_merges_77 rfl rfl ?_
              refine wp_iload (n := 81) (i := 7) (q := 0) dX0_merges_79 rfl rfl ?_
              refine wp_if_eq (n := 84) (t := 94) dX0_merges_81 rfl (by decide) (fun z => absurd z (by decide)) (fun _ => ?_)
              refine wp_aload_n (n := 85) (i := 1) (q := 2) dX0_merges_84 rfl rfl rfl ?_
              obtain ⟨x85, g85, h⟩ := h
              refine wp_gf (n := 88) dX0_merges_85 rfl fl_X0_125 g85 ?_
              refine wp_iload (n := 90) (i := 4) (q := 5) dX0_merges_88 rfl rfl ?_
              obtain ⟨x90, g90, h⟩ := h
              refine wp_gI (n := 91) dX0_merges_90 rfl g90 ?_
              refine wp_goto (t := 101) dX0_merges_91 (by decide) ?_
              refine wp_pI (n := 102) dX0_merges_101 rfl (pI_mono h (fun w101 h => ?_))
              refine wp_iload (n := 104) (i := 4) (q := 5) dX0_merges_102 rfl rfl ?_
              refine wp_iload (n := 106) (i := 7) (q := 0) dX0_merges_104 rfl rfl ?_
              refine wp_if_eq (n := 109) (t := 113) dX0_merges_106 rfl (by decide) (fun z => absurd z (by decide)) (fun _ => ?_)
              refine wp_iconst (n := 110) (v := 1) dX0_merges_109 rfl (by decide) ?_
              refine wp_goto (t := 114) dX0_merges_110 (by decide) ?_
              refine wp_iadd (n := 115) dX0_merges_114 rfl ?_
              refine wp_istore (n := 117) (i := 4) (ls' := [(4, vI (i4 + 1)), (7, vI 1), (0, vR (some h0)), (1, vR (some a12)), (2, vI i2), (3, vR (some a21)), (5, vI i5), (6, vI i6)]) dX0_merges_115 rfl (Nat.le_of_ble_eq_true rfl) rfl ?_
              refine wp_iload (n := 119) (i := 5) (q := 6) dX0_merges_117 rfl rfl ?_
              refine wp_iload (n := 121) (i := 7) (q := 1) dX0_merges_119 rfl rfl ?_
              refine wp_if_eq (n := 124) (t := 128) dX0_merges_121 rfl (by decide) (fun z => absurd z (by decide)) (fun _ => ?_)
              refine wp_iconst (n := 125) (v := 0) dX0_merges_124 rfl (by decide) ?_
              refine wp_goto (t := 129) dX0_merges_125 (by decide) ?_
              refine wp_iadd (n := 130) dX0_merges_129 rfl ?_
              refine wp_istore (n := 132) (i := 5) (ls' := [(5, vI (i5 + 0)), (4, vI (i4 + 1)), (7, vI 1), (0, vR (some h0)), (1, vR (some a12)), (2, vI i2), (3, vR (some a21)), (6, vI i6)]) dX0_merges_130 rfl (Nat.le_of_ble_eq_true rfl) rfl ?_
              refine wp_iinc (n := 135) (i := 6) (q := 7) (v := i6 + 1) (ls' := [(6, vI (i6 + 1)), (5, vI (i5 + 0)), (4, vI (i4 + 1)), (7, vI 1), (0, vR (some h0)), (1, vR (some a12)), (2, vI i2), (3, vR (some a21))]) dX0_merges_132 rfl rfl rfl (Nat.le_of_ble_eq_true rfl) rfl ?_
              refine wp_goto (t := 9) dX0_merges_135 (by decide) ?_
              exact wp_sub [4, 5, 6, 7, 2, 1, 0] rfl h
          · exact h.elim
set_option maxHeartbeats 1000000 in
theorem sg_X0_merges_141 {h0 : Nat} {r1 : Option Nat} {i2 : Int32} {r3 : Option Nat} {i4 : Int32} {i5 : Int32} {i6 : Int32} {i7 : Int32} {rc rs : Nat} {QR : Option aV → aW → Prop} {QX : String → aW → Prop} {w : aW} (h : (i6 ≤ i7 → ∃ a171 : Nat, r1 = some a171 ∧ pf w a171 [4, 5, 6, 7] 3 (vI i6) (fun w171 => QR none w171)) ∧ (¬ i6 ≤ i7 → ∃ a149 : Nat, r1 = some a149 ∧ ∃ x149 : Nat, gf w a149 [4, 5, 6, 7] 2 (vR (some x149)) ∧ ∃ x155 : Nat, gf w h0 [0] 5 (vR (some x155)) ∧ ∃ x160 : Int32, gI w x155 i7 x160 ∧ pI w x149 i7 x160 (fun w161 => wp (KX0_merges) rc rs QR QX 141 [(0, vR (some h0)), (1, vR (some a149)), (2, vI i2), (3, vR r3), (4, vI i4), (5, vI i5), (6, vI i6), (7, vI (i7 + 1))] [] w161))) : wp (KX0_merges) rc rs QR QX 141 [(0, vR (some h0)), (1, vR r1), (2, vI i2), (3, vR r3), (4, vI i4), (5, vI i5), (6, vI i6), (7, vI i7)] [] w := by
  refine wp_iload (n := 143) (i := 7) (q := 7) dX0_merges_141 rfl rfl ?_
  refine wp_iload (n := 145) (i := 6) (q := 6) dX0_merges_143 rfl rfl ?_
  refine wp_icmp_ge (n := 148) (t := 168) dX0_merges_145 rfl (by decide) (fun c145 => ?_) (fun c145 => ?_)
  · replace h := h.1 c145
    refine wp_aload_n (n := 169) (i := 1) (q := 1) dX0_merges_168 rfl rfl rfl ?_
    refine wp_iload (n := 171) (i := 6) (q := 6) dX0_merges_169 rfl rfl ?_
    obtain ⟨a171, ea171, h⟩ := h
    rw [ea171]
    refine wp_pf (n := 174) dX0_merges_171 rfl (pt_X0_122 _) rfl rfl (pf_mono h (fun w171 h => ?_))
    exact wp_return dX0_merges_174 rfl h
  · replace h := h.2 c145
    refine wp_aload_n (n := 149) (i := 1) (q := 1) dX0_merges_148 rfl rfl rfl ?_
    obtain ⟨a149, ea149, h⟩ := h
    rw [ea149]
    obtain ⟨x149, g149, h⟩ := h
    refine wp_gf (n := 152) dX0_merges_149 rfl fl_X0_125 g149 ?_
    refine wp_iload (n := 154) (i := 7) (q := 7) dX0_merges_152 rfl rfl ?_
    refine wp_aload_n (n := 155) (i := 0) (q := 0) dX0_merges_154 rfl rfl rfl ?_
    obtain ⟨x155, g155, h⟩ := h
    refine wp_gf (n := 158) dX0_merges_155 rfl fl_X0_24 g155 ?_
    refine wp_iload (n := 160) (i := 7) (q := 7) dX0_merges_158 rfl rfl ?_
    obtain ⟨x160, g160, h⟩ := h
    refine wp_gI (n := 161) dX0_merges_160 rfl g160 ?_
    refine wp_pI (n := 162) dX0_merges_161 rfl (pI_mono h (fun w161 h => ?_))
    refine wp_iinc (n := 165) (i := 7) (q := 7) (v := i7 + 1) (ls' := [(7, vI (i7 + 1)), (0, vR (some h0)), (1, vR (some a149)), (2, vI i2), (3, vR r3), (4, vI i4), (5, vI i5), (6, vI i6)]) dX0_merges_162 rfl rfl rfl (Nat.le_of_ble_eq_true rfl) rfl ?_
    refine wp_goto (t := 141) dX0_merges_165 (by decide) ?_
    exact wp_sub [1, 2, 3, 4, 5, 6, 7, 0] rfl h
set_option maxHeartbeats 1000000 in
theorem sg_X0_removes_0 {h0 : Nat} {r1 : Option Nat} {rc rs : Nat} {QR : Option aV → aW → Prop} {QX : String → aW → Prop} {w : aW} (h : isO w h0 0 ∧ ct (KX0_nextOf) 0 0 [vR (some h0), vR r1] w (fun v2 w2 => ∃ x2 : Option Nat, v2 = some (vR x2) ∧ wp (KX0_removes) rc rs QR QX 8 [(0, vR (some h0)), (1, vR r1), (2, vR x2), (3, vI 0)] [] w2) (fun E2 w2 => False)) : wp (KX0_removes) rc rs QR QX 0 [(0, vR (some h0)), (1, vR r1)] [] w := by
  refine wp_aload_n (n := 1) (i := 0) (q := 0) dX0_removes_0 rfl rfl rfl ?_
  refine wp_aload_n (n := 2) (i := 1) (q := 1) dX0_removes_1 rfl rfl rfl ?_
  obtain ⟨⟨fs2, o2⟩, h⟩ := h
  refine wp_call (n := 5) (K' := KX0_nextOf) (rc' := rc) (rs' := rs) (aRun_V (K' := KX0_nextOf) (As := [vR r1]) (rest := []) (b := h0) (c0 := .inr (0, fs2)) dX0_removes_2 (aCal_of kf_X0_nextOf (Nat.le_of_ble_eq_true rfl)) q664 q666 qs23 ar_X0_nextOf o2 (by decide : 0 < 9) rfl (Nat.le_of_ble_eq_true rfl)) rfl (Nat.le_of_eq (Nat.zero_add _)) (Nat.le_of_eq (Nat.zero_add _)) (fun v2 w2 h => ?_) (fun E2 w2 h => ?_) h
  · obtain ⟨x2, rfl, h⟩ := h
    refine wp_astore_n (n := 6) (i := 2) (ls' := [(2, vR x2), (0, vR (some h0)), (1, vR r1)]) dX0_removes_5 rfl rfl (Nat.le_of_ble_eq_true rfl) rfl ?_
    refine wp_iconst (n := 7) (v := 0) dX0_removes_6 rfl (by decide) ?_
    refine wp_istore_n (n := 8) (i := 3) (ls' := [(3, vI 0), (2, vR x2), (0, vR (some h0)), (1, vR r1)]) dX0_removes_7 rfl rfl (Nat.le_of_ble_eq_true rfl) rfl ?_
    exact wp_sub [2, 3, 1, 0] rfl h
  · exact h.elim
set_option maxHeartbeats 1000000 in
theorem sg_X0_removes_8 {h0 : Nat} {r1 : Option Nat} {r2 : Option Nat} {i3 : Int32} {rc rs : Nat} {QR : Option aV → aW → Prop} {QX : String → aW → Prop} {w : aW} (h : ∃ a10 : Nat, r2 = some a10 ∧ ∃ x10 : Int32, gf w a10 [4, 5, 6, 7] 3 (vI x10) ∧ (x10 ≤ i3 → isO w h0 0 ∧ ct (KX0_merges) 0 0 [vR (some h0), vR (some a10), vI i3, vR r1] w (fun v54 w54 => v54 = none ∧ ∃ a59 : Nat, r1 = some a59 ∧ ∃ x59 : Option Nat, gf w54 a59 [6, 7] 5 (vR x59) ∧ pf w54 a10 [4, 5, 6, 7] 5 (vR x59) (fun w62 => ∃ x66 : Nat, gf w62 h0 [0] 4 (vR (some x66)) ∧ ∃ x70 : Int32, gf w62 a59 [6, 7] 4 (vI x70) ∧ pR w62 x66 2 x70 none (fun w74 => QR (some (vI i3)) w74))) (fun E54 w54 => False)) ∧ (¬ x10 ≤ i3 → ∃ x17 : Nat, gf w h0 [0] 1 (vR (some x17)) ∧ ∃ x21 : Nat, gf w a10 [4, 5, 6, 7] 2 (vR (some x21)) ∧ ∃ x25 : Int32, gI w x21 i3 x25 ∧ ∃ x26 : Int32, gI w x17 x25 x26 ∧ ∃ a28 : Nat, r1 = some a28 ∧ ck w a28 [6, 7] ∧ ct (KX4_prevMade) 0 0 [vR (some a28)] w (fun v28 w28 => ∃ x28 : Int32, v28 = some (vI x28) ∧ (x26 ≤ x28 → isO w28 h0 0 ∧ ct (KX0_merges) 0 0 [vR (some h0), vR (some a10), vI i3, vR (some a28)] w28 (fun v54 w54 => v54 = none ∧ ∃ x59 : Option Nat, gf w54 a28 [6, 7] 5 (vR x59) ∧ pf w54 a10 [4, 5, 6, 7] 5 (vR x59) (fun w62 => ∃ x66 : Nat, gf w62 h0 [0] 4 (vR (some x66)) ∧ ∃ x70 : Int32, gf w62 a28 [6, 7] 4 (vI x70) ∧ pR w62 x66 2 x70 none (fun w74 => QR (some (vI i3)) w74))) (fun E54 w54 => False)) ∧ (¬ x26 ≤ x28 → ∃ x36 : Nat, gf w28 a10 [4, 5, 6, 7] 2 (vR (some x36)) ∧ ∃ x40 : Int32, gI w28 x36 i3 x40 ∧ isO w28 h0 0 ∧ ct (KX0_frees) 0 0 [vR (some h0), vI x40] w28 (fun v41 w41 => v41 = none ∧ wp (KX0_removes) rc rs QR QX 8 [(0, vR (some h0)), (1, vR (some a28)), (2, vR (some a10)), (3, vI (i3 + 1))] [] w41) (fun E41 w41 => False))) (fun E28 w28 => False))) : wp (KX0_removes) rc rs QR QX 8 [(0, vR (some h0)), (1, vR r1), (2, vR r2), (3, vI i3)] [] w := by
  refine wp_iload_n (n := 9) (i := 3) (q := 3) dX0_removes_8 rfl rfl rfl ?_
  refine wp_aload_n (n := 10) (i := 2) (q := 2) dX0_removes_9 rfl rfl rfl ?_
  obtain ⟨a10, ea10, h⟩ := h
  rw [ea10]
  obtain ⟨x10, g10, h⟩ := h
  refine wp_gf (n := 13) dX0_removes_10 rfl fl_X0_122 g10 ?_
  refine wp_icmp_ge (n := 16) (t := 50) dX0_removes_13 rfl (by decide) (fun c13 => ?_) (fun c13 => ?_)
  · replace h := h.1 c13
    refine wp_aload_n (n := 51) (i := 0) (q := 0) dX0_removes_50 rfl rfl rfl ?_
    refine wp_aload_n (n := 52) (i := 2) (q := 2) dX0_removes_51 rfl rfl rfl ?_
    refine wp_iload_n (n := 53) (i := 3) (q := 3) dX0_removes_52 rfl rfl rfl ?_
    refine wp_aload_n (n := 54) (i := 1) (q := 1) dX0_removes_53 rfl rfl rfl ?_
    obtain ⟨⟨fs54, o54⟩, h⟩ := h
    refine wp_call (n := 57) (K' := KX0_merges) (rc' := rc) (rs' := rs) (aRun_V (K' := KX0_merges) (As := [vR (some a10), vI i3, vR r1]) (rest := []) (b := h0) (c0 := .inr (0, fs54)) dX0_removes_54 (aCal_of kf_X0_merges (Nat.le_of_ble_eq_true rfl)) q672 q674 qs24 ar_X0_merges o54 (by decide : 0 < 9) rfl (Nat.le_of_ble_eq_true rfl)) rfl (Nat.le_of_eq (Nat.zero_add _)) (Nat.le_of_eq (Nat.zero_add _)) (fun v54 w54 h => ?_) (fun E54 w54 h => ?_) h
    · obtain ⟨rfl, h⟩ := h
      refine wp_aload_n (n := 58) (i := 2) (q := 2) dX0_removes_57 rfl rfl rfl ?_
      refine wp_aload_n (n := 59) (i := 1) (q := 1) dX0_removes_58 rfl rfl rfl ?_
      obtain ⟨a59, ea59, h⟩ := h
      rw [ea59]
      obtain ⟨x59, g59, h⟩ := h
      refine wp_gf (n := 62) dX0_removes_59 rfl fl_X0_99 g59 ?_
      refine wp_pf (n := 65) dX0_removes_62 rfl (pt_X0_88 _) (nar_o _ _) (fit_o _ _) (pf_mono h (fun w62 h => ?_))
      refine wp_aload_n (n := 66) (i := 0) (q := 0) dX0_removes_65 rfl rfl rfl ?_
      obtain ⟨x66, g66, h⟩ := h
      refine wp_gf (n := 69) dX0_removes_66 rfl fl_X0_20 g66 ?_
      refine wp_aload_n (n := 70) (i := 1) (q := 1) dX0_removes_69 rfl rfl rfl ?_
      obtain ⟨x70, g70, h⟩ := h
      refine wp_gf (n := 73) dX0_removes_70 rfl fl_X0_200 g70 ?_
      refine wp_null (n := 74) dX0_removes_73 rfl ?_
      refine wp_pR (n := 75) dX0_removes_74 rfl (by decide) rfl cok_Object (Or.inl rfl) (pR_mono h (fun w74 h => ?_))
      refine wp_iload_n (n := 76) (i := 3) (q := 3) dX0_removes_75 rfl rfl rfl ?_
      exact wp_ireturn dX0_removes_76 rfl h
    · exact h.elim
  · replace h := h.2 c13
    refine wp_aload_n (n := 17) (i := 0) (q := 0) dX0_removes_16 rfl rfl rfl ?_
    obtain ⟨x17, g17, h⟩ := h
    refine wp_gf (n := 20) dX0_removes_17 rfl fl_X0_13 g17 ?_
    refine wp_aload_n (n := 21) (i := 2) (q := 2) dX0_removes_20 rfl rfl rfl ?_
    obtain ⟨x21, g21, h⟩ := h
    refine wp_gf (n := 24) dX0_removes_21 rfl fl_X0_125 g21 ?_
    refine wp_iload_n (n := 25) (i := 3) (q := 3) dX0_removes_24 rfl rfl rfl ?_
    obtain ⟨x25, g25, h⟩ := h
    refine wp_gI (n := 26) dX0_removes_25 rfl g25 ?_
    obtain ⟨x26, g26, h⟩ := h
    refine wp_gI (n := 27) dX0_removes_26 rfl g26 ?_
    refine wp_aload_n (n := 28) (i := 1) (q := 1) dX0_removes_27 rfl rfl rfl ?_
    obtain ⟨a28, ea28, h⟩ := h
    rw [ea28]
    obtain ⟨⟨cc28, o28, kk28⟩, h⟩ := h
    have run28 : aRun (KX0_removes) (KX4_prevMade) 28 [vR (some a28)] [vR (some a28), vI x26] [vI x26] w := by
      simp only [List.mem_cons, List.not_mem_nil, or_false] at kk28
      rcases kk28 with kk28 | kk28
      · obtain ⟨fs28, rfl⟩ := kd_o kk28 (by decide)
        exact (aRun_U (K' := KX4_prevMade) (As := []) (rest := [vI x26]) (b := a28) (x := ⟨"DeadListPool$Snapshot", "prevMade", "()I"⟩) (owner := "DeadListPool$Holder") (c0 := .inr (6, fs28)) dX0_removes_28 (aCal_of kf_X4_prevMade (Nat.le_of_ble_eq_true rfl)) rfl q668 q669 q670 q502 (Or.inr q499) ⟨by decide, by decide⟩ ar_X4_prevMade o28 (by decide : 6 < 9) rfl (Nat.le_of_ble_eq_true rfl))
      · obtain ⟨fs28, rfl⟩ := kd_o kk28 (by decide)
        exact (aRun_U (K' := KX4_prevMade) (As := []) (rest := [vI x26]) (b := a28) (x := ⟨"DeadListPool$Snapshot", "prevMade", "()I"⟩) (owner := "DeadListPool$Holder") (c0 := .inr (7, fs28)) dX0_removes_28 (aCal_of kf_X4_prevMade (Nat.le_of_ble_eq_true rfl)) rfl q668 q669 q671 q502 (Or.inr q499) ⟨by decide, by decide⟩ ar_X4_prevMade o28 (by decide : 7 < 9) rfl (Nat.le_of_ble_eq_true rfl))
    refine wp_call (n := 31) (K' := KX4_prevMade) (rc' := rc) (rs' := rs) run28 rfl (Nat.le_of_eq (Nat.zero_add _)) (Nat.le_of_eq (Nat.zero_add _)) (fun v28 w28 h => ?_) (fun E28 w28 h => ?_) h
    · obtain ⟨x28, rfl, h⟩ := h
      refine wp_icmp_le (n := 34) (t := 50) dX0_removes_31 rfl (by decide) (fun c31 => ?_) (fun c31 => ?_)
      · replace h := h.1 c31
        refine wp_aload_n (n := 51) (i := 0) (q := 0) dX0_removes_50 rfl rfl rfl ?_
        refine wp_aload_n (n := 52) (i := 2) (q := 2) dX0_removes_51 rfl rfl rfl ?_
        refine wp_iload_n (n := 53) (i := 3) (q := 3) dX0_removes_52 rfl rfl rfl ?_
        refine wp_aload_n (n := 54) (i := 1) (q := 1) dX0_removes_53 rfl rfl rfl ?_
        obtain ⟨⟨fs54, o54⟩, h⟩ := h
        refine wp_call (n := 57) (K' := KX0_merges) (rc' := rc) (rs' := rs) (aRun_V (K' := KX0_merges) (As := [vR (some a10), vI i3, vR (some a28)]) (rest := []) (b := h0) (c0 := .inr (0, fs54)) dX0_removes_54 (aCal_of kf_X0_merges (Nat.le_of_ble_eq_true rfl)) q672 q674 qs24 ar_X0_merges o54 (by decide : 0 < 9) rfl (Nat.le_of_ble_eq_true rfl)) rfl (Nat.le_of_eq (Nat.zero_add _)) (Nat.le_of_eq (Nat.zero_add _)) (fun v54 w54 h => ?_) (fun E54 w54 h => ?_) h
        · obtain ⟨rfl, h⟩ := h
          refine wp_aload_n (n := 58) (i := 2) (q := 2) dX0_removes_57 rfl rfl rfl ?_
          refine wp_aload_n (n := 59) (i := 1) (q := 1) dX0_removes_58 rfl rfl rfl ?_
          obtain ⟨x59, g59, h⟩ := h
          refine wp_gf (n := 62) dX0_removes_59 rfl fl_X0_99 g59 ?_
          refine wp_pf (n := 65) dX0_removes_62 rfl (pt_X0_88 _) (nar_o _ _) (fit_o _ _) (pf_mono h (fun w62 h => ?_))
          refine wp_aload_n (n := 66) (i := 0) (q := 0) dX0_removes_65 rfl rfl rfl ?_
          obtain ⟨x66, g66, h⟩ := h
          refine wp_gf (n := 69) dX0_removes_66 rfl fl_X0_20 g66 ?_
          refine wp_aload_n (n := 70) (i := 1) (q := 1) dX0_removes_69 rfl rfl rfl ?_
          obtain ⟨x70, g70, h⟩ := h
          refine wp_gf (n := 73) dX0_removes_70 rfl fl_X0_200 g70 ?_
          refine wp_null (n := 74) dX0_removes_73 rfl ?_
          refine wp_pR (n := 75) dX0_removes_74 rfl (by decide) rfl cok_Object (Or.inl rfl) (pR_mono h (fun w74 h => ?_))
          refine wp_iload_n (n := 76) (i := 3) (q := 3) dX0_removes_75 rfl rfl rfl ?_
          exact wp_ireturn dX0_removes_76 rfl h
        · exact h.elim
      · replace h := h.2 c31
        refine wp_aload_n (n := 35) (i := 0) (q := 0) dX0_removes_34 rfl rfl rfl ?_
        refine wp_aload_n (n := 36) (i := 2) (q := 2) dX0_removes_35 rfl rfl rfl ?_
        obtain ⟨x36, g36, h⟩ := h
        refine wp_gf (n := 39) dX0_removes_36 rfl fl_X0_125 g36 ?_
        refine wp_iload_n (n := 40) (i := 3) (q := 3) dX0_removes_39 rfl rfl rfl ?_
        obtain ⟨x40, g40, h⟩ := h
        refine wp_gI (n := 41) dX0_removes_40 rfl g40 ?_
        obtain ⟨⟨fs41, o41⟩, h⟩ := h
        refine wp_call (n := 44) (K' := KX0_frees) (rc' := rc) (rs' := rs) (aRun_V (K' := KX0_frees) (As := [vI x40]) (rest := []) (b := h0) (c0 := .inr (0, fs41)) dX0_removes_41 (aCal_of kf_X0_frees (Nat.le_of_ble_eq_true rfl)) q504 q506 qs9 ar_X0_frees o41 (by decide : 0 < 9) rfl (Nat.le_of_ble_eq_true rfl)) rfl (Nat.le_of_eq (Nat.zero_add _)) (Nat.le_of_eq (Nat.zero_add _)) (fun v41 w41 h => ?_) (fun E41 w41 h => ?_) h
        · obtain ⟨rfl, h⟩ := h
          refine wp_iinc (n := 47) (i := 3) (q := 3) (v := i3 + 1) (ls' := [(3, vI (i3 + 1)), (0, vR (some h0)), (1, vR (some a28)), (2, vR (some a10))]) dX0_removes_44 rfl rfl rfl (Nat.le_of_ble_eq_true rfl) rfl ?_
          refine wp_goto (t := 8) dX0_removes_47 (by decide) ?_
          exact wp_sub [1, 2, 3, 0] rfl h
        · exact h.elim
    · exact h.elim
set_option maxHeartbeats 1000000 in
theorem sg_X0_remove_0 {h0 : Nat} {i1 : Int32} {rc rs : Nat} {QR : Option aV → aW → Prop} {QX : String → aW → Prop} {w : aW} (h : ct (KX0_in) 0 0 [vL (Int32.toInt64 i1), vL 0, vL 19] w (fun v6 w6 => ∃ x6 : Int32, v6 = some (vI x6) ∧ (¬ x6 = 0 → ∃ x16 : Nat, gf w6 h0 [0] 4 (vR (some x16)) ∧ ∃ x20 : Option Nat, gR w6 x16 2 i1 x20 ∧ (x20 = none → QR (some (vI (-11))) w6) ∧ (∀ a23 : Nat, x20 = some a23 → ((ck w6 a23 [8] ∧ ∃ x37 : Nat, gf w6 h0 [0] 4 (vR (some x37)) ∧ pR w6 x37 2 i1 none (fun w42 => QR (some (vI 0)) w42)) ∨ (ck w6 a23 [4, 5, 6, 7] ∧ ((ck w6 a23 [4, 5] ∧ ck w6 a23 [4, 5] ∧ isO w6 h0 0 ∧ ct (KX0_removesFiles) 0 0 [vR (some h0), vR (some a23)] w6 (fun v57 w57 => ∃ x57 : Int32, v57 = some (vI x57) ∧ QR (some (vI x57)) w57) (fun E57 w57 => False)) ∨ (ck w6 a23 [6, 7, 8] ∧ ck w6 a23 [6, 7] ∧ isO w6 h0 0 ∧ ct (KX0_isLoose) 0 0 [vR (some h0), vR (some a23)] w6 (fun v66 w66 => ∃ x66 : Int32, v66 = some (vI x66) ∧ (x66 = 0 → QR (some (vI (-3))) w66) ∧ (¬ x66 = 0 → ck w66 a23 [6, 7] ∧ isO w66 h0 0 ∧ ct (KX0_removes) 0 0 [vR (some h0), vR (some a23)] w66 (fun v77 w77 => ∃ x77 : Int32, v77 = some (vI x77) ∧ QR (some (vI x77)) w77) (fun E77 w77 => False))) (fun E66 w66 => False))))))) ∧ (x6 = 0 → QR (some (vI (-12))) w6)) (fun E6 w6 => False)) : wp (KX0_remove) rc rs QR QX 0 [(0, vR (some h0)), (1, vI i1)] [] w := by
  refine wp_iload_n (n := 1) (i := 1) (q := 1) dX0_remove_0 rfl rfl rfl ?_
  refine wp_i2l (n := 2) dX0_remove_1 rfl ?_
  refine wp_lconst (n := 3) (v := 0) dX0_remove_2 rfl (by decide) ?_
  refine wp_ldc2 (n := 6) dX0_remove_3 rfl q623 ?_
  refine wp_call (n := 9) (K' := KX0_in) (rc' := rc) (rs' := rs) (aRun_S (K' := KX0_in) (As := [vL (Int32.toInt64 i1), vL 0, vL 19]) (rest := []) dX0_remove_6 (aCal_of kf_X0_in (Nat.le_of_ble_eq_true rfl)) rfl q228 q229 ar_X0_in rfl (Nat.le_of_ble_eq_true rfl)) rfl (Nat.le_of_eq (Nat.zero_add _)) (Nat.le_of_eq (Nat.zero_add _)) (fun v6 w6 h => ?_) (fun E6 w6 h => ?_) h
  · obtain ⟨x6, rfl, h⟩ := h
    refine wp_if_ne (n := 12) (t := 15) dX0_remove_9 rfl (by decide) (fun c9 => ?_) (fun c9 => ?_)
    · replace h := h.1 c9
      refine wp_aload_n (n := 16) (i := 0) (q := 0) dX0_remove_15 rfl rfl rfl ?_
      obtain ⟨x16, g16, h⟩ := h
      refine wp_gf (n := 19) dX0_remove_16 rfl fl_X0_20 g16 ?_
      refine wp_iload_n (n := 20) (i := 1) (q := 1) dX0_remove_19 rfl rfl rfl ?_
      obtain ⟨x20, g20, h⟩ := h
      refine wp_gR (n := 21) dX0_remove_20 rfl (by decide) g20 ?_
      refine wp_astore_n (n := 22) (i := 2) (ls' := [(2, vR x20), (0, vR (some h0)), (1, vI i1)]) dX0_remove_21 rfl rfl (Nat.le_of_ble_eq_true rfl) rfl ?_
      refine wp_aload_n (n := 23) (i := 2) (q := 0) dX0_remove_22 rfl rfl rfl ?_
      rcases opt_c x20 with ea23 | ⟨a23, ea23⟩
      · replace h := h.1 ea23
        rw [ea23]
        refine wp_ifnonnull (n := 26) (t := 29) dX0_remove_23 rfl (by decide) (fun z zz => nomatch zz) (fun _ => ?_)
        refine wp_bipush (n := 28) (v := (-11)) dX0_remove_26 rfl (by decide) ?_
        exact wp_ireturn dX0_remove_28 rfl h
      · replace h := h.2 a23 ea23
        rw [ea23]
        refine wp_ifnonnull (n := 26) (t := 29) dX0_remove_23 rfl (by decide) (fun _ _ => ?_) (fun zz => nomatch zz)
        refine wp_aload_n (n := 30) (i := 2) (q := 0) dX0_remove_29 rfl rfl rfl ?_
        rcases h with h | h
        · obtain ⟨k30, h⟩ := h
          refine wp_ciY (n := 33) dX0_remove_30 rfl q596 cok_Bookmark k30 ?_
          refine wp_if_eq (n := 36) (t := 45) dX0_remove_33 rfl (by decide) (fun z => absurd z (by decide)) (fun _ => ?_)
          refine wp_aload_n (n := 37) (i := 0) (q := 1) dX0_remove_36 rfl rfl rfl ?_
          obtain ⟨x37, g37, h⟩ := h
          refine wp_gf (n := 40) dX0_remove_37 rfl fl_X0_20 g37 ?_
          refine wp_iload_n (n := 41) (i := 1) (q := 2) dX0_remove_40 rfl rfl rfl ?_
          refine wp_null (n := 42) dX0_remove_41 rfl ?_
          refine wp_pR (n := 43) dX0_remove_42 rfl (by decide) rfl cok_Object (Or.inl rfl) (pR_mono h (fun w42 h => ?_))
          refine wp_iconst (n := 44) (v := 0) dX0_remove_43 rfl (by decide) ?_
          exact wp_ireturn dX0_remove_44 rfl h
        · obtain ⟨k30, h⟩ := h
          refine wp_ciX (n := 33) dX0_remove_30 rfl q596 cno_Bookmark k30 ?_
          refine wp_if_eq (n := 36) (t := 45) dX0_remove_33 rfl (by decide) (fun _ => ?_) (fun z => absurd z (by decide))
          refine wp_aload_n (n := 46) (i := 2) (q := 0) dX0_remove_45 rfl rfl rfl ?_
          rcases h with h | h
          · obtain ⟨k46, h⟩ := h
            refine wp_ciY (n := 49) dX0_remove_46 rfl q235 cok_Folder k46 ?_
            refine wp_if_eq (n := 52) (t := 61) dX0_remove_49 rfl (by decide) (fun z => absurd z (by decide)) (fun _ => ?_)
            refine wp_aload_n (n := 53) (i := 0) (q := 1) dX0_remove_52 rfl rfl rfl ?_
            refine wp_aload_n (n := 54) (i := 2) (q := 0) dX0_remove_53 rfl rfl rfl ?_
            obtain ⟨k54, h⟩ := h
            refine wp_ckY (n := 57) dX0_remove_54 rfl q235 cok_Folder k54 ?_
            obtain ⟨⟨fs57, o57⟩, h⟩ := h
            refine wp_call (n := 60) (K' := KX0_removesFiles) (rc' := rc) (rs' := rs) (aRun_V (K' := KX0_removesFiles) (As := [vR (some a23)]) (rest := []) (b := h0) (c0 := .inr (0, fs57)) dX0_remove_57 (aCal_of kf_X0_removesFiles (Nat.le_of_ble_eq_true rfl)) q624 q626 qs15 ar_X0_removesFiles o57 (by decide : 0 < 9) rfl (Nat.le_of_ble_eq_true rfl)) rfl (Nat.le_of_eq (Nat.zero_add _)) (Nat.le_of_eq (Nat.zero_add _)) (fun v57 w57 h => ?_) (fun E57 w57 h => ?_) h
            · obtain ⟨x57, rfl, h⟩ := h
              exact wp_ireturn dX0_remove_60 rfl h
            · exact h.elim
          · obtain ⟨k46, h⟩ := h
            refine wp_ciX (n := 49) dX0_remove_46 rfl q235 cno_Folder k46 ?_
            refine wp_if_eq (n := 52) (t := 61) dX0_remove_49 rfl (by decide) (fun _ => ?_) (fun z => absurd z (by decide))
            refine wp_aload_n (n := 62) (i := 0) (q := 1) dX0_remove_61 rfl rfl rfl ?_
            refine wp_aload_n (n := 63) (i := 2) (q := 0) dX0_remove_62 rfl rfl rfl ?_
            obtain ⟨k63, h⟩ := h
            refine wp_ckY (n := 66) dX0_remove_63 rfl q119 cok_Snapshot k63 ?_
            obtain ⟨⟨fs66, o66⟩, h⟩ := h
            refine wp_call (n := 69) (K' := KX0_isLoose) (rc' := rc) (rs' := rs) (aRun_V (K' := KX0_isLoose) (As := [vR (some a23)]) (rest := []) (b := h0) (c0 := .inr (0, fs66)) dX0_remove_66 (aCal_of kf_X0_isLoose (Nat.le_of_ble_eq_true rfl)) q640 q642 qs19 ar_X0_isLoose o66 (by decide : 0 < 9) rfl (Nat.le_of_ble_eq_true rfl)) rfl (Nat.le_of_eq (Nat.zero_add _)) (Nat.le_of_eq (Nat.zero_add _)) (fun v66 w66 h => ?_) (fun E66 w66 h => ?_) h
            · obtain ⟨x66, rfl, h⟩ := h
              refine wp_if_eq (n := 72) (t := 83) dX0_remove_69 rfl (by decide) (fun c69 => ?_) (fun c69 => ?_)
              · replace h := h.1 c69
                refine wp_bipush (n := 85) (v := (-3)) dX0_remove_83 rfl (by decide) ?_
                exact wp_ireturn dX0_remove_85 rfl h
              · replace h := h.2 c69
                refine wp_aload_n (n := 73) (i := 0) (q := 1) dX0_remove_72 rfl rfl rfl ?_
                refine wp_aload_n (n := 74) (i := 2) (q := 0) dX0_remove_73 rfl rfl rfl ?_
                obtain ⟨k74, h⟩ := h
                refine wp_ckY (n := 77) dX0_remove_74 rfl q119 cok_Snapshot k74 ?_
                obtain ⟨⟨fs77, o77⟩, h⟩ := h
                refine wp_call (n := 80) (K' := KX0_removes) (rc' := rc) (rs' := rs) (aRun_V (K' := KX0_removes) (As := [vR (some a23)]) (rest := []) (b := h0) (c0 := .inr (0, fs77)) dX0_remove_77 (aCal_of kf_X0_removes (Nat.le_of_ble_eq_true rfl)) q660 q662 qs22 ar_X0_removes o77 (by decide : 0 < 9) rfl (Nat.le_of_ble_eq_true rfl)) rfl (Nat.le_of_eq (Nat.zero_add _)) (Nat.le_of_eq (Nat.zero_add _)) (fun v77 w77 h => ?_) (fun E77 w77 h => ?_) h
                · obtain ⟨x77, rfl, h⟩ := h
                  refine wp_goto (t := 85) dX0_remove_80 (by decide) ?_
                  exact wp_ireturn dX0_remove_85 rfl h
                · exact h.elim
            · exact h.elim
    · replace h := h.2 c9
      refine wp_bipush (n := 14) (v := (-12)) dX0_remove_12 rfl (by decide) ?_
      exact wp_ireturn dX0_remove_14 rfl h
  · exact h.elim
set_option maxHeartbeats 1000000 in
theorem sg_X5_init_0 {h0 : Nat} {i1 : Int32} {r2 : Option Nat} {rc rs : Nat} {QR : Option aV → aW → Prop} {QX : String → aW → Prop} {w : aW} (h : 2 ≤ rc ∧ 24 ≤ rs ∧ ct (KX4_init) 2 24 [vR (some h0), vI i1, vR r2] w (fun v3 w3 => v3 = none ∧ QR none w3) (fun E3 w3 => False)) : wp (KX5_init) rc rs QR QX 0 [(0, vR (some h0)), (1, vI i1), (2, vR r2)] [] w := by
  refine wp_aload_n (n := 1) (i := 0) (q := 0) dX5_init_0 rfl rfl rfl ?_
  refine wp_iload_n (n := 2) (i := 1) (q := 1) dX5_init_1 rfl rfl rfl ?_
  refine wp_aload_n (n := 3) (i := 2) (q := 2) dX5_init_2 rfl rfl rfl ?_
  obtain ⟨b3, bb3, h⟩ := h
  refine wp_call (n := 6) (K' := KX4_init) (rc' := rc - 2) (rs' := rs - 24) (aRun_I (K' := KX4_init) (As := [vI i1, vR r2]) (rest := []) (b := h0) dX5_init_3 (aCal_of kf_X4_init (Nat.le_of_ble_eq_true rfl)) rfl q240 q241 rfl rfl ar_X4_init rfl (Nat.le_of_ble_eq_true rfl)) rfl (by omega) (by omega) (fun v3 w3 h => ?_) (fun E3 w3 h => ?_) h
  · obtain ⟨rfl, h⟩ := h
    exact wp_return dX5_init_6 rfl h
  · exact h.elim
set_option maxHeartbeats 1000000 in
theorem sg_X0_forks_0 {h0 : Nat} {r1 : Option Nat} {rc rs : Nat} {QR : Option aV → aW → Prop} {QX : String → aW → Prop} {w : aW} (h : (r1 = none → 1 ≤ rc ∧ 8 ≤ rs ∧ QX "java/lang/NullPointerException" w) ∧ (∀ a1 : Nat, r1 = some a1 → ∃ x1 : Int32, gf w a1 [6, 7] 4 (vI x1) ∧ isO w h0 0 ∧ ct (KX0_leastThing) 0 0 [vR (some h0)] w (fun v6 w6 => ∃ x6 : Int32, v6 = some (vI x6) ∧ (¬ x6 = (-1) → 1 ≤ rc ∧ 6 ≤ rs ∧ ∀ (a16 : Nat) (w16 : aW), w6 a16 = none → w16 = aup w6 a16 (.inr (4, [vI 0, vR none, vR none, vI 0, vI 0, vR none])) → ∃ x21 : Int32, gf w16 h0 [0] 2 (vI x21) ∧ 2 ≤ (rc - 1) ∧ 24 ≤ (rs - 6) ∧ ct (KX5_init) 2 24 [vR (some a16), vI x21, vR (some a1)] w16 (fun v25 w25 => v25 = none ∧ ck w25 a16 [4, 5] ∧ ct (KX4_takesSlots) 0 0 [vR (some a16), vR (some a1)] w25 (fun v31 w31 => v31 = none ∧ isO w31 h0 0 ∧ ct (KX0_takesPlace) 0 0 [vR (some h0), vR (some a16)] w31 (fun v36 w36 => ∃ x36 : Int32, v36 = some (vI x36) ∧ QR (some (vI x36)) w36) (fun E36 w36 => False)) (fun E31 w31 => False)) (fun E25 w25 => False)) ∧ (x6 = (-1) → QR (some (vI (-4))) w6)) (fun E6 w6 => False))) : wp (KX0_forks) rc rs QR QX 0 [(0, vR (some h0)), (1, vR r1)] [] w := by
  refine wp_aload_n (n := 1) (i := 1) (q := 1) dX0_forks_0 rfl rfl rfl ?_
  rcases opt_c r1 with ea1 | ⟨a1, ea1⟩
  · obtain ⟨b1, b2, h⟩ := h.1 ea1
    rw [ea1]
    refine wp_getfNull (rc' := 0) (rs' := 0) dX0_forks_1 (fl_X0_200 6 (by decide)) (by omega) (by omega) (Nat.le_of_ble_eq_true rfl) ?_
    exact wpx_out (fun z hz => absurd hz List.not_mem_nil) h
  · replace h := h.2 a1 ea1
    rw [ea1]
    obtain ⟨x1, g1, h⟩ := h
    refine wp_gf (n := 4) dX0_forks_1 rfl fl_X0_200 g1 ?_
    refine wp_istore_n (n := 5) (i := 2) (ls' := [(2, vI x1), (0, vR (some h0)), (1, vR (some a1))]) dX0_forks_4 rfl rfl (Nat.le_of_ble_eq_true rfl) rfl ?_
    refine wp_aload_n (n := 6) (i := 0) (q := 1) dX0_forks_5 rfl rfl rfl ?_
    obtain ⟨⟨fs6, o6⟩, h⟩ := h
    refine wp_call (n := 9) (K' := KX0_leastThing) (rc' := rc) (rs' := rs) (aRun_V (K' := KX0_leastThing) (As := []) (rest := []) (b := h0) (c0 := .inr (0, fs6)) dX0_forks_6 (aCal_of kf_X0_leastThing (Nat.le_of_ble_eq_true rfl)) q231 q233 qs0 ar_X0_leastThing o6 (by decide : 0 < 9) rfl (Nat.le_of_ble_eq_true rfl)) rfl (Nat.le_of_eq (Nat.zero_add _)) (Nat.le_of_eq (Nat.zero_add _)) (fun v6 w6 h => ?_) (fun E6 w6 h => ?_) h
    · obtain ⟨x6, rfl, h⟩ := h
      refine wp_iconst (n := 10) (v := (-1)) dX0_forks_9 rfl (by decide) ?_
      refine wp_icmp_ne (n := 13) (t := 16) dX0_forks_10 rfl (by decide) (fun c10 => ?_) (fun c10 => ?_)
      · replace h := h.1 c10
        obtain ⟨b1, b2, h⟩ := h
        refine wp_new (n := 19) (rc' := rc - 1) (rs' := rs - 6) dX0_forks_16 rfl nw_X0_93 (by omega) (by show _ + 6 ≤ _; omega) (fun a16 f16 => ?_)
        obtain ⟨w16, ew16⟩ : ∃ z, z = aup w6 a16 (.inr (4, [vI 0, vR none, vR none, vI 0, vI 0, vR none])) := ⟨_, rfl⟩
        rw [← ew16]
        replace h := h a16 w16 f16 ew16
        refine wp_dup (n := 20) dX0_forks_19 rfl rfl ?_
        refine wp_aload_n (n := 21) (i := 0) (q := 1) dX0_forks_20 rfl rfl rfl ?_
        obtain ⟨x21, g21, h⟩ := h
        refine wp_gf (n := 24) dX0_forks_21 rfl fl_X0_16 g21 ?_
        refine wp_aload_n (n := 25) (i := 1) (q := 2) dX0_forks_24 rfl rfl rfl ?_
        obtain ⟨b25, bb25, h⟩ := h
        refine wp_call (n := 28) (K' := KX5_init) (rc' := rc - 1 - 2) (rs' := rs - 6 - 24) (aRun_I (K' := KX5_init) (As := [vI x21, vR (some a1)]) (rest := [vR (some a16)]) (b := a16) dX0_forks_25 (aCal_of kf_X5_init (Nat.le_of_ble_eq_true rfl)) rfl q237 q238 rfl rfl ar_X5_init rfl (Nat.le_of_ble_eq_true rfl)) rfl (by omega) (by omega) (fun v25 w25 h => ?_) (fun E25 w25 h => ?_) h
        · obtain ⟨rfl, h⟩ := h
          refine wp_astore_n (n := 29) (i := 3) (ls' := [(3, vR (some a16)), (2, vI x1), (0, vR (some h0)), (1, vR (some a1))]) dX0_forks_28 rfl rfl (Nat.le_of_ble_eq_true rfl) rfl ?_
          refine wp_aload_n (n := 30) (i := 3) (q := 0) dX0_forks_29 rfl rfl rfl ?_
          refine wp_aload_n (n := 31) (i := 1) (q := 3) dX0_forks_30 rfl rfl rfl ?_
          obtain ⟨⟨cc31, o31, kk31⟩, h⟩ := h
          have run31 : aRun (KX0_forks) (KX4_takesSlots) 31 [vR (some a16), vR (some a1)] [vR (some a1), vR (some a16)] [] w25 := by
            simp only [List.mem_cons, List.not_mem_nil, or_false] at kk31
            rcases kk31 with kk31 | kk31
            · obtain ⟨fs31, rfl⟩ := kd_o kk31 (by decide)
              exact (aRun_U (K' := KX4_takesSlots) (As := [vR (some a1)]) (rest := []) (b := a16) (x := ⟨"DeadListPool$Folder", "takesSlots", "(LDeadListPool$Holder;)V"⟩) (owner := "DeadListPool$Holder") (c0 := .inr (4, fs31)) dX0_forks_31 (aCal_of kf_X4_takesSlots (Nat.le_of_ble_eq_true rfl)) rfl q615 q616 q618 q546 (Or.inr q543) ⟨by decide, by decide⟩ ar_X4_takesSlots o31 (by decide : 4 < 9) rfl (Nat.le_of_ble_eq_true rfl))
            · obtain ⟨fs31, rfl⟩ := kd_o kk31 (by decide)
              exact (aRun_U (K' := KX4_takesSlots) (As := [vR (some a1)]) (rest := []) (b := a16) (x := ⟨"DeadListPool$Folder", "takesSlots", "(LDeadListPool$Holder;)V"⟩) (owner := "DeadListPool$Holder") (c0 := .inr (5, fs31)) dX0_forks_31 (aCal_of kf_X4_takesSlots (Nat.le_of_ble_eq_true rfl)) rfl q615 q616 q617 q546 (Or.inr q543) ⟨by decide, by decide⟩ ar_X4_takesSlots o31 (by decide : 5 < 9) rfl (Nat.le_of_ble_eq_true rfl))
          refine wp_call (n := 34) (K' := KX4_takesSlots) (rc' := rc - 1 - 2) (rs' := rs - 6 - 24) run31 rfl (Nat.le_of_eq (Nat.zero_add _)) (Nat.le_of_eq (Nat.zero_add _)) (fun v31 w31 h => ?_) (fun E31 w31 h => ?_) h
          · obtain ⟨rfl, h⟩ := h
            refine wp_aload_n (n := 35) (i := 0) (q := 2) dX0_forks_34 rfl rfl rfl ?_
            refine wp_aload_n (n := 36) (i := 3) (q := 0) dX0_forks_35 rfl rfl rfl ?_
            obtain ⟨⟨fs36, o36⟩, h⟩ := h
            refine wp_call (n := 39) (K' := KX0_takesPlace) (rc' := rc - 1 - 2) (rs' := rs - 6 - 24) (aRun_V (K' := KX0_takesPlace) (As := [vR (some a16)]) (rest := []) (b := h0) (c0 := .inr (0, fs36)) dX0_forks_36 (aCal_of kf_X0_takesPlace (Nat.le_of_ble_eq_true rfl)) q312 q314 qs1 ar_X0_takesPlace o36 (by decide : 0 < 9) rfl (Nat.le_of_ble_eq_true rfl)) rfl (Nat.le_of_eq (Nat.zero_add _)) (Nat.le_of_eq (Nat.zero_add _)) (fun v36 w36 h => ?_) (fun E36 w36 h => ?_) h
            · obtain ⟨x36, rfl, h⟩ := h
              exact wp_ireturn dX0_forks_39 rfl h
            · exact h.elim
          · exact h.elim
        · exact h.elim
      · replace h := h.2 c10
        refine wp_bipush (n := 15) (v := (-4)) dX0_forks_13 rfl (by decide) ?_
        exact wp_ireturn dX0_forks_15 rfl h
    · exact h.elim
set_option maxHeartbeats 1000000 in
theorem sg_X0_fork_0 {h0 : Nat} {i1 : Int32} {rc rs : Nat} {QR : Option aV → aW → Prop} {QX : String → aW → Prop} {w : aW} (h : 1 ≤ rc ∧ 6 ≤ rs ∧ isO w h0 0 ∧ ct (KX0_thingAt) 1 6 [vR (some h0), vI i1] w (fun v3 w3 => ∃ x3 : Option Nat, v3 = some (vR x3) ∧ (x3 = none → 3 ≤ (rc - 1) ∧ 36 ≤ (rs - 6) ∧ isO w3 h0 0 ∧ ct (KX0_forks) 3 36 [vR (some h0), vR none] w3 (fun v9 w9 => ∃ x9 : Int32, v9 = some (vI x9) ∧ QR (some (vI x9)) w9) (fun E9 w9 => (E9 = "java/lang/NullPointerException" ∧ QR (some (vI (-11))) w9))) ∧ (∀ a6 : Nat, x3 = some a6 → ((ck w3 a6 [6, 7] ∧ 3 ≤ (rc - 1) ∧ 36 ≤ (rs - 6) ∧ isO w3 h0 0 ∧ ct (KX0_forks) 3 36 [vR (some h0), vR (some a6)] w3 (fun v9 w9 => ∃ x9 : Int32, v9 = some (vI x9) ∧ QR (some (vI x9)) w9) (fun E9 w9 => (E9 = "java/lang/NullPointerException" ∧ QR (some (vI (-11))) w9))) ∨ (ck w3 a6 [4, 5, 8] ∧ 3 ≤ (rc - 1) ∧ 950 ≤ (rs - 6) ∧ QR (some (vI (-13))) w3)))) (fun E3 w3 => (E3 = "java/lang/IndexOutOfBoundsException" ∧ QR (some (vI (-12))) w3))) : wp (KX0_fork) rc rs QR QX 0 [(0, vR (some h0)), (1, vI i1)] [] w := by
  refine wp_aload_n (n := 1) (i := 0) (q := 0) dX0_fork_0 rfl rfl rfl ?_
  refine wp_aload_n (n := 2) (i := 0) (q := 0) dX0_fork_1 rfl rfl rfl ?_
  refine wp_iload_n (n := 3) (i := 1) (q := 1) dX0_fork_2 rfl rfl rfl ?_
  obtain ⟨b3, bb3, h⟩ := h
  obtain ⟨⟨fs3, o3⟩, h⟩ := h
  refine wp_call (n := 6) (K' := KX0_thingAt) (rc' := rc - 1) (rs' := rs - 6) (aRun_V (K' := KX0_thingAt) (As := [vI i1]) (rest := [vR (some h0)]) (b := h0) (c0 := .inr (0, fs3)) dX0_fork_3 (aCal_of kf_X0_thingAt (Nat.le_of_ble_eq_true rfl)) q451 q453 qs4 ar_X0_thingAt o3 (by decide : 0 < 9) rfl (Nat.le_of_ble_eq_true rfl)) rfl (by omega) (by omega) (fun v3 w3 h => ?_) (fun E3 w3 h => ?_) h
  · obtain ⟨x3, rfl, h⟩ := h
    rcases opt_c x3 with ea6 | ⟨a6, ea6⟩
    · replace h := h.1 ea6
      rw [ea6]
      refine wp_castN (n := 9) dX0_fork_6 rfl ?_
      obtain ⟨b9, bb9, h⟩ := h
      obtain ⟨⟨fs9, o9⟩, h⟩ := h
      refine wp_call (n := 12) (K' := KX0_forks) (rc' := rc - 1 - 3) (rs' := rs - 6 - 36) (aRun_V (K' := KX0_forks) (As := [vR none]) (rest := []) (b := h0) (c0 := .inr (0, fs9)) dX0_fork_9 (aCal_of kf_X0_forks (Nat.le_of_ble_eq_true rfl)) q611 q613 qs14 ar_X0_forks o9 (by decide : 0 < 9) rfl (Nat.le_of_ble_eq_true rfl)) rfl (by omega) (by omega) (fun v9 w9 h => ?_) (fun E9 w9 h => ?_) h
      · obtain ⟨x9, rfl, h⟩ := h
        exact wp_ireturn dX0_fork_12 rfl h
      · obtain ⟨rfl, h⟩ := h
        refine wpx_catch (nm := "java/lang/NullPointerException") [(0, 12, 13, 53)] (0, 12, 17, 169) [(0, 12, 21, 171)] rfl (fun z hz => by have hz : z ∈ ([(0, 12, 13, 53)] : List (Nat × Nat × Nat × Nat)) := hz; simp only [List.mem_cons, List.not_mem_nil, or_false] at hz; subst hz; exact Or.inr ⟨by decide, "java/lang/IndexOutOfBoundsException", q320, nc_NullPointerException_IndexOutOfBoundsException⟩) (by decide) (by decide) q411 q433 (fun q9 => ?_)
        refine wp_astore_n (n := 18) (i := 2) (ls' := [(2, vR (some q9)), (0, vR (some h0)), (1, vI i1)]) dX0_fork_17 rfl rfl (Nat.le_of_ble_eq_true rfl) rfl ?_
        refine wp_bipush (n := 20) (v := (-11)) dX0_fork_18 rfl (by decide) ?_
        exact wp_ireturn dX0_fork_20 rfl h
    · replace h := h.2 a6 ea6
      rw [ea6]
      rcases h with h | h
      · obtain ⟨k6, h⟩ := h
        refine wp_ckY (n := 9) dX0_fork_6 rfl q119 cok_Snapshot k6 ?_
        obtain ⟨b9, bb9, h⟩ := h
        obtain ⟨⟨fs9, o9⟩, h⟩ := h
        refine wp_call (n := 12) (K' := KX0_forks) (rc' := rc - 1 - 3) (rs' := rs - 6 - 36) (aRun_V (K' := KX0_forks) (As := [vR (some a6)]) (rest := []) (b := h0) (c0 := .inr (0, fs9)) dX0_fork_9 (aCal_of kf_X0_forks (Nat.le_of_ble_eq_true rfl)) q611 q613 qs14 ar_X0_forks o9 (by decide : 0 < 9) rfl (Nat.le_of_ble_eq_true rfl)) rfl (by omega) (by omega) (fun v9 w9 h => ?_) (fun E9 w9 h => ?_) h
        · obtain ⟨x9, rfl, h⟩ := h
          exact wp_ireturn dX0_fork_12 rfl h
        · obtain ⟨rfl, h⟩ := h
          refine wpx_catch (nm := "java/lang/NullPointerException") [(0, 12, 13, 53)] (0, 12, 17, 169) [(0, 12, 21, 171)] rfl (fun z hz => by have hz : z ∈ ([(0, 12, 13, 53)] : List (Nat × Nat × Nat × Nat)) := hz; simp only [List.mem_cons, List.not_mem_nil, or_false] at hz; subst hz; exact Or.inr ⟨by decide, "java/lang/IndexOutOfBoundsException", q320, nc_NullPointerException_IndexOutOfBoundsException⟩) (by decide) (by decide) q411 q433 (fun q9 => ?_)
          refine wp_astore_n (n := 18) (i := 2) (ls' := [(2, vR (some q9)), (0, vR (some h0)), (1, vI i1)]) dX0_fork_17 rfl rfl (Nat.le_of_ble_eq_true rfl) rfl ?_
          refine wp_bipush (n := 20) (v := (-11)) dX0_fork_18 rfl (by decide) ?_
          exact wp_ireturn dX0_fork_20 rfl h
      · obtain ⟨k6, b1, b2, h⟩ := h
        refine wp_ckX (rc' := 0) (rs' := 0) dX0_fork_6 q119 cno_Snapshot sn_Snapshot k6 (by omega) (by omega) (Nat.le_of_ble_eq_true rfl) ?_
        refine wpx_catch (nm := "java/lang/ClassCastException") [(0, 12, 13, 53), (0, 12, 17, 169)] (0, 12, 21, 171) [] rfl (fun z hz => by have hz : z ∈ ([(0, 12, 13, 53), (0, 12, 17, 169)] : List (Nat × Nat × Nat × Nat)) := hz; simp only [List.mem_cons, List.not_mem_nil, or_false] at hz; rcases hz with rfl | rfl; exact Or.inr ⟨by decide, "java/lang/IndexOutOfBoundsException", q320, nc_ClassCastException_IndexOutOfBoundsException⟩; exact Or.inr ⟨by decide, "java/lang/NullPointerException", q411, nc_ClassCastException_NullPointerException⟩) (by decide) (by decide) q436 q448 (fun q9 => ?_)
        refine wp_astore_n (n := 22) (i := 2) (ls' := [(2, vR (some q9)), (0, vR (some h0)), (1, vI i1)]) dX0_fork_21 rfl rfl (Nat.le_of_ble_eq_true rfl) rfl ?_
        refine wp_bipush (n := 24) (v := (-13)) dX0_fork_22 rfl (by decide) ?_
        exact wp_ireturn dX0_fork_24 rfl h
  · obtain ⟨rfl, h⟩ := h
    refine wpx_catch (nm := "java/lang/IndexOutOfBoundsException") [] (0, 12, 13, 53) [(0, 12, 17, 169), (0, 12, 21, 171)] rfl (fun z hz => absurd hz List.not_mem_nil) (by decide) (by decide) q320 q459 (fun q9 => ?_)
    refine wp_astore_n (n := 14) (i := 2) (ls' := [(2, vR (some q9)), (0, vR (some h0)), (1, vI i1)]) dX0_fork_13 rfl rfl (Nat.le_of_ble_eq_true rfl) rfl ?_
    refine wp_bipush (n := 16) (v := (-12)) dX0_fork_14 rfl (by decide) ?_
    exact wp_ireturn dX0_fork_16 rfl h
set_option maxHeartbeats 1000000 in
theorem sg_X0_originOf_0 {r0 : Option Nat} {rc rs : Nat} {QR : Option aV → aW → Prop} {QX : String → aW → Prop} {w : aW} (h : (r0 = none → 1 ≤ rc ∧ 8 ≤ rs ∧ QX "java/lang/NullPointerException" w) ∧ (∀ a1 : Nat, r0 = some a1 → ∃ x1 : Option Nat, gf w a1 [4, 5] 5 (vR x1) ∧ wp (KX0_originOf) rc rs QR QX 5 [(0, vR (some a1)), (1, vR x1)] [] w)) : wp (KX0_originOf) rc rs QR QX 0 [(0, vR r0)] [] w := by
  refine wp_aload_n (n := 1) (i := 0) (q := 0) dX0_originOf_0 rfl rfl rfl ?_
  rcases opt_c r0 with ea1 | ⟨a1, ea1⟩
  · obtain ⟨b1, b2, h⟩ := h.1 ea1
    rw [ea1]
    refine wp_getfNull (rc' := 0) (rs' := 0) dX0_originOf_1 (fl_X0_92 4 (by decide)) (by omega) (by omega) (Nat.le_of_ble_eq_true rfl) ?_
    exact wpx_out (fun z hz => absurd hz List.not_mem_nil) h
  · replace h := h.2 a1 ea1
    rw [ea1]
    obtain ⟨x1, g1, h⟩ := h
    refine wp_gf (n := 4) dX0_originOf_1 rfl fl_X0_92 g1 ?_
    refine wp_astore_n (n := 5) (i := 1) (ls' := [(1, vR x1), (0, vR (some a1))]) dX0_originOf_4 rfl rfl (Nat.le_of_ble_eq_true rfl) rfl ?_
    exact wp_sub [1, 0] rfl h
set_option maxHeartbeats 1000000 in
theorem sg_X0_originOf_5 {r0 : Option Nat} {r1 : Option Nat} {rc rs : Nat} {QR : Option aV → aW → Prop} {QX : String → aW → Prop} {w : aW} (h : (r1 = none → QR (some (vR none)) w) ∧ (∀ a6 : Nat, r1 = some a6 → ∃ x10 : Nat, gf w a6 [6, 7] 6 (vR (some x10)) ∧ (¬ some x10 = r0 → QR (some (vR (some a6))) w) ∧ (some x10 = r0 → ∃ x18 : Option Nat, gf w a6 [6, 7] 5 (vR x18) ∧ wp (KX0_originOf) rc rs QR QX 5 [(0, vR r0), (1, vR x18)] [] w))) : wp (KX0_originOf) rc rs QR QX 5 [(0, vR r0), (1, vR r1)] [] w := by
  refine wp_aload_n (n := 6) (i := 1) (q := 1) dX0_originOf_5 rfl rfl rfl ?_
  rcases opt_c r1 with ea6 | ⟨a6, ea6⟩
  · replace h := h.1 ea6
    rw [ea6]
    refine wp_ifnull (n := 9) (t := 25) dX0_originOf_6 rfl (by decide) (fun _ => ?_) (fun z zz => nomatch zz)
    refine wp_aload_n (n := 26) (i := 1) (q := 1) dX0_originOf_25 rfl rfl rfl ?_
    exact wp_areturn dX0_originOf_26 rfl (Or.inl ⟨_, rfl⟩) h
  · replace h := h.2 a6 ea6
    rw [ea6]
    refine wp_ifnull (n := 9) (t := 25) dX0_originOf_6 rfl (by decide) (fun zz => nomatch zz) (fun _ _ => ?_)
    refine wp_aload_n (n := 10) (i := 1) (q := 1) dX0_originOf_9 rfl rfl rfl ?_
    obtain ⟨x10, g10, h⟩ := h
    refine wp_gf (n := 13) dX0_originOf_10 rfl fl_X0_95 g10 ?_
    refine wp_aload_n (n := 14) (i := 0) (q := 0) dX0_originOf_13 rfl rfl rfl ?_
    refine wp_acmp_ne (n := 17) (t := 25) dX0_originOf_14 rfl (by decide) (fun c14 => ?_) (fun c14 => ?_)
    · replace h := h.1 c14
      refine wp_aload_n (n := 26) (i := 1) (q := 1) dX0_originOf_25 rfl rfl rfl ?_
      exact wp_areturn dX0_originOf_26 rfl (Or.inl ⟨_, rfl⟩) h
    · replace h := h.2 c14
      refine wp_aload_n (n := 18) (i := 1) (q := 1) dX0_originOf_17 rfl rfl rfl ?_
      obtain ⟨x18, g18, h⟩ := h
      refine wp_gf (n := 21) dX0_originOf_18 rfl fl_X0_99 g18 ?_
      refine wp_astore_n (n := 22) (i := 1) (ls' := [(1, vR x18), (0, vR r0)]) dX0_originOf_21 rfl rfl (Nat.le_of_ble_eq_true rfl) rfl ?_
      refine wp_goto (t := 5) dX0_originOf_22 (by decide) ?_
      exact wp_sub [1, 0] rfl h
set_option maxHeartbeats 1000000 in
theorem sg_X0_promotes_0 {h0 : Nat} {r1 : Option Nat} {rc rs : Nat} {QR : Option aV → aW → Prop} {QX : String → aW → Prop} {w : aW} (h : 1 ≤ rc ∧ 8 ≤ rs ∧ ct (KX0_originOf) 1 8 [vR r1] w (fun v1 w1 => ∃ x1 : Option Nat, v1 = some (vR x1) ∧ (x1 = none → QR (some (vI (-3))) w1) ∧ (∀ a6 : Nat, x1 = some a6 → ∃ x13 : Nat, gf w1 a6 [6, 7] 6 (vR (some x13)) ∧ wp (KX0_promotes) (rc - 1) (rs - 8) QR QX 23 [(0, vR (some h0)), (1, vR r1), (2, vR (some a6)), (3, vR (some x13)), (4, vI 0), (5, vR (some a6))] [] w1)) (fun E1 w1 => (E1 = "java/lang/NullPointerException" ∧ QX "java/lang/NullPointerException" w1))) : wp (KX0_promotes) rc rs QR QX 0 [(0, vR (some h0)), (1, vR r1)] [] w := by
  refine wp_aload_n (n := 1) (i := 1) (q := 1) dX0_promotes_0 rfl rfl rfl ?_
  obtain ⟨b1, bb1, h⟩ := h
  refine wp_call (n := 4) (K' := KX0_originOf) (rc' := rc - 1) (rs' := rs - 8) (aRun_S (K' := KX0_originOf) (As := [vR r1]) (rest := []) dX0_promotes_1 (aCal_of kf_X0_originOf (Nat.le_of_ble_eq_true rfl)) rfl q684 q685 ar_X0_originOf rfl (Nat.le_of_ble_eq_true rfl)) rfl (by omega) (by omega) (fun v1 w1 h => ?_) (fun E1 w1 h => ?_) h
  · obtain ⟨x1, rfl, h⟩ := h
    refine wp_astore_n (n := 5) (i := 2) (ls' := [(2, vR x1), (0, vR (some h0)), (1, vR r1)]) dX0_promotes_4 rfl rfl (Nat.le_of_ble_eq_true rfl) rfl ?_
    refine wp_aload_n (n := 6) (i := 2) (q := 0) dX0_promotes_5 rfl rfl rfl ?_
    rcases opt_c x1 with ea6 | ⟨a6, ea6⟩
    · replace h := h.1 ea6
      rw [ea6]
      refine wp_ifnonnull (n := 9) (t := 12) dX0_promotes_6 rfl (by decide) (fun z zz => nomatch zz) (fun _ => ?_)
      refine wp_bipush (n := 11) (v := (-3)) dX0_promotes_9 rfl (by decide) ?_
      exact wp_ireturn dX0_promotes_11 rfl h
    · replace h := h.2 a6 ea6
      rw [ea6]
      refine wp_ifnonnull (n := 9) (t := 12) dX0_promotes_6 rfl (by decide) (fun _ _ => ?_) (fun zz => nomatch zz)
      refine wp_aload_n (n := 13) (i := 2) (q := 0) dX0_promotes_12 rfl rfl rfl ?_
      obtain ⟨x13, g13, h⟩ := h
      refine wp_gf (n := 16) dX0_promotes_13 rfl fl_X0_95 g13 ?_
      refine wp_astore_n (n := 17) (i := 3) (ls' := [(3, vR (some x13)), (2, vR (some a6)), (0, vR (some h0)), (1, vR r1)]) dX0_promotes_16 rfl rfl (Nat.le_of_ble_eq_true rfl) rfl ?_
      refine wp_iconst (n := 18) (v := 0) dX0_promotes_17 rfl (by decide) ?_
      refine wp_istore (n := 20) (i := 4) (ls' := [(4, vI 0), (3, vR (some x13)), (2, vR (some a6)), (0, vR (some h0)), (1, vR r1)]) dX0_promotes_18 rfl (Nat.le_of_ble_eq_true rfl) rfl ?_
      refine wp_aload_n (n := 21) (i := 2) (q := 2) dX0_promotes_20 rfl rfl rfl ?_
      refine wp_astore (n := 23) (i := 5) (ls' := [(5, vR (some a6)), (4, vI 0), (3, vR (some x13)), (2, vR (some a6)), (0, vR (some h0)), (1, vR r1)]) dX0_promotes_21 rfl (Nat.le_of_ble_eq_true rfl) rfl ?_
      exact wp_sub [4, 5, 3, 2, 1, 0] rfl h
  · obtain ⟨rfl, h⟩ := h
    exact wpx_out (fun z hz => absurd hz List.not_mem_nil) h
set_option maxHeartbeats 1000000 in
theorem sg_X0_promotes_23 {h0 : Nat} {r1 : Option Nat} {r2 : Option Nat} {r3 : Option Nat} {i4 : Int32} {r5 : Option Nat} {rc rs : Nat} {QR : Option aV → aW → Prop} {QX : String → aW → Prop} {w : aW} (h : (r5 = none → QR (some (vI i4)) w) ∧ (∀ a25 : Nat, r5 = some a25 → ∃ x30 : Nat, gf w a25 [6, 7] 6 (vR (some x30)) ∧ (¬ some x30 = r3 → ∃ x48 : Option Nat, gf w a25 [6, 7] 5 (vR x48) ∧ wp (KX0_promotes) rc rs QR QX 23 [(0, vR (some h0)), (1, vR r1), (2, vR r2), (3, vR r3), (4, vI i4), (5, vR x48)] [] w) ∧ (some x30 = r3 → pf w a25 [6, 7] 6 (vR r1) (fun w40 => ∃ x48 : Option Nat, gf w40 a25 [6, 7] 5 (vR x48) ∧ wp (KX0_promotes) rc rs QR QX 23 [(0, vR (some h0)), (1, vR r1), (2, vR r2), (3, vR r3), (4, vI (i4 + 1)), (5, vR x48)] [] w40)))) : wp (KX0_promotes) rc rs QR QX 23 [(0, vR (some h0)), (1, vR r1), (2, vR r2), (3, vR r3), (4, vI i4), (5, vR r5)] [] w := by
  refine wp_aload (n := 25) (i := 5) (q := 5) dX0_promotes_23 rfl rfl ?_
  rcases opt_c r5 with ea25 | ⟨a25, ea25⟩
  · replace h := h.1 ea25
    rw [ea25]
    refine wp_ifnull (n := 28) (t := 56) dX0_promotes_25 rfl (by decide) (fun _ => ?_) (fun z zz => nomatch zz)
    refine wp_iload (n := 58) (i := 4) (q := 4) dX0_promotes_56 rfl rfl ?_
    exact wp_ireturn dX0_promotes_58 rfl h
  · replace h := h.2 a25 ea25
    rw [ea25]
    refine wp_ifnull (n := 28) (t := 56) dX0_promotes_25 rfl (by decide) (fun zz => nomatch zz) (fun _ _ => ?_)
    refine wp_aload (n := 30) (i := 5) (q := 5) dX0_promotes_28 rfl rfl ?_
    obtain ⟨x30, g30, h⟩ := h
    refine wp_gf (n := 33) dX0_promotes_30 rfl fl_X0_95 g30 ?_
    refine wp_aload_n (n := 34) (i := 3) (q := 3) dX0_promotes_33 rfl rfl rfl ?_
    refine wp_acmp_ne (n := 37) (t := 46) dX0_promotes_34 rfl (by decide) (fun c34 => ?_) (fun c34 => ?_)
    · replace h := h.1 c34
      refine wp_aload (n := 48) (i := 5) (q := 5) dX0_promotes_46 rfl rfl ?_
      obtain ⟨x48, g48, h⟩ := h
      refine wp_gf (n := 51) dX0_promotes_48 rfl fl_X0_99 g48 ?_
      refine wp_astore (n := 53) (i := 5) (ls' := [(5, vR x48), (0, vR (some h0)), (1, vR r1), (2, vR r2), (3, vR r3), (4, vI i4)]) dX0_promotes_51 rfl (Nat.le_of_ble_eq_true rfl) rfl ?_
      refine wp_goto (t := 23) dX0_promotes_53 (by decide) ?_
      exact wp_sub [1, 2, 3, 4, 5, 0] rfl h
    · replace h := h.2 c34
      refine wp_aload (n := 39) (i := 5) (q := 5) dX0_promotes_37 rfl rfl ?_
      refine wp_aload_n (n := 40) (i := 1) (q := 1) dX0_promotes_39 rfl rfl rfl ?_
      refine wp_pf (n := 43) dX0_promotes_40 rfl (pt_X0_95 _) (nar_o _ _) (fit_o _ _) (pf_mono h (fun w40 h => ?_))
      refine wp_iinc (n := 46) (i := 4) (q := 4) (v := i4 + 1) (ls' := [(4, vI (i4 + 1)), (0, vR (some h0)), (1, vR r1), (2, vR r2), (3, vR r3), (5, vR (some a25))]) dX0_promotes_43 rfl rfl rfl (Nat.le_of_ble_eq_true rfl) rfl ?_
      refine wp_aload (n := 48) (i := 5) (q := 5) dX0_promotes_46 rfl rfl ?_
      obtain ⟨x48, g48, h⟩ := h
      refine wp_gf (n := 51) dX0_promotes_48 rfl fl_X0_99 g48 ?_
      refine wp_astore (n := 53) (i := 5) (ls' := [(5, vR x48), (4, vI (i4 + 1)), (0, vR (some h0)), (1, vR r1), (2, vR r2), (3, vR r3)]) dX0_promotes_51 rfl (Nat.le_of_ble_eq_true rfl) rfl ?_
      refine wp_goto (t := 23) dX0_promotes_53 (by decide) ?_
      exact wp_sub [2, 3, 4, 5, 1, 0] rfl h
set_option maxHeartbeats 1000000 in
theorem sg_X0_promote_0 {h0 : Nat} {i1 : Int32} {rc rs : Nat} {QR : Option aV → aW → Prop} {QX : String → aW → Prop} {w : aW} (h : 1 ≤ rc ∧ 6 ≤ rs ∧ isO w h0 0 ∧ ct (KX0_thingAt) 1 6 [vR (some h0), vI i1] w (fun v3 w3 => ∃ x3 : Option Nat, v3 = some (vR x3) ∧ (x3 = none → 1 ≤ (rc - 1) ∧ 8 ≤ (rs - 6) ∧ isO w3 h0 0 ∧ ct (KX0_promotes) 1 8 [vR (some h0), vR none] w3 (fun v9 w9 => ∃ x9 : Int32, v9 = some (vI x9) ∧ QR (some (vI x9)) w9) (fun E9 w9 => (E9 = "java/lang/NullPointerException" ∧ QR (some (vI (-11))) w9))) ∧ (∀ a6 : Nat, x3 = some a6 → ((ck w3 a6 [4, 5] ∧ 1 ≤ (rc - 1) ∧ 8 ≤ (rs - 6) ∧ isO w3 h0 0 ∧ ct (KX0_promotes) 1 8 [vR (some h0), vR (some a6)] w3 (fun v9 w9 => ∃ x9 : Int32, v9 = some (vI x9) ∧ QR (some (vI x9)) w9) (fun E9 w9 => (E9 = "java/lang/NullPointerException" ∧ QR (some (vI (-11))) w9))) ∨ (ck w3 a6 [6, 7, 8] ∧ 3 ≤ (rc - 1) ∧ 950 ≤ (rs - 6) ∧ QR (some (vI (-13))) w3)))) (fun E3 w3 => (E3 = "java/lang/IndexOutOfBoundsException" ∧ QR (some (vI (-12))) w3))) : wp (KX0_promote) rc rs QR QX 0 [(0, vR (some h0)), (1, vI i1)] [] w := by
  refine wp_aload_n (n := 1) (i := 0) (q := 0) dX0_promote_0 rfl rfl rfl ?_
  refine wp_aload_n (n := 2) (i := 0) (q := 0) dX0_promote_1 rfl rfl rfl ?_
  refine wp_iload_n (n := 3) (i := 1) (q := 1) dX0_promote_2 rfl rfl rfl ?_
  obtain ⟨b3, bb3, h⟩ := h
  obtain ⟨⟨fs3, o3⟩, h⟩ := h
  refine wp_call (n := 6) (K' := KX0_thingAt) (rc' := rc - 1) (rs' := rs - 6) (aRun_V (K' := KX0_thingAt) (As := [vI i1]) (rest := [vR (some h0)]) (b := h0) (c0 := .inr (0, fs3)) dX0_promote_3 (aCal_of kf_X0_thingAt (Nat.le_of_ble_eq_true rfl)) q451 q453 qs4 ar_X0_thingAt o3 (by decide : 0 < 9) rfl (Nat.le_of_ble_eq_true rfl)) rfl (by omega) (by omega) (fun v3 w3 h => ?_) (fun E3 w3 h => ?_) h
  · obtain ⟨x3, rfl, h⟩ := h
    rcases opt_c x3 with ea6 | ⟨a6, ea6⟩
    · replace h := h.1 ea6
      rw [ea6]
      refine wp_castN (n := 9) dX0_promote_6 rfl ?_
      obtain ⟨b9, bb9, h⟩ := h
      obtain ⟨⟨fs9, o9⟩, h⟩ := h
      refine wp_call (n := 12) (K' := KX0_promotes) (rc' := rc - 1 - 1) (rs' := rs - 6 - 8) (aRun_V (K' := KX0_promotes) (As := [vR none]) (rest := []) (b := h0) (c0 := .inr (0, fs9)) dX0_promote_9 (aCal_of kf_X0_promotes (Nat.le_of_ble_eq_true rfl)) q680 q682 qs25 ar_X0_promotes o9 (by decide : 0 < 9) rfl (Nat.le_of_ble_eq_true rfl)) rfl (by omega) (by omega) (fun v9 w9 h => ?_) (fun E9 w9 h => ?_) h
      · obtain ⟨x9, rfl, h⟩ := h
        exact wp_ireturn dX0_promote_12 rfl h
      · obtain ⟨rfl, h⟩ := h
        refine wpx_catch (nm := "java/lang/NullPointerException") [(0, 12, 13, 53)] (0, 12, 17, 169) [(0, 12, 21, 171)] rfl (fun z hz => by have hz : z ∈ ([(0, 12, 13, 53)] : List (Nat × Nat × Nat × Nat)) := hz; simp only [List.mem_cons, List.not_mem_nil, or_false] at hz; subst hz; exact Or.inr ⟨by decide, "java/lang/IndexOutOfBoundsException", q320, nc_NullPointerException_IndexOutOfBoundsException⟩) (by decide) (by decide) q411 q433 (fun q9 => ?_)
        refine wp_astore_n (n := 18) (i := 2) (ls' := [(2, vR (some q9)), (0, vR (some h0)), (1, vI i1)]) dX0_promote_17 rfl rfl (Nat.le_of_ble_eq_true rfl) rfl ?_
        refine wp_bipush (n := 20) (v := (-11)) dX0_promote_18 rfl (by decide) ?_
        exact wp_ireturn dX0_promote_20 rfl h
    · replace h := h.2 a6 ea6
      rw [ea6]
      rcases h with h | h
      · obtain ⟨k6, h⟩ := h
        refine wp_ckY (n := 9) dX0_promote_6 rfl q235 cok_Folder k6 ?_
        obtain ⟨b9, bb9, h⟩ := h
        obtain ⟨⟨fs9, o9⟩, h⟩ := h
        refine wp_call (n := 12) (K' := KX0_promotes) (rc' := rc - 1 - 1) (rs' := rs - 6 - 8) (aRun_V (K' := KX0_promotes) (As := [vR (some a6)]) (rest := []) (b := h0) (c0 := .inr (0, fs9)) dX0_promote_9 (aCal_of kf_X0_promotes (Nat.le_of_ble_eq_true rfl)) q680 q682 qs25 ar_X0_promotes o9 (by decide : 0 < 9) rfl (Nat.le_of_ble_eq_true rfl)) rfl (by omega) (by omega) (fun v9 w9 h => ?_) (fun E9 w9 h => ?_) h
        · obtain ⟨x9, rfl, h⟩ := h
          exact wp_ireturn dX0_promote_12 rfl h
        · obtain ⟨rfl, h⟩ := h
          refine wpx_catch (nm := "java/lang/NullPointerException") [(0, 12, 13, 53)] (0, 12, 17, 169) [(0, 12, 21, 171)] rfl (fun z hz => by have hz : z ∈ ([(0, 12, 13, 53)] : List (Nat × Nat × Nat × Nat)) := hz; simp only [List.mem_cons, List.not_mem_nil, or_false] at hz; subst hz; exact Or.inr ⟨by decide, "java/lang/IndexOutOfBoundsException", q320, nc_NullPointerException_IndexOutOfBoundsException⟩) (by decide) (by decide) q411 q433 (fun q9 => ?_)
          refine wp_astore_n (n := 18) (i := 2) (ls' := [(2, vR (some q9)), (0, vR (some h0)), (1, vI i1)]) dX0_promote_17 rfl rfl (Nat.le_of_ble_eq_true rfl) rfl ?_
          refine wp_bipush (n := 20) (v := (-11)) dX0_promote_18 rfl (by decide) ?_
          exact wp_ireturn dX0_promote_20 rfl h
      · obtain ⟨k6, b1, b2, h⟩ := h
        refine wp_ckX (rc' := 0) (rs' := 0) dX0_promote_6 q235 cno_Folder sn_Folder k6 (by omega) (by omega) (Nat.le_of_ble_eq_true rfl) ?_
        refine wpx_catch (nm := "java/lang/ClassCastException") [(0, 12, 13, 53), (0, 12, 17, 169)] (0, 12, 21, 171) [] rfl (fun z hz => by have hz : z ∈ ([(0, 12, 13, 53), (0, 12, 17, 169)] : List (Nat × Nat × Nat × Nat)) := hz; simp only [List.mem_cons, List.not_mem_nil, or_false] at hz; rcases hz with rfl | rfl; exact Or.inr ⟨by decide, "java/lang/IndexOutOfBoundsException", q320, nc_ClassCastException_IndexOutOfBoundsException⟩; exact Or.inr ⟨by decide, "java/lang/NullPointerException", q411, nc_ClassCastException_NullPointerException⟩) (by decide) (by decide) q436 q448 (fun q9 => ?_)
        refine wp_astore_n (n := 22) (i := 2) (ls' := [(2, vR (some q9)), (0, vR (some h0)), (1, vI i1)]) dX0_promote_21 rfl rfl (Nat.le_of_ble_eq_true rfl) rfl ?_
        refine wp_bipush (n := 24) (v := (-13)) dX0_promote_22 rfl (by decide) ?_
        exact wp_ireturn dX0_promote_24 rfl h
  · obtain ⟨rfl, h⟩ := h
    refine wpx_catch (nm := "java/lang/IndexOutOfBoundsException") [] (0, 12, 13, 53) [(0, 12, 17, 169), (0, 12, 21, 171)] rfl (fun z hz => absurd hz List.not_mem_nil) (by decide) (by decide) q320 q459 (fun q9 => ?_)
    refine wp_astore_n (n := 14) (i := 2) (ls' := [(2, vR (some q9)), (0, vR (some h0)), (1, vI i1)]) dX0_promote_13 rfl rfl (Nat.le_of_ble_eq_true rfl) rfl ?_
    refine wp_bipush (n := 16) (v := (-12)) dX0_promote_14 rfl (by decide) ?_
    exact wp_ireturn dX0_promote_16 rfl h
set_option maxHeartbeats 1000000 in
theorem sg_X0_rollsBack_0 {h0 : Nat} {r1 : Option Nat} {rc rs : Nat} {QR : Option aV → aW → Prop} {QX : String → aW → Prop} {w : aW} (h : (r1 = none → 1 ≤ rc ∧ 8 ≤ rs ∧ QX "java/lang/NullPointerException" w) ∧ (∀ a1 : Nat, r1 = some a1 → ∃ x1 : Option Nat, gf w a1 [4, 5] 5 (vR x1) ∧ (x1 = none → QR (some (vI (-3))) w) ∧ (∀ a4 : Nat, x1 = some a4 → isO w h0 0 ∧ ct (KX0_freesLive) 0 0 [vR (some h0), vR (some a1)] w (fun v12 w12 => ∃ x12 : Int32, v12 = some (vI x12) ∧ ∃ x18 : Option Nat, gf w12 a1 [4, 5] 5 (vR x18) ∧ ck w12 a1 [4, 5] ∧ ct (KX4_takesSlots) 0 0 [vR (some a1), vR x18] w12 (fun v21 w21 => v21 = none ∧ pf w21 a1 [4, 5] 3 (vI 0) (fun w26 => QR (some (vI x12)) w26)) (fun E21 w21 => False)) (fun E12 w12 => False)))) : wp (KX0_rollsBack) rc rs QR QX 0 [(0, vR (some h0)), (1, vR r1)] [] w := by
  refine wp_aload_n (n := 1) (i := 1) (q := 1) dX0_rollsBack_0 rfl rfl rfl ?_
  rcases opt_c r1 with ea1 | ⟨a1, ea1⟩
  · obtain ⟨b1, b2, h⟩ := h.1 ea1
    rw [ea1]
    refine wp_getfNull (rc' := 0) (rs' := 0) dX0_rollsBack_1 (fl_X0_92 4 (by decide)) (by omega) (by omega) (Nat.le_of_ble_eq_true rfl) ?_
    exact wpx_out (fun z hz => absurd hz List.not_mem_nil) h
  · replace h := h.2 a1 ea1
    rw [ea1]
    obtain ⟨x1, g1, h⟩ := h
    refine wp_gf (n := 4) dX0_rollsBack_1 rfl fl_X0_92 g1 ?_
    rcases opt_c x1 with ea4 | ⟨a4, ea4⟩
    · replace h := h.1 ea4
      rw [ea4]
      refine wp_ifnonnull (n := 7) (t := 10) dX0_rollsBack_4 rfl (by decide) (fun z zz => nomatch zz) (fun _ => ?_)
      refine wp_bipush (n := 9) (v := (-3)) dX0_rollsBack_7 rfl (by decide) ?_
      exact wp_ireturn dX0_rollsBack_9 rfl h
    · replace h := h.2 a4 ea4
      rw [ea4]
      refine wp_ifnonnull (n := 7) (t := 10) dX0_rollsBack_4 rfl (by decide) (fun _ _ => ?_) (fun zz => nomatch zz)
      refine wp_aload_n (n := 11) (i := 0) (q := 0) dX0_rollsBack_10 rfl rfl rfl ?_
      refine wp_aload_n (n := 12) (i := 1) (q := 1) dX0_rollsBack_11 rfl rfl rfl ?_
      obtain ⟨⟨fs12, o12⟩, h⟩ := h
      refine wp_call (n := 15) (K' := KX0_freesLive) (rc' := rc) (rs' := rs) (aRun_V (K' := KX0_freesLive) (As := [vR (some a1)]) (rest := []) (b := h0) (c0 := .inr (0, fs12)) dX0_rollsBack_12 (aCal_of kf_X0_freesLive (Nat.le_of_ble_eq_true rfl)) q636 q638 qs18 ar_X0_freesLive o12 (by decide : 0 < 9) rfl (Nat.le_of_ble_eq_true rfl)) rfl (Nat.le_of_eq (Nat.zero_add _)) (Nat.le_of_eq (Nat.zero_add _)) (fun v12 w12 h => ?_) (fun E12 w12 h => ?_) h
      · obtain ⟨x12, rfl, h⟩ := h
        refine wp_istore_n (n := 16) (i := 2) (ls' := [(2, vI x12), (0, vR (some h0)), (1, vR (some a1))]) dX0_rollsBack_15 rfl rfl (Nat.le_of_ble_eq_true rfl) rfl ?_
        refine wp_aload_n (n := 17) (i := 1) (q := 2) dX0_rollsBack_16 rfl rfl rfl ?_
        refine wp_aload_n (n := 18) (i := 1) (q := 2) dX0_rollsBack_17 rfl rfl rfl ?_
        obtain ⟨x18, g18, h⟩ := h
        refine wp_gf (n := 21) dX0_rollsBack_18 rfl fl_X0_92 g18 ?_
        obtain ⟨⟨cc21, o21, kk21⟩, h⟩ := h
        have run21 : aRun (KX0_rollsBack) (KX4_takesSlots) 21 [vR (some a1), vR x18] [vR x18, vR (some a1)] [] w12 := by
          simp only [List.mem_cons, List.not_mem_nil, or_false] at kk21
          rcases kk21 with kk21 | kk21
          · obtain ⟨fs21, rfl⟩ := kd_o kk21 (by decide)
            exact (aRun_U (K' := KX4_takesSlots) (As := [vR x18]) (rest := []) (b := a1) (x := ⟨"DeadListPool$Folder", "takesSlots", "(LDeadListPool$Holder;)V"⟩) (owner := "DeadListPool$Holder") (c0 := .inr (4, fs21)) dX0_rollsBack_21 (aCal_of kf_X4_takesSlots (Nat.le_of_ble_eq_true rfl)) rfl q615 q616 q618 q546 (Or.inr q543) ⟨by decide, by decide⟩ ar_X4_takesSlots o21 (by decide : 4 < 9) rfl (Nat.le_of_ble_eq_true rfl))
          · obtain ⟨fs21, rfl⟩ := kd_o kk21 (by decide)
            exact (aRun_U (K' := KX4_takesSlots) (As := [vR x18]) (rest := []) (b := a1) (x := ⟨"DeadListPool$Folder", "takesSlots", "(LDeadListPool$Holder;)V"⟩) (owner := "DeadListPool$Holder") (c0 := .inr (5, fs21)) dX0_rollsBack_21 (aCal_of kf_X4_takesSlots (Nat.le_of_ble_eq_true rfl)) rfl q615 q616 q617 q546 (Or.inr q543) ⟨by decide, by decide⟩ ar_X4_takesSlots o21 (by decide : 5 < 9) rfl (Nat.le_of_ble_eq_true rfl))
        refine wp_call (n := 24) (K' := KX4_takesSlots) (rc' := rc) (rs' := rs) run21 rfl (Nat.le_of_eq (Nat.zero_add _)) (Nat.le_of_eq (Nat.zero_add _)) (fun v21 w21 h => ?_) (fun E21 w21 h => ?_) h
        · obtain ⟨rfl, h⟩ := h
          refine wp_aload_n (n := 25) (i := 1) (q := 2) dX0_rollsBack_24 rfl rfl rfl ?_
          refine wp_iconst (n := 26) (v := 0) dX0_rollsBack_25 rfl (by decide) ?_
          refine wp_pf (n := 29) dX0_rollsBack_26 rfl (pt_X0_184 _) rfl rfl (pf_mono h (fun w26 h => ?_))
          refine wp_iload_n (n := 30) (i := 2) (q := 0) dX0_rollsBack_29 rfl rfl rfl ?_
          exact wp_ireturn dX0_rollsBack_30 rfl h
        · exact h.elim
      · exact h.elim
set_option maxHeartbeats 1000000 in
theorem sg_X0_rollback_0 {h0 : Nat} {i1 : Int32} {rc rs : Nat} {QR : Option aV → aW → Prop} {QX : String → aW → Prop} {w : aW} (h : 1 ≤ rc ∧ 6 ≤ rs ∧ isO w h0 0 ∧ ct (KX0_thingAt) 1 6 [vR (some h0), vI i1] w (fun v3 w3 => ∃ x3 : Option Nat, v3 = some (vR x3) ∧ (x3 = none → 1 ≤ (rc - 1) ∧ 8 ≤ (rs - 6) ∧ isO w3 h0 0 ∧ ct (KX0_rollsBack) 1 8 [vR (some h0), vR none] w3 (fun v9 w9 => ∃ x9 : Int32, v9 = some (vI x9) ∧ QR (some (vI x9)) w9) (fun E9 w9 => (E9 = "java/lang/NullPointerException" ∧ QR (some (vI (-11))) w9))) ∧ (∀ a6 : Nat, x3 = some a6 → ((ck w3 a6 [4, 5] ∧ 1 ≤ (rc - 1) ∧ 8 ≤ (rs - 6) ∧ isO w3 h0 0 ∧ ct (KX0_rollsBack) 1 8 [vR (some h0), vR (some a6)] w3 (fun v9 w9 => ∃ x9 : Int32, v9 = some (vI x9) ∧ QR (some (vI x9)) w9) (fun E9 w9 => (E9 = "java/lang/NullPointerException" ∧ QR (some (vI (-11))) w9))) ∨ (ck w3 a6 [6, 7, 8] ∧ 3 ≤ (rc - 1) ∧ 950 ≤ (rs - 6) ∧ QR (some (vI (-13))) w3)))) (fun E3 w3 => (E3 = "java/lang/IndexOutOfBoundsException" ∧ QR (some (vI (-12))) w3))) : wp (KX0_rollback) rc rs QR QX 0 [(0, vR (some h0)), (1, vI i1)] [] w := by
  refine wp_aload_n (n := 1) (i := 0) (q := 0) dX0_rollback_0 rfl rfl rfl ?_
  refine wp_aload_n (n := 2) (i := 0) (q := 0) dX0_rollback_1 rfl rfl rfl ?_
  refine wp_iload_n (n := 3) (i := 1) (q := 1) dX0_rollback_2 rfl rfl rfl ?_
  obtain ⟨b3, bb3, h⟩ := h
  obtain ⟨⟨fs3, o3⟩, h⟩ := h
  refine wp_call (n := 6) (K' := KX0_thingAt) (rc' := rc - 1) (rs' := rs - 6) (aRun_V (K' := KX0_thingAt) (As := [vI i1]) (rest := [vR (some h0)]) (b := h0) (c0 := .inr (0, fs3)) dX0_rollback_3 (aCal_of kf_X0_thingAt (Nat.le_of_ble_eq_true rfl)) q451 q453 qs4 ar_X0_thingAt o3 (by decide : 0 < 9) rfl (Nat.le_of_ble_eq_true rfl)) rfl (by omega) (by omega) (fun v3 w3 h => ?_) (fun E3 w3 h => ?_) h
  · obtain ⟨x3, rfl, h⟩ := h
    rcases opt_c x3 with ea6 | ⟨a6, ea6⟩
    · replace h := h.1 ea6
      rw [ea6]
      refine wp_castN (n := 9) dX0_rollback_6 rfl ?_
      obtain ⟨b9, bb9, h⟩ := h
      obtain ⟨⟨fs9, o9⟩, h⟩ := h
      refine wp_call (n := 12) (K' := KX0_rollsBack) (rc' := rc - 1 - 1) (rs' := rs - 6 - 8) (aRun_V (K' := KX0_rollsBack) (As := [vR none]) (rest := []) (b := h0) (c0 := .inr (0, fs9)) dX0_rollback_9 (aCal_of kf_X0_rollsBack (Nat.le_of_ble_eq_true rfl)) q691 q693 qs26 ar_X0_rollsBack o9 (by decide : 0 < 9) rfl (Nat.le_of_ble_eq_true rfl)) rfl (by omega) (by omega) (fun v9 w9 h => ?_) (fun E9 w9 h => ?_) h
      · obtain ⟨x9, rfl, h⟩ := h
        exact wp_ireturn dX0_rollback_12 rfl h
      · obtain ⟨rfl, h⟩ := h
        refine wpx_catch (nm := "java/lang/NullPointerException") [(0, 12, 13, 53)] (0, 12, 17, 169) [(0, 12, 21, 171)] rfl (fun z hz => by have hz : z ∈ ([(0, 12, 13, 53)] : List (Nat × Nat × Nat × Nat)) := hz; simp only [List.mem_cons, List.not_mem_nil, or_false] at hz; subst hz; exact Or.inr ⟨by decide, "java/lang/IndexOutOfBoundsException", q320, nc_NullPointerException_IndexOutOfBoundsException⟩) (by decide) (by decide) q411 q433 (fun q9 => ?_)
        refine wp_astore_n (n := 18) (i := 2) (ls' := [(2, vR (some q9)), (0, vR (some h0)), (1, vI i1)]) dX0_rollback_17 rfl rfl (Nat.le_of_ble_eq_true rfl) rfl ?_
        refine wp_bipush (n := 20) (v := (-11)) dX0_rollback_18 rfl (by decide) ?_
        exact wp_ireturn dX0_rollback_20 rfl h
    · replace h := h.2 a6 ea6
      rw [ea6]
      rcases h with h | h
      · obtain ⟨k6, h⟩ := h
        refine wp_ckY (n := 9) dX0_rollback_6 rfl q235 cok_Folder k6 ?_
        obtain ⟨b9, bb9, h⟩ := h
        obtain ⟨⟨fs9, o9⟩, h⟩ := h
        refine wp_call (n := 12) (K' := KX0_rollsBack) (rc' := rc - 1 - 1) (rs' := rs - 6 - 8) (aRun_V (K' := KX0_rollsBack) (As := [vR (some a6)]) (rest := []) (b := h0) (c0 := .inr (0, fs9)) dX0_rollback_9 (aCal_of kf_X0_rollsBack (Nat.le_of_ble_eq_true rfl)) q691 q693 qs26 ar_X0_rollsBack o9 (by decide : 0 < 9) rfl (Nat.le_of_ble_eq_true rfl)) rfl (by omega) (by omega) (fun v9 w9 h => ?_) (fun E9 w9 h => ?_) h
        · obtain ⟨x9, rfl, h⟩ := h
          exact wp_ireturn dX0_rollback_12 rfl h
        · obtain ⟨rfl, h⟩ := h
          refine wpx_catch (nm := "java/lang/NullPointerException") [(0, 12, 13, 53)] (0, 12, 17, 169) [(0, 12, 21, 171)] rfl (fun z hz => by have hz : z ∈ ([(0, 12, 13, 53)] : List (Nat × Nat × Nat × Nat)) := hz; simp only [List.mem_cons, List.not_mem_nil, or_false] at hz; subst hz; exact Or.inr ⟨by decide, "java/lang/IndexOutOfBoundsException", q320, nc_NullPointerException_IndexOutOfBoundsException⟩) (by decide) (by decide) q411 q433 (fun q9 => ?_)
          refine wp_astore_n (n := 18) (i := 2) (ls' := [(2, vR (some q9)), (0, vR (some h0)), (1, vI i1)]) dX0_rollback_17 rfl rfl (Nat.le_of_ble_eq_true rfl) rfl ?_
          refine wp_bipush (n := 20) (v := (-11)) dX0_rollback_18 rfl (by decide) ?_
          exact wp_ireturn dX0_rollback_20 rfl h
      · obtain ⟨k6, b1, b2, h⟩ := h
        refine wp_ckX (rc' := 0) (rs' := 0) dX0_rollback_6 q235 cno_Folder sn_Folder k6 (by omega) (by omega) (Nat.le_of_ble_eq_true rfl) ?_
        refine wpx_catch (nm := "java/lang/ClassCastException") [(0, 12, 13, 53), (0, 12, 17, 169)] (0, 12, 21, 171) [] rfl (fun z hz => by have hz : z ∈ ([(0, 12, 13, 53), (0, 12, 17, 169)] : List (Nat × Nat × Nat × Nat)) := hz; simp only [List.mem_cons, List.not_mem_nil, or_false] at hz; rcases hz with rfl | rfl; exact Or.inr ⟨by decide, "java/lang/IndexOutOfBoundsException", q320, nc_ClassCastException_IndexOutOfBoundsException⟩; exact Or.inr ⟨by decide, "java/lang/NullPointerException", q411, nc_ClassCastException_NullPointerException⟩) (by decide) (by decide) q436 q448 (fun q9 => ?_)
        refine wp_astore_n (n := 22) (i := 2) (ls' := [(2, vR (some q9)), (0, vR (some h0)), (1, vI i1)]) dX0_rollback_21 rfl rfl (Nat.le_of_ble_eq_true rfl) rfl ?_
        refine wp_bipush (n := 24) (v := (-13)) dX0_rollback_22 rfl (by decide) ?_
        exact wp_ireturn dX0_rollback_24 rfl h
  · obtain ⟨rfl, h⟩ := h
    refine wpx_catch (nm := "java/lang/IndexOutOfBoundsException") [] (0, 12, 13, 53) [(0, 12, 17, 169), (0, 12, 21, 171)] rfl (fun z hz => absurd hz List.not_mem_nil) (by decide) (by decide) q320 q459 (fun q9 => ?_)
    refine wp_astore_n (n := 14) (i := 2) (ls' := [(2, vR (some q9)), (0, vR (some h0)), (1, vI i1)]) dX0_rollback_13 rfl rfl (Nat.le_of_ble_eq_true rfl) rfl ?_
    refine wp_bipush (n := 16) (v := (-12)) dX0_rollback_14 rfl (by decide) ?_
    exact wp_ireturn dX0_rollback_16 rfl h
set_option maxHeartbeats 1000000 in
theorem sg_X6_init_0 {h0 : Nat} {i1 : Int32} {i2 : Int32} {rc rs : Nat} {QR : Option aV → aW → Prop} {QX : String → aW → Prop} {w : aW} (h : 2 ≤ rc ∧ 24 ≤ rs ∧ ct (KX5_init) 2 24 [vR (some h0), vI i1, vR none] w (fun v3 w3 => v3 = none ∧ pf w3 h0 [5] 6 (vI i2) (fun w8 => QR none w8)) (fun E3 w3 => False)) : wp (KX6_init) rc rs QR QX 0 [(0, vR (some h0)), (1, vI i1), (2, vI i2)] [] w := by
  refine wp_aload_n (n := 1) (i := 0) (q := 0) dX6_init_0 rfl rfl rfl ?_
  refine wp_iload_n (n := 2) (i := 1) (q := 1) dX6_init_1 rfl rfl rfl ?_
  refine wp_null (n := 3) dX6_init_2 rfl ?_
  obtain ⟨b3, bb3, h⟩ := h
  refine wp_call (n := 6) (K' := KX5_init) (rc' := rc - 2) (rs' := rs - 24) (aRun_I (K' := KX5_init) (As := [vI i1, vR none]) (rest := []) (b := h0) dX6_init_3 (aCal_of kf_X5_init (Nat.le_of_ble_eq_true rfl)) rfl q301 q238 rfl rfl ar_X5_init rfl (Nat.le_of_ble_eq_true rfl)) rfl (by omega) (by omega) (fun v3 w3 h => ?_) (fun E3 w3 h => ?_) h
  · obtain ⟨rfl, h⟩ := h
    refine wp_aload_n (n := 7) (i := 0) (q := 0) dX6_init_6 rfl rfl rfl ?_
    refine wp_iload_n (n := 8) (i := 2) (q := 2) dX6_init_7 rfl rfl rfl ?_
    refine wp_pf (n := 11) dX6_init_8 rfl pti_X6_7 rfl rfl (pf_mono h (fun w8 h => ?_))
    exact wp_return dX6_init_11 rfl h
  · exact h.elim
set_option maxHeartbeats 1000000 in
theorem sg_X0_files_0 {h0 : Nat} {i1 : Int32} {rc rs : Nat} {QR : Option aV → aW → Prop} {QX : String → aW → Prop} {w : aW} (h : ct (KX0_in) 0 0 [vL (Int32.toInt64 i1), vL (-1), vL 1000000000] w (fun v8 w8 => ∃ x8 : Int32, v8 = some (vI x8) ∧ (¬ x8 = 0 → isO w8 h0 0 ∧ ct (KX0_leastThing) 0 0 [vR (some h0)] w8 (fun v18 w18 => ∃ x18 : Int32, v18 = some (vI x18) ∧ (¬ x18 = (-1) → (¬ i1 = (-1) → 1 ≤ rc ∧ 7 ≤ rs ∧ ∀ (a49 : Nat) (w49 : aW), w18 a49 = none → w49 = aup w18 a49 (.inr (5, [vI 0, vR none, vR none, vI 0, vI 0, vR none, vI 0])) → ∃ x54 : Int32, gf w49 h0 [0] 2 (vI x54) ∧ 2 ≤ (rc - 1) ∧ 24 ≤ (rs - 7) ∧ ct (KX6_init) 2 24 [vR (some a49), vI x54, vI i1] w49 (fun v58 w58 => v58 = none ∧ isO w58 h0 0 ∧ ct (KX0_takesPlace) 0 0 [vR (some h0), vR (some a49)] w58 (fun v61 w61 => ∃ x61 : Int32, v61 = some (vI x61) ∧ QR (some (vI x61)) w61) (fun E61 w61 => False)) (fun E58 w58 => False)) ∧ (i1 = (-1) → 1 ≤ rc ∧ 6 ≤ rs ∧ ∀ (a34 : Nat) (w34 : aW), w18 a34 = none → w34 = aup w18 a34 (.inr (4, [vI 0, vR none, vR none, vI 0, vI 0, vR none])) → ∃ x39 : Int32, gf w34 h0 [0] 2 (vI x39) ∧ 2 ≤ (rc - 1) ∧ 24 ≤ (rs - 6) ∧ ct (KX5_init) 2 24 [vR (some a34), vI x39, vR none] w34 (fun v43 w43 => v43 = none ∧ isO w43 h0 0 ∧ ct (KX0_takesPlace) 0 0 [vR (some h0), vR (some a34)] w43 (fun v61 w61 => ∃ x61 : Int32, v61 = some (vI x61) ∧ QR (some (vI x61)) w61) (fun E61 w61 => False)) (fun E43 w43 => False))) ∧ (x18 = (-1) → QR (some (vI (-4))) w18)) (fun E18 w18 => False)) ∧ (x8 = 0 → QR (some (vI (-2))) w8)) (fun E8 w8 => False)) : wp (KX0_files) rc rs QR QX 0 [(0, vR (some h0)), (1, vI i1)] [] w := by
  refine wp_iload_n (n := 1) (i := 1) (q := 1) dX0_files_0 rfl rfl rfl ?_
  refine wp_i2l (n := 2) dX0_files_1 rfl ?_
  refine wp_ldc2 (n := 5) dX0_files_2 rfl q226 ?_
  refine wp_ldc2 (n := 8) dX0_files_5 rfl q227 ?_
  refine wp_call (n := 11) (K' := KX0_in) (rc' := rc) (rs' := rs) (aRun_S (K' := KX0_in) (As := [vL (Int32.toInt64 i1), vL (-1), vL 1000000000]) (rest := []) dX0_files_8 (aCal_of kf_X0_in (Nat.le_of_ble_eq_true rfl)) rfl q228 q229 ar_X0_in rfl (Nat.le_of_ble_eq_true rfl)) rfl (Nat.le_of_eq (Nat.zero_add _)) (Nat.le_of_eq (Nat.zero_add _)) (fun v8 w8 h => ?_) (fun E8 w8 h => ?_) h
  · obtain ⟨x8, rfl, h⟩ := h
    refine wp_if_ne (n := 14) (t := 17) dX0_files_11 rfl (by decide) (fun c11 => ?_) (fun c11 => ?_)
    · replace h := h.1 c11
      refine wp_aload_n (n := 18) (i := 0) (q := 0) dX0_files_17 rfl rfl rfl ?_
      obtain ⟨⟨fs18, o18⟩, h⟩ := h
      refine wp_call (n := 21) (K' := KX0_leastThing) (rc' := rc) (rs' := rs) (aRun_V (K' := KX0_leastThing) (As := []) (rest := []) (b := h0) (c0 := .inr (0, fs18)) dX0_files_18 (aCal_of kf_X0_leastThing (Nat.le_of_ble_eq_true rfl)) q231 q233 qs0 ar_X0_leastThing o18 (by decide : 0 < 9) rfl (Nat.le_of_ble_eq_true rfl)) rfl (Nat.le_of_eq (Nat.zero_add _)) (Nat.le_of_eq (Nat.zero_add _)) (fun v18 w18 h => ?_) (fun E18 w18 h => ?_) h
      · obtain ⟨x18, rfl, h⟩ := h
        refine wp_iconst (n := 22) (v := (-1)) dX0_files_21 rfl (by decide) ?_
        refine wp_icmp_ne (n := 25) (t := 28) dX0_files_22 rfl (by decide) (fun c22 => ?_) (fun c22 => ?_)
        · replace h := h.1 c22
          refine wp_aload_n (n := 29) (i := 0) (q := 0) dX0_files_28 rfl rfl rfl ?_
          refine wp_iload_n (n := 30) (i := 1) (q := 1) dX0_files_29 rfl rfl rfl ?_
          refine wp_iconst (n := 31) (v := (-1)) dX0_files_30 rfl (by decide) ?_
          refine wp_icmp_ne (n := 34) (t := 49) dX0_files_31 rfl (by decide) (fun c31 => ?_) (fun c31 => ?_)
          · replace h := h.1 c31
            obtain ⟨b1, b2, h⟩ := h
            refine wp_new (n := 52) (rc' := rc - 1) (rs' := rs - 7) dX0_files_49 rfl nw_X0_111 (by omega) (by show _ + 7 ≤ _; omega) (fun a49 f49 => ?_)
            obtain ⟨w49, ew49⟩ : ∃ z, z = aup w18 a49 (.inr (5, [vI 0, vR none, vR none, vI 0, vI 0, vR none, vI 0])) := ⟨_, rfl⟩
            rw [← ew49]
            replace h := h a49 w49 f49 ew49
            refine wp_dup (n := 53) dX0_files_52 rfl rfl ?_
            refine wp_aload_n (n := 54) (i := 0) (q := 0) dX0_files_53 rfl rfl rfl ?_
            obtain ⟨x54, g54, h⟩ := h
            refine wp_gf (n := 57) dX0_files_54 rfl fl_X0_16 g54 ?_
            refine wp_iload_n (n := 58) (i := 1) (q := 1) dX0_files_57 rfl rfl rfl ?_
            obtain ⟨b58, bb58, h⟩ := h
            refine wp_call (n := 61) (K' := KX6_init) (rc' := rc - 1 - 2) (rs' := rs - 7 - 24) (aRun_I (K' := KX6_init) (As := [vI x54, vI i1]) (rest := [vR (some a49), vR (some h0)]) (b := a49) dX0_files_58 (aCal_of kf_X6_init (Nat.le_of_ble_eq_true rfl)) rfl q298 q299 rfl rfl ar_X6_init rfl (Nat.le_of_ble_eq_true rfl)) rfl (by omega) (by omega) (fun v58 w58 h => ?_) (fun E58 w58 h => ?_) h
            · obtain ⟨rfl, h⟩ := h
              obtain ⟨⟨fs61, o61⟩, h⟩ := h
              refine wp_call (n := 64) (K' := KX0_takesPlace) (rc' := rc - 1 - 2) (rs' := rs - 7 - 24) (aRun_V (K' := KX0_takesPlace) (As := [vR (some a49)]) (rest := []) (b := h0) (c0 := .inr (0, fs61)) dX0_files_61 (aCal_of kf_X0_takesPlace (Nat.le_of_ble_eq_true rfl)) q312 q314 qs1 ar_X0_takesPlace o61 (by decide : 0 < 9) rfl (Nat.le_of_ble_eq_true rfl)) rfl (Nat.le_of_eq (Nat.zero_add _)) (Nat.le_of_eq (Nat.zero_add _)) (fun v61 w61 h => ?_) (fun E61 w61 h => ?_) h
              · obtain ⟨x61, rfl, h⟩ := h
                exact wp_ireturn dX0_files_64 rfl h
              · exact h.elim
            · exact h.elim
          · replace h := h.2 c31
            obtain ⟨b1, b2, h⟩ := h
            refine wp_new (n := 37) (rc' := rc - 1) (rs' := rs - 6) dX0_files_34 rfl nw_X0_93 (by omega) (by show _ + 6 ≤ _; omega) (fun a34 f34 => ?_)
            obtain ⟨w34, ew34⟩ : ∃ z, z = aup w18 a34 (.inr (4, [vI 0, vR none, vR none, vI 0, vI 0, vR none])) := ⟨_, rfl⟩
            rw [← ew34]
            replace h := h a34 w34 f34 ew34
            refine wp_dup (n := 38) dX0_files_37 rfl rfl ?_
            refine wp_aload_n (n := 39) (i := 0) (q := 0) dX0_files_38 rfl rfl rfl ?_
            obtain ⟨x39, g39, h⟩ := h
            refine wp_gf (n := 42) dX0_files_39 rfl fl_X0_16 g39 ?_
            refine wp_null (n := 43) dX0_files_42 rfl ?_
            obtain ⟨b43, bb43, h⟩ := h
            refine wp_call (n := 46) (K' := KX5_init) (rc' := rc - 1 - 2) (rs' := rs - 6 - 24) (aRun_I (K' := KX5_init) (As := [vI x39, vR none]) (rest := [vR (some a34), vR (some h0)]) (b := a34) dX0_files_43 (aCal_of kf_X5_init (Nat.le_of_ble_eq_true rfl)) rfl q237 q238 rfl rfl ar_X5_init rfl (Nat.le_of_ble_eq_true rfl)) rfl (by omega) (by omega) (fun v43 w43 h => ?_) (fun E43 w43 h => ?_) h
            · obtain ⟨rfl, h⟩ := h
              refine wp_goto (t := 61) dX0_files_46 (by decide) ?_
              obtain ⟨⟨fs61, o61⟩, h⟩ := h
              refine wp_call (n := 64) (K' := KX0_takesPlace) (rc' := rc - 1 - 2) (rs' := rs - 6 - 24) (aRun_V (K' := KX0_takesPlace) (As := [vR (some a34)]) (rest := []) (b := h0) (c0 := .inr (0, fs61)) dX0_files_61 (aCal_of kf_X0_takesPlace (Nat.le_of_ble_eq_true rfl)) q312 q314 qs1 ar_X0_takesPlace o61 (by decide : 0 < 9) rfl (Nat.le_of_ble_eq_true rfl)) rfl (Nat.le_of_eq (Nat.zero_add _)) (Nat.le_of_eq (Nat.zero_add _)) (fun v61 w61 h => ?_) (fun E61 w61 h => ?_) h
              · obtain ⟨x61, rfl, h⟩ := h
                exact wp_ireturn dX0_files_64 rfl h
              · exact h.elim
            · exact h.elim
        · replace h := h.2 c22
          refine wp_bipush (n := 27) (v := (-4)) dX0_files_25 rfl (by decide) ?_
          exact wp_ireturn dX0_files_27 rfl h
      · exact h.elim
    · replace h := h.2 c11
      refine wp_bipush (n := 16) (v := (-2)) dX0_files_14 rfl (by decide) ?_
      exact wp_ireturn dX0_files_16 rfl h
  · exact h.elim
set_option maxHeartbeats 1000000 in
theorem sg_X0_acts_0 {h0 : Nat} {i1 : Int32} {i2 : Int32} {i3 : Int32} {rc rs : Nat} {QR : Option aV → aW → Prop} {QX : String → aW → Prop} {w : aW} (h : (8 ≤ i1 → (11 ≤ i1 → (15 ≤ i1 → (19 ≤ i1 → (i1 = 19 → 4 ≤ rc ∧ 960 ≤ rs ∧ isO w h0 0 ∧ ct (KX0_fork) 4 960 [vR (some h0), vI (i2 - i2 / 20 * 20)] w (fun v113 w113 => ∃ x113 : Int32, v113 = some (vI x113) ∧ QR (some (vI x113)) w113) (fun E113 w113 => False)) ∧ (i1 = 20 → 4 ≤ rc ∧ 960 ≤ rs ∧ isO w h0 0 ∧ ct (KX0_fork) 4 960 [vR (some h0), vI (i2 - i2 / 20 * 20)] w (fun v113 w113 => ∃ x113 : Int32, v113 = some (vI x113) ∧ QR (some (vI x113)) w113) (fun E113 w113 => False)) ∧ (i1 = 21 → 4 ≤ rc ∧ 960 ≤ rs ∧ isO w h0 0 ∧ ct (KX0_promote) 4 960 [vR (some h0), vI (i2 - i2 / 20 * 20)] w (fun v122 w122 => ∃ x122 : Int32, v122 = some (vI x122) ∧ QR (some (vI x122)) w122) (fun E122 w122 => False)) ∧ (i1 = 22 → 4 ≤ rc ∧ 960 ≤ rs ∧ isO w h0 0 ∧ ct (KX0_rollback) 4 960 [vR (some h0), vI (i2 - i2 / 20 * 20)] w (fun v131 w131 => ∃ x131 : Int32, v131 = some (vI x131) ∧ QR (some (vI x131)) w131) (fun E131 w131 => False)) ∧ (¬ i1 = 19 → ¬ i1 = 20 → ¬ i1 = 21 → ¬ i1 = 22 → 3 ≤ rc ∧ 31 ≤ rs ∧ isO w h0 0 ∧ ct (KX0_files) 3 31 [vR (some h0), vI (-1)] w (fun v137 w137 => ∃ x137 : Int32, v137 = some (vI x137) ∧ QR (some (vI x137)) w137) (fun E137 w137 => False))) ∧ (¬ 19 ≤ i1 → isO w h0 0 ∧ ct (KX0_remove) 0 0 [vR (some h0), vI (i2 - i2 / 20 * 20)] w (fun v71 w71 => ∃ x71 : Int32, v71 = some (vI x71) ∧ QR (some (vI x71)) w71) (fun E71 w71 => False))) ∧ (¬ 15 ≤ i1 → 4 ≤ rc ∧ 960 ≤ rs ∧ isO w h0 0 ∧ ct (KX0_snap) 4 960 [vR (some h0), vI (i2 - i2 / 20 * 20), vI (i3 / 20)] w (fun v56 w56 => ∃ x56 : Int32, v56 = some (vI x56) ∧ QR (some (vI x56)) w56) (fun E56 w56 => False))) ∧ (¬ 11 ≤ i1 → 4 ≤ rc ∧ 960 ≤ rs ∧ isO w h0 0 ∧ ct (KX0_erase) 4 960 [vR (some h0), vI (i2 - i2 / 20 * 20), vI (i3 - i3 / 12 * 12)] w (fun v37 w37 => ∃ x37 : Int32, v37 = some (vI x37) ∧ QR (some (vI x37)) w37) (fun E37 w37 => False))) ∧ (¬ 8 ≤ i1 → 4 ≤ rc ∧ 960 ≤ rs ∧ isO w h0 0 ∧ ct (KX0_write) 4 960 [vR (some h0), vI (i2 - i2 / 20 * 20), vI (i3 - i3 / 12 * 12), vI (1 + i2)] w (fun v18 w18 => ∃ x18 : Int32, v18 = some (vI x18) ∧ QR (some (vI x18)) w18) (fun E18 w18 => False))) : wp (KX0_acts) rc rs QR QX 0 [(0, vR (some h0)), (1, vI i1), (2, vI i2), (3, vI i3)] [] w := by
  refine wp_iload_n (n := 1) (i := 1) (q := 1) dX0_acts_0 rfl rfl rfl ?_
  refine wp_bipush (n := 3) (v := 8) dX0_acts_1 rfl (by decide) ?_
  refine wp_icmp_ge (n := 6) (t := 22) dX0_acts_3 rfl (by decide) (fun c3 => ?_) (fun c3 => ?_)
  · replace h := h.1 c3
    refine wp_iload_n (n := 23) (i := 1) (q := 1) dX0_acts_22 rfl rfl rfl ?_
    refine wp_bipush (n := 25) (v := 11) dX0_acts_23 rfl (by decide) ?_
    refine wp_icmp_ge (n := 28) (t := 41) dX0_acts_25 rfl (by decide) (fun c25 => ?_) (fun c25 => ?_)
    · replace h := h.1 c25
      refine wp_iload_n (n := 42) (i := 1) (q := 1) dX0_acts_41 rfl rfl rfl ?_
      refine wp_bipush (n := 44) (v := 15) dX0_acts_42 rfl (by decide) ?_
      refine wp_icmp_ge (n := 47) (t := 60) dX0_acts_44 rfl (by decide) (fun c44 => ?_) (fun c44 => ?_)
      · replace h := h.1 c44
        refine wp_iload_n (n := 61) (i := 1) (q := 1) dX0_acts_60 rfl rfl rfl ?_
        refine wp_bipush (n := 63) (v := 19) dX0_acts_61 rfl (by decide) ?_
        refine wp_icmp_ge (n := 66) (t := 75) dX0_acts_63 rfl (by decide) (fun c63 => ?_) (fun c63 => ?_)
        · replace h := h.1 c63
          refine wp_iload_n (n := 76) (i := 1) (q := 1) dX0_acts_75 rfl rfl rfl ?_
          by_cases e76_0 : i1 = 19
          · replace h := h.1 e76_0
            refine wp_tableIn (t := 108) dX0_acts_76 (by rw [e76_0]; decide) (by rw [e76_0]; decide) (off := 32) (by rw [e76_0]; decide) (by decide) ?_
            refine wp_aload_n (n := 109) (i := 0) (q := 0) dX0_acts_108 rfl rfl rfl ?_
            refine wp_iload_n (n := 110) (i := 2) (q := 2) dX0_acts_109 rfl rfl rfl ?_
            refine wp_bipush (n := 112) (v := 20) dX0_acts_110 rfl (by decide) ?_
            refine wp_irem (n := 113) dX0_acts_112 rfl (by decide) ?_
            obtain ⟨b113, bb113, h⟩ := h
            obtain ⟨⟨fs113, o113⟩, h⟩ := h
            refine wp_call (n := 116) (K' := KX0_fork) (rc' := rc - 4) (rs' := rs - 960) (aRun_V (K' := KX0_fork) (As := [vI (i2 - i2 / 20 * 20)]) (rest := []) (b := h0) (c0 := .inr (0, fs113)) dX0_acts_113 (aCal_of kf_X0_fork (Nat.le_of_ble_eq_true rfl)) q982 q608 q609 ar_X0_fork o113 (by decide : 0 < 9) rfl (Nat.le_of_ble_eq_true rfl)) rfl (by omega) (by omega) (fun v113 w113 h => ?_) (fun E113 w113 h => ?_) h
            · obtain ⟨x113, rfl, h⟩ := h
              exact wp_ireturn dX0_acts_116 rfl h
            · exact h.elim
          by_cases e76_1 : i1 = 20
          · replace h := h.2.1 e76_1
            refine wp_tableIn (t := 108) dX0_acts_76 (by rw [e76_1]; decide) (by rw [e76_1]; decide) (off := 32) (by rw [e76_1]; decide) (by decide) ?_
            refine wp_aload_n (n := 109) (i := 0) (q := 0) dX0_acts_108 rfl rfl rfl ?_
            refine wp_iload_n (n := 110) (i := 2) (q := 2) dX0_acts_109 rfl rfl rfl ?_
            refine wp_bipush (n := 112) (v := 20) dX0_acts_110 rfl (by decide) ?_
            refine wp_irem (n := 113) dX0_acts_112 rfl (by decide) ?_
            obtain ⟨b113, bb113, h⟩ := h
            obtain ⟨⟨fs113, o113⟩, h⟩ := h
            refine wp_call (n := 116) (K' := KX0_fork) (rc' := rc - 4) (rs' := rs - 960) (aRun_V (K' := KX0_fork) (As := [vI (i2 - i2 / 20 * 20)]) (rest := []) (b := h0) (c0 := .inr (0, fs113)) dX0_acts_113 (aCal_of kf_X0_fork (Nat.le_of_ble_eq_true rfl)) q982 q608 q609 ar_X0_fork o113 (by decide : 0 < 9) rfl (Nat.le_of_ble_eq_true rfl)) rfl (by omega) (by omega) (fun v113 w113 h => ?_) (fun E113 w113 h => ?_) h
            · obtain ⟨x113, rfl, h⟩ := h
              exact wp_ireturn dX0_acts_116 rfl h
            · exact h.elim
          by_cases e76_2 : i1 = 21
          · replace h := h.2.2.1 e76_2
            refine wp_tableIn (t := 117) dX0_acts_76 (by rw [e76_2]; decide) (by rw [e76_2]; decide) (off := 41) (by rw [e76_2]; decide) (by decide) ?_
            refine wp_aload_n (n := 118) (i := 0) (q := 0) dX0_acts_117 rfl rfl rfl ?_
            refine wp_iload_n (n := 119) (i := 2) (q := 2) dX0_acts_118 rfl rfl rfl ?_
            refine wp_bipush (n := 121) (v := 20) dX0_acts_119 rfl (by decide) ?_
            refine wp_irem (n := 122) dX0_acts_121 rfl (by decide) ?_
            obtain ⟨b122, bb122, h⟩ := h
            obtain ⟨⟨fs122, o122⟩, h⟩ := h
            refine wp_call (n := 125) (K' := KX0_promote) (rc' := rc - 4) (rs' := rs - 960) (aRun_V (K' := KX0_promote) (As := [vI (i2 - i2 / 20 * 20)]) (rest := []) (b := h0) (c0 := .inr (0, fs122)) dX0_acts_122 (aCal_of kf_X0_promote (Nat.le_of_ble_eq_true rfl)) q983 q677 q678 ar_X0_promote o122 (by decide : 0 < 9) rfl (Nat.le_of_ble_eq_true rfl)) rfl (by omega) (by omega) (fun v122 w122 h => ?_) (fun E122 w122 h => ?_) h
            · obtain ⟨x122, rfl, h⟩ := h
              exact wp_ireturn dX0_acts_125 rfl h
            · exact h.elim
          by_cases e76_3 : i1 = 22
          · replace h := h.2.2.2.1 e76_3
            refine wp_tableIn (t := 126) dX0_acts_76 (by rw [e76_3]; decide) (by rw [e76_3]; decide) (off := 50) (by rw [e76_3]; decide) (by decide) ?_
            refine wp_aload_n (n := 127) (i := 0) (q := 0) dX0_acts_126 rfl rfl rfl ?_
            refine wp_iload_n (n := 128) (i := 2) (q := 2) dX0_acts_127 rfl rfl rfl ?_
            refine wp_bipush (n := 130) (v := 20) dX0_acts_128 rfl (by decide) ?_
            refine wp_irem (n := 131) dX0_acts_130 rfl (by decide) ?_
            obtain ⟨b131, bb131, h⟩ := h
            obtain ⟨⟨fs131, o131⟩, h⟩ := h
            refine wp_call (n := 134) (K' := KX0_rollback) (rc' := rc - 4) (rs' := rs - 960) (aRun_V (K' := KX0_rollback) (As := [vI (i2 - i2 / 20 * 20)]) (rest := []) (b := h0) (c0 := .inr (0, fs131)) dX0_acts_131 (aCal_of kf_X0_rollback (Nat.le_of_ble_eq_true rfl)) q984 q688 q689 ar_X0_rollback o131 (by decide : 0 < 9) rfl (Nat.le_of_ble_eq_true rfl)) rfl (by omega) (by omega) (fun v131 w131 h => ?_) (fun E131 w131 h => ?_) h
            · obtain ⟨x131, rfl, h⟩ := h
              exact wp_ireturn dX0_acts_134 rfl h
            · exact h.elim
          replace h := h.2.2.2.2 e76_0 e76_1 e76_2 e76_3
          have f76 : i1.toInt < 19 ∨ 22 < i1.toInt := by
            by_cases q1 : i1.toInt < 19
            · exact Or.inl q1
            · by_cases q2 : 22 < i1.toInt
              · exact Or.inr q2
              · exfalso
                have q3 : i1.toInt = 19 ∨ i1.toInt = 20 ∨ i1.toInt = 21 ∨ i1.toInt = 22 := by omega
                rcases q3 with q3 | q3 | q3 | q3
                · exact e76_0 (Int32.toInt_inj.mp (q3.trans (by decide)))
                · exact e76_1 (Int32.toInt_inj.mp (q3.trans (by decide)))
                · exact e76_2 (Int32.toInt_inj.mp (q3.trans (by decide)))
                · exact e76_3 (Int32.toInt_inj.mp (q3.trans (by decide)))
          refine wp_tableOut (t := 135) dX0_acts_76 f76 (by decide) ?_
          refine wp_aload_n (n := 136) (i := 0) (q := 0) dX0_acts_135 rfl rfl rfl ?_
          refine wp_iconst (n := 137) (v := (-1)) dX0_acts_136 rfl (by decide) ?_
          obtain ⟨b137, bb137, h⟩ := h
          obtain ⟨⟨fs137, o137⟩, h⟩ := h
          refine wp_call (n := 140) (K' := KX0_files) (rc' := rc - 3) (rs' := rs - 31) (aRun_V (K' := KX0_files) (As := [vI (-1)]) (rest := []) (b := h0) (c0 := .inr (0, fs137)) dX0_acts_137 (aCal_of kf_X0_files (Nat.le_of_ble_eq_true rfl)) q985 q223 q224 ar_X0_files o137 (by decide : 0 < 9) rfl (Nat.le_of_ble_eq_true rfl)) rfl (by omega) (by omega) (fun v137 w137 h => ?_) (fun E137 w137 h => ?_) h
          · obtain ⟨x137, rfl, h⟩ := h
            exact wp_ireturn dX0_acts_140 rfl h
          · exact h.elim
        · replace h := h.2 c63
          refine wp_aload_n (n := 67) (i := 0) (q := 0) dX0_acts_66 rfl rfl rfl ?_
          refine wp_iload_n (n := 68) (i := 2) (q := 2) dX0_acts_67 rfl rfl rfl ?_
          refine wp_bipush (n := 70) (v := 20) dX0_acts_68 rfl (by decide) ?_
          refine wp_irem (n := 71) dX0_acts_70 rfl (by decide) ?_
          obtain ⟨⟨fs71, o71⟩, h⟩ := h
          refine wp_call (n := 74) (K' := KX0_remove) (rc' := rc) (rs' := rs) (aRun_V (K' := KX0_remove) (As := [vI (i2 - i2 / 20 * 20)]) (rest := []) (b := h0) (c0 := .inr (0, fs71)) dX0_acts_71 (aCal_of kf_X0_remove (Nat.le_of_ble_eq_true rfl)) q981 q620 q621 ar_X0_remove o71 (by decide : 0 < 9) rfl (Nat.le_of_ble_eq_true rfl)) rfl (Nat.le_of_eq (Nat.zero_add _)) (Nat.le_of_eq (Nat.zero_add _)) (fun v71 w71 h => ?_) (fun E71 w71 h => ?_) h
          · obtain ⟨x71, rfl, h⟩ := h
            exact wp_ireturn dX0_acts_74 rfl h
          · exact h.elim
      · replace h := h.2 c44
        refine wp_aload_n (n := 48) (i := 0) (q := 0) dX0_acts_47 rfl rfl rfl ?_
        refine wp_iload_n (n := 49) (i := 2) (q := 2) dX0_acts_48 rfl rfl rfl ?_
        refine wp_bipush (n := 51) (v := 20) dX0_acts_49 rfl (by decide) ?_
        refine wp_irem (n := 52) dX0_acts_51 rfl (by decide) ?_
        refine wp_iload_n (n := 53) (i := 3) (q := 3) dX0_acts_52 rfl rfl rfl ?_
        refine wp_bipush (n := 55) (v := 20) dX0_acts_53 rfl (by decide) ?_
        refine wp_idiv (n := 56) dX0_acts_55 rfl (by decide) ?_
        obtain ⟨b56, bb56, h⟩ := h
        obtain ⟨⟨fs56, o56⟩, h⟩ := h
        refine wp_call (n := 59) (K' := KX0_snap) (rc' := rc - 4) (rs' := rs - 960) (aRun_V (K' := KX0_snap) (As := [vI (i2 - i2 / 20 * 20), vI (i3 / 20)]) (rest := []) (b := h0) (c0 := .inr (0, fs56)) dX0_acts_56 (aCal_of kf_X0_snap (Nat.le_of_ble_eq_true rfl)) q980 q525 q526 ar_X0_snap o56 (by decide : 0 < 9) rfl (Nat.le_of_ble_eq_true rfl)) rfl (by omega) (by omega) (fun v56 w56 h => ?_) (fun E56 w56 h => ?_) h
        · obtain ⟨x56, rfl, h⟩ := h
          exact wp_ireturn dX0_acts_59 rfl h
        · exact h.elim
    · replace h := h.2 c25
      refine wp_aload_n (n := 29) (i := 0) (q := 0) dX0_acts_28 rfl rfl rfl ?_
      refine wp_iload_n (n := 30) (i := 2) (q := 2) dX0_acts_29 rfl rfl rfl ?_
      refine wp_bipush (n := 32) (v := 20) dX0_acts_30 rfl (by decide) ?_
      refine wp_irem (n := 33) dX0_acts_32 rfl (by decide) ?_
      refine wp_iload_n (n := 34) (i := 3) (q := 3) dX0_acts_33 rfl rfl rfl ?_
      refine wp_bipush (n := 36) (v := 12) dX0_acts_34 rfl (by decide) ?_
      refine wp_irem (n := 37) dX0_acts_36 rfl (by decide) ?_
      obtain ⟨b37, bb37, h⟩ := h
      obtain ⟨⟨fs37, o37⟩, h⟩ := h
      refine wp_call (n := 40) (K' := KX0_erase) (rc' := rc - 4) (rs' := rs - 960) (aRun_V (K' := KX0_erase) (As := [vI (i2 - i2 / 20 * 20), vI (i3 - i3 / 12 * 12)]) (rest := []) (b := h0) (c0 := .inr (0, fs37)) dX0_acts_37 (aCal_of kf_X0_erase (Nat.le_of_ble_eq_true rfl)) q979 q517 q518 ar_X0_erase o37 (by decide : 0 < 9) rfl (Nat.le_of_ble_eq_true rfl)) rfl (by omega) (by omega) (fun v37 w37 h => ?_) (fun E37 w37 h => ?_) h
      · obtain ⟨x37, rfl, h⟩ := h
        exact wp_ireturn dX0_acts_40 rfl h
      · exact h.elim
  · replace h := h.2 c3
    refine wp_aload_n (n := 7) (i := 0) (q := 0) dX0_acts_6 rfl rfl rfl ?_
    refine wp_iload_n (n := 8) (i := 2) (q := 2) dX0_acts_7 rfl rfl rfl ?_
    refine wp_bipush (n := 10) (v := 20) dX0_acts_8 rfl (by decide) ?_
    refine wp_irem (n := 11) dX0_acts_10 rfl (by decide) ?_
    refine wp_iload_n (n := 12) (i := 3) (q := 3) dX0_acts_11 rfl rfl rfl ?_
    refine wp_bipush (n := 14) (v := 12) dX0_acts_12 rfl (by decide) ?_
    refine wp_irem (n := 15) dX0_acts_14 rfl (by decide) ?_
    refine wp_iconst (n := 16) (v := 1) dX0_acts_15 rfl (by decide) ?_
    refine wp_iload_n (n := 17) (i := 2) (q := 2) dX0_acts_16 rfl rfl rfl ?_
    refine wp_iadd (n := 18) dX0_acts_17 rfl ?_
    obtain ⟨b18, bb18, h⟩ := h
    obtain ⟨⟨fs18, o18⟩, h⟩ := h
    refine wp_call (n := 21) (K' := KX0_write) (rc' := rc - 4) (rs' := rs - 960) (aRun_V (K' := KX0_write) (As := [vI (i2 - i2 / 20 * 20), vI (i3 - i3 / 12 * 12), vI (1 + i2)]) (rest := []) (b := h0) (c0 := .inr (0, fs18)) dX0_acts_18 (aCal_of kf_X0_write (Nat.le_of_ble_eq_true rfl)) q978 q317 q318 ar_X0_write o18 (by decide : 0 < 9) rfl (Nat.le_of_ble_eq_true rfl)) rfl (by omega) (by omega) (fun v18 w18 h => ?_) (fun E18 w18 h => ?_) h
    · obtain ⟨x18, rfl, h⟩ := h
      exact wp_ireturn dX0_acts_21 rfl h
    · exact h.elim
set_option maxHeartbeats 1000000 in
theorem sg_X0_liveAlone_0 {h0 : Nat} {r1 : Option Nat} {rc rs : Nat} {QR : Option aV → aW → Prop} {QX : String → aW → Prop} {w : aW} (h : wp (KX0_liveAlone) rc rs QR QX 5 [(0, vR (some h0)), (1, vR r1), (2, vL 0), (4, vI 0)] [] w) : wp (KX0_liveAlone) rc rs QR QX 0 [(0, vR (some h0)), (1, vR r1)] [] w := by
  refine wp_lconst (n := 1) (v := 0) dX0_liveAlone_0 rfl (by decide) ?_
  refine wp_lstore_n (n := 2) (i := 2) (ls' := [(2, vL 0), (0, vR (some h0)), (1, vR r1)]) dX0_liveAlone_1 rfl rfl (Nat.le_of_ble_eq_true rfl) rfl ?_
  refine wp_iconst (n := 3) (v := 0) dX0_liveAlone_2 rfl (by decide) ?_
  refine wp_istore (n := 5) (i := 4) (ls' := [(4, vI 0), (2, vL 0), (0, vR (some h0)), (1, vR r1)]) dX0_liveAlone_3 rfl (Nat.le_of_ble_eq_true rfl) rfl ?_
  exact wp_sub [2, 3, 1, 0] rfl h
set_option maxHeartbeats 1000000 in
theorem sg_X0_liveAlone_5 {h0 : Nat} {r1 : Option Nat} {l2 : Int64} {i4 : Int32} {rc rs : Nat} {QR : Option aV → aW → Prop} {QX : String → aW → Prop} {w : aW} (h : (12 ≤ i4 → QR (some (vL l2)) w) ∧ (¬ 12 ≤ i4 → ∃ a13 : Nat, r1 = some a13 ∧ ∃ x13 : Nat, gf w a13 [4, 5] 1 (vR (some x13)) ∧ ∃ x18 : Int32, gI w x13 i4 x18 ∧ (x18 = (-1) → wp (KX0_liveAlone) rc rs QR QX 5 [(0, vR (some h0)), (1, vR (some a13)), (2, vL (l2 + 0)), (4, vI (i4 + 1))] [] w) ∧ (¬ x18 = (-1) → ∃ x29 : Nat, gf w h0 [0] 1 (vR (some x29)) ∧ ∃ x34 : Int32, gI w x29 x18 x34 ∧ ck w a13 [4, 5] ∧ ct (KX4_prevMade) 0 0 [vR (some a13)] w (fun v36 w36 => ∃ x36 : Int32, v36 = some (vI x36) ∧ (x34 ≤ x36 → wp (KX0_liveAlone) rc rs QR QX 5 [(0, vR (some h0)), (1, vR (some a13)), (2, vL (l2 + 0)), (4, vI (i4 + 1))] [] w36) ∧ (¬ x34 ≤ x36 → ∃ x43 : Nat, gf w36 h0 [0] 0 (vR (some x43)) ∧ ∃ x48 : Int32, gI w36 x43 x18 x48 ∧ wp (KX0_liveAlone) rc rs QR QX 5 [(0, vR (some h0)), (1, vR (some a13)), (2, vL (l2 + (Int32.toInt64 x48))), (4, vI (i4 + 1))] [] w36)) (fun E36 w36 => False)))) : wp (KX0_liveAlone) rc rs QR QX 5 [(0, vR (some h0)), (1, vR r1), (2, vL l2), (4, vI i4)] [] w := by
  refine wp_iload (n := 7) (i := 4) (q := 3) dX0_liveAlone_5 rfl rfl ?_
  refine wp_bipush (n := 9) (v := 12) dX0_liveAlone_7 rfl (by decide) ?_
  refine wp_icmp_ge (n := 12) (t := 62) dX0_liveAlone_9 rfl (by decide) (fun c9 => ?_) (fun c9 => ?_)
  · replace h := h.1 c9
    refine wp_lload_n (n := 63) (i := 2) (q := 2) dX0_liveAlone_62 rfl rfl rfl ?_
    exact wp_lreturn dX0_liveAlone_63 rfl h
  · replace h := h.2 c9
    refine wp_aload_n (n := 13) (i := 1) (q := 1) dX0_liveAlone_12 rfl rfl rfl ?_
    obtain ⟨a13, ea13, h⟩ := h
    rw [ea13]
    obtain ⟨x13, g13, h⟩ := h
    refine wp_gf (n := 16) dX0_liveAlone_13 rfl fl_X0_132 g13 ?_
    refine wp_iload (n := 18) (i := 4) (q := 3) dX0_liveAlone_16 rfl rfl ?_
    obtain ⟨x18, g18, h⟩ := h
    refine wp_gI (n := 19) dX0_liveAlone_18 rfl g18 ?_
    refine wp_istore (n := 21) (i := 5) (ls' := [(5, vI x18), (0, vR (some h0)), (1, vR (some a13)), (2, vL l2), (4, vI i4)]) dX0_liveAlone_19 rfl (Nat.le_of_ble_eq_true rfl) rfl ?_
    refine wp_lload_n (n := 22) (i := 2) (q := 3) dX0_liveAlone_21 rfl rfl rfl ?_
    refine wp_iload (n := 24) (i := 5) (q := 0) dX0_liveAlone_22 rfl rfl ?_
    refine wp_iconst (n := 25) (v := (-1)) dX0_liveAlone_24 rfl (by decide) ?_
    refine wp_icmp_eq (n := 28) (t := 53) dX0_liveAlone_25 rfl (by decide) (fun c25 => ?_) (fun c25 => ?_)
    · replace h := h.1 c25
      refine wp_lconst (n := 54) (v := 0) dX0_liveAlone_53 rfl (by decide) ?_
      refine wp_ladd (n := 55) dX0_liveAlone_54 rfl ?_
      refine wp_lstore_n (n := 56) (i := 2) (ls' := [(2, vL (l2 + 0)), (5, vI x18), (0, vR (some h0)), (1, vR (some a13)), (4, vI i4)]) dX0_liveAlone_55 rfl rfl (Nat.le_of_ble_eq_true rfl) rfl ?_
      refine wp_iinc (n := 59) (i := 4) (q := 4) (v := i4 + 1) (ls' := [(4, vI (i4 + 1)), (2, vL (l2 + 0)), (5, vI x18), (0, vR (some h0)), (1, vR (some a13))]) dX0_liveAlone_56 rfl rfl rfl (Nat.le_of_ble_eq_true rfl) rfl ?_
      refine wp_goto (t := 5) dX0_liveAlone_59 (by decide) ?_
      exact wp_sub [3, 4, 1, 0] rfl h
    · replace h := h.2 c25
      refine wp_aload_n (n := 29) (i := 0) (q := 1) dX0_liveAlone_28 rfl rfl rfl ?_
      obtain ⟨x29, g29, h⟩ := h
      refine wp_gf (n := 32) dX0_liveAlone_29 rfl fl_X0_13 g29 ?_
      refine wp_iload (n := 34) (i := 5) (q := 0) dX0_liveAlone_32 rfl rfl ?_
      obtain ⟨x34, g34, h⟩ := h
      refine wp_gI (n := 35) dX0_liveAlone_34 rfl g34 ?_
      refine wp_aload_n (n := 36) (i := 1) (q := 2) dX0_liveAlone_35 rfl rfl rfl ?_
      obtain ⟨⟨cc36, o36, kk36⟩, h⟩ := h
      have run36 : aRun (KX0_liveAlone) (KX4_prevMade) 36 [vR (some a13)] [vR (some a13), vI x34, vL l2] [vI x34, vL l2] w := by
        simp only [List.mem_cons, List.not_mem_nil, or_false] at kk36
        rcases kk36 with kk36 | kk36
        · obtain ⟨fs36, rfl⟩ := kd_o kk36 (by decide)
          exact (aRun_U (K' := KX4_prevMade) (As := []) (rest := [vI x34, vL l2]) (b := a13) (x := ⟨"DeadListPool$Folder", "prevMade", "()I"⟩) (owner := "DeadListPool$Holder") (c0 := .inr (4, fs36)) dX0_liveAlone_36 (aCal_of kf_X4_prevMade (Nat.le_of_ble_eq_true rfl)) rfl q497 q498 q501 q502 (Or.inr q499) ⟨by decide, by decide⟩ ar_X4_prevMade o36 (by decide : 4 < 9) rfl (Nat.le_of_ble_eq_true rfl))
        · obtain ⟨fs36, rfl⟩ := kd_o kk36 (by decide)
          exact (aRun_U (K' := KX4_prevMade) (As := []) (rest := [vI x34, vL l2]) (b := a13) (x := ⟨"DeadListPool$Folder", "prevMade", "()I"⟩) (owner := "DeadListPool$Holder") (c0 := .inr (5, fs36)) dX0_liveAlone_36 (aCal_of kf_X4_prevMade (Nat.le_of_ble_eq_true rfl)) rfl q497 q498 q500 q502 (Or.inr q499) ⟨by decide, by decide⟩ ar_X4_prevMade o36 (by decide : 5 < 9) rfl (Nat.le_of_ble_eq_true rfl))
      refine wp_call (n := 39) (K' := KX4_prevMade) (rc' := rc) (rs' := rs) run36 rfl (Nat.le_of_eq (Nat.zero_add _)) (Nat.le_of_eq (Nat.zero_add _)) (fun v36 w36 h => ?_) (fun E36 w36 h => ?_) h
      · obtain ⟨x36, rfl, h⟩ := h
        refine wp_icmp_le (n := 42) (t := 53) dX0_liveAlone_39 rfl (by decide) (fun c39 => ?_) (fun c39 => ?_)
        · replace h := h.1 c39
          refine wp_lconst (n := 54) (v := 0) dX0_liveAlone_53 rfl (by decide) ?_
          refine wp_ladd (n := 55) dX0_liveAlone_54 rfl ?_
          refine wp_lstore_n (n := 56) (i := 2) (ls' := [(2, vL (l2 + 0)), (5, vI x18), (0, vR (some h0)), (1, vR (some a13)), (4, vI i4)]) dX0_liveAlone_55 rfl rfl (Nat.le_of_ble_eq_true rfl) rfl ?_
          refine wp_iinc (n := 59) (i := 4) (q := 4) (v := i4 + 1) (ls' := [(4, vI (i4 + 1)), (2, vL (l2 + 0)), (5, vI x18), (0, vR (some h0)), (1, vR (some a13))]) dX0_liveAlone_56 rfl rfl rfl (Nat.le_of_ble_eq_true rfl) rfl ?_
          refine wp_goto (t := 5) dX0_liveAlone_59 (by decide) ?_
          exact wp_sub [3, 4, 1, 0] rfl h
        · replace h := h.2 c39
          refine wp_aload_n (n := 43) (i := 0) (q := 1) dX0_liveAlone_42 rfl rfl rfl ?_
          obtain ⟨x43, g43, h⟩ := h
          refine wp_gf (n := 46) dX0_liveAlone_43 rfl fl_X0_9 g43 ?_
          refine wp_iload (n := 48) (i := 5) (q := 0) dX0_liveAlone_46 rfl rfl ?_
          obtain ⟨x48, g48, h⟩ := h
          refine wp_gI (n := 49) dX0_liveAlone_48 rfl g48 ?_
          refine wp_i2l (n := 50) dX0_liveAlone_49 rfl ?_
          refine wp_goto (t := 54) dX0_liveAlone_50 (by decide) ?_
          refine wp_ladd (n := 55) dX0_liveAlone_54 rfl ?_
          refine wp_lstore_n (n := 56) (i := 2) (ls' := [(2, vL (l2 + (Int32.toInt64 x48))), (5, vI x18), (0, vR (some h0)), (1, vR (some a13)), (4, vI i4)]) dX0_liveAlone_55 rfl rfl (Nat.le_of_ble_eq_true rfl) rfl ?_
          refine wp_iinc (n := 59) (i := 4) (q := 4) (v := i4 + 1) (ls' := [(4, vI (i4 + 1)), (2, vL (l2 + (Int32.toInt64 x48))), (5, vI x18), (0, vR (some h0)), (1, vR (some a13))]) dX0_liveAlone_56 rfl rfl rfl (Nat.le_of_ble_eq_true rfl) rfl ?_
          refine wp_goto (t := 5) dX0_liveAlone_59 (by decide) ?_
          exact wp_sub [3, 4, 1, 0] rfl h
      · exact h.elim
set_option maxHeartbeats 1000000 in
theorem sg_X0_deadBetween_0 {h0 : Nat} {r1 : Option Nat} {i2 : Int32} {i3 : Int32} {rc rs : Nat} {QR : Option aV → aW → Prop} {QX : String → aW → Prop} {w : aW} (h : wp (KX0_deadBetween) rc rs QR QX 6 [(0, vR (some h0)), (1, vR r1), (2, vI i2), (3, vI i3), (4, vL 0), (6, vI 0)] [] w) : wp (KX0_deadBetween) rc rs QR QX 0 [(0, vR (some h0)), (1, vR r1), (2, vI i2), (3, vI i3)] [] w := by
  refine wp_lconst (n := 1) (v := 0) dX0_deadBetween_0 rfl (by decide) ?_
  refine wp_lstore (n := 3) (i := 4) (ls' := [(4, vL 0), (0, vR (some h0)), (1, vR r1), (2, vI i2), (3, vI i3)]) dX0_deadBetween_1 rfl (Nat.le_of_ble_eq_true rfl) rfl ?_
  refine wp_iconst (n := 4) (v := 0) dX0_deadBetween_3 rfl (by decide) ?_
  refine wp_istore (n := 6) (i := 6) (ls' := [(6, vI 0), (4, vL 0), (0, vR (some h0)), (1, vR r1), (2, vI i2), (3, vI i3)]) dX0_deadBetween_4 rfl (Nat.le_of_ble_eq_true rfl) rfl ?_
  exact wp_sub [2, 3, 4, 5, 1, 0] rfl h
set_option maxHeartbeats 1000000 in
theorem sg_X0_deadBetween_6 {h0 : Nat} {r1 : Option Nat} {i2 : Int32} {i3 : Int32} {l4 : Int64} {i6 : Int32} {rc rs : Nat} {QR : Option aV → aW → Prop} {QX : String → aW → Prop} {w : aW} (h : ∃ a9 : Nat, r1 = some a9 ∧ ∃ x9 : Int32, gf w a9 [4, 5, 6, 7] 3 (vI x9) ∧ (x9 ≤ i6 → QR (some (vL l4)) w) ∧ (¬ x9 ≤ i6 → ∃ x16 : Nat, gf w h0 [0] 1 (vR (some x16)) ∧ ∃ x20 : Nat, gf w a9 [4, 5, 6, 7] 2 (vR (some x20)) ∧ ∃ x25 : Int32, gI w x20 i6 x25 ∧ ∃ x26 : Int32, gI w x16 x25 x26 ∧ (i2 < x26 → (i3 < x26 → wp (KX0_deadBetween) rc rs QR QX 6 [(0, vR (some h0)), (1, vR (some a9)), (2, vI i2), (3, vI i3), (4, vL (l4 + 0)), (6, vI (i6 + 1))] [] w) ∧ (¬ i3 < x26 → ∃ x47 : Nat, gf w h0 [0] 0 (vR (some x47)) ∧ ∃ x51 : Nat, gf w a9 [4, 5, 6, 7] 2 (vR (some x51)) ∧ ∃ x56 : Int32, gI w x51 i6 x56 ∧ ∃ x57 : Int32, gI w x47 x56 x57 ∧ wp (KX0_deadBetween) rc rs QR QX 6 [(0, vR (some h0)), (1, vR (some a9)), (2, vI i2), (3, vI i3), (4, vL (l4 + (Int32.toInt64 x57))), (6, vI (i6 + 1))] [] w)) ∧ (¬ i2 < x26 → QR (some (vL l4)) w))) : wp (KX0_deadBetween) rc rs QR QX 6 [(0, vR (some h0)), (1, vR r1), (2, vI i2), (3, vI i3), (4, vL l4), (6, vI i6)] [] w := by
  refine wp_iload (n := 8) (i := 6) (q := 5) dX0_deadBetween_6 rfl rfl ?_
  refine wp_aload_n (n := 9) (i := 1) (q := 1) dX0_deadBetween_8 rfl rfl rfl ?_
  obtain ⟨a9, ea9, h⟩ := h
  rw [ea9]
  obtain ⟨x9, g9, h⟩ := h
  refine wp_gf (n := 12) dX0_deadBetween_9 rfl fl_X0_122 g9 ?_
  refine wp_icmp_ge (n := 15) (t := 72) dX0_deadBetween_12 rfl (by decide) (fun c12 => ?_) (fun c12 => ?_)
  · replace h := h.1 c12
    refine wp_lload (n := 74) (i := 4) (q := 4) dX0_deadBetween_72 rfl rfl ?_
    exact wp_lreturn dX0_deadBetween_74 rfl h
  · replace h := h.2 c12
    refine wp_aload_n (n := 16) (i := 0) (q := 0) dX0_deadBetween_15 rfl rfl rfl ?_
    obtain ⟨x16, g16, h⟩ := h
    refine wp_gf (n := 19) dX0_deadBetween_16 rfl fl_X0_13 g16 ?_
    refine wp_aload_n (n := 20) (i := 1) (q := 1) dX0_deadBetween_19 rfl rfl rfl ?_
    obtain ⟨x20, g20, h⟩ := h
    refine wp_gf (n := 23) dX0_deadBetween_20 rfl fl_X0_125 g20 ?_
    refine wp_iload (n := 25) (i := 6) (q := 5) dX0_deadBetween_23 rfl rfl ?_
    obtain ⟨x25, g25, h⟩ := h
    refine wp_gI (n := 26) dX0_deadBetween_25 rfl g25 ?_
    obtain ⟨x26, g26, h⟩ := h
    refine wp_gI (n := 27) dX0_deadBetween_26 rfl g26 ?_
    refine wp_istore (n := 29) (i := 7) (ls' := [(7, vI x26), (0, vR (some h0)), (1, vR (some a9)), (2, vI i2), (3, vI i3), (4, vL l4), (6, vI i6)]) dX0_deadBetween_27 rfl (Nat.le_of_ble_eq_true rfl) rfl ?_
    refine wp_iload (n := 31) (i := 7) (q := 0) dX0_deadBetween_29 rfl rfl ?_
    refine wp_iload_n (n := 32) (i := 2) (q := 3) dX0_deadBetween_31 rfl rfl rfl ?_
    refine wp_icmp_gt (n := 35) (t := 38) dX0_deadBetween_32 rfl (by decide) (fun c32 => ?_) (fun c32 => ?_)
    · replace h := h.1 c32
      refine wp_lload (n := 40) (i := 4) (q := 5) dX0_deadBetween_38 rfl rfl ?_
      refine wp_iload (n := 42) (i := 7) (q := 0) dX0_deadBetween_40 rfl rfl ?_
      refine wp_iload_n (n := 43) (i := 3) (q := 4) dX0_deadBetween_42 rfl rfl rfl ?_
      refine wp_icmp_gt (n := 46) (t := 62) dX0_deadBetween_43 rfl (by decide) (fun c43 => ?_) (fun c43 => ?_)
      · replace h := h.1 c43
        refine wp_lconst (n := 63) (v := 0) dX0_deadBetween_62 rfl (by decide) ?_
        refine wp_ladd (n := 64) dX0_deadBetween_63 rfl ?_
        refine wp_lstore (n := 66) (i := 4) (ls' := [(4, vL (l4 + 0)), (7, vI x26), (0, vR (some h0)), (1, vR (some a9)), (2, vI i2), (3, vI i3), (6, vI i6)]) dX0_deadBetween_64 rfl (Nat.le_of_ble_eq_true rfl) rfl ?_
        refine wp_iinc (n := 69) (i := 6) (q := 6) (v := i6 + 1) (ls' := [(6, vI (i6 + 1)), (4, vL (l4 + 0)), (7, vI x26), (0, vR (some h0)), (1, vR (some a9)), (2, vI i2), (3, vI i3)]) dX0_deadBetween_66 rfl rfl rfl (Nat.le_of_ble_eq_true rfl) rfl ?_
        refine wp_goto (t := 6) dX0_deadBetween_69 (by decide) ?_
        exact wp_sub [3, 4, 5, 6, 1, 0] rfl h
      · replace h := h.2 c43
        refine wp_aload_n (n := 47) (i := 0) (q := 1) dX0_deadBetween_46 rfl rfl rfl ?_
        obtain ⟨x47, g47, h⟩ := h
        refine wp_gf (n := 50) dX0_deadBetween_47 rfl fl_X0_9 g47 ?_
        refine wp_aload_n (n := 51) (i := 1) (q := 2) dX0_deadBetween_50 rfl rfl rfl ?_
        obtain ⟨x51, g51, h⟩ := h
        refine wp_gf (n := 54) dX0_deadBetween_51 rfl fl_X0_125 g51 ?_
        refine wp_iload (n := 56) (i := 6) (q := 6) dX0_deadBetween_54 rfl rfl ?_
        obtain ⟨x56, g56, h⟩ := h
        refine wp_gI (n := 57) dX0_deadBetween_56 rfl g56 ?_
        obtain ⟨x57, g57, h⟩ := h
        refine wp_gI (n := 58) dX0_deadBetween_57 rfl g57 ?_
        refine wp_i2l (n := 59) dX0_deadBetween_58 rfl ?_
        refine wp_goto (t := 63) dX0_deadBetween_59 (by decide) ?_
        refine wp_ladd (n := 64) dX0_deadBetween_63 rfl ?_
        refine wp_lstore (n := 66) (i := 4) (ls' := [(4, vL (l4 + (Int32.toInt64 x57))), (7, vI x26), (0, vR (some h0)), (1, vR (some a9)), (2, vI i2), (3, vI i3), (6, vI i6)]) dX0_deadBetween_64 rfl (Nat.le_of_ble_eq_true rfl) rfl ?_
        refine wp_iinc (n := 69) (i := 6) (q := 6) (v := i6 + 1) (ls' := [(6, vI (i6 + 1)), (4, vL (l4 + (Int32.toInt64 x57))), (7, vI x26), (0, vR (some h0)), (1, vR (some a9)), (2, vI i2), (3, vI i3)]) dX0_deadBetween_66 rfl rfl rfl (Nat.le_of_ble_eq_true rfl) rfl ?_
        refine wp_goto (t := 6) dX0_deadBetween_69 (by decide) ?_
        exact wp_sub [3, 4, 5, 6, 1, 0] rfl h
    · replace h := h.2 c32
      refine wp_lload (n := 37) (i := 4) (q := 5) dX0_deadBetween_35 rfl rfl ?_
      exact wp_lreturn dX0_deadBetween_37 rfl h
set_option maxHeartbeats 1000000 in
theorem sg_X0_rangeByLists_0 {h0 : Nat} {r1 : Option Nat} {r2 : Option Nat} {rc rs : Nat} {QR : Option aV → aW → Prop} {QX : String → aW → Prop} {w : aW} (h : wp (KX0_rangeByLists) rc rs QR QX 5 [(0, vR (some h0)), (1, vR r1), (2, vR r2), (3, vL 0), (5, vR r2)] [] w) : wp (KX0_rangeByLists) rc rs QR QX 0 [(0, vR (some h0)), (1, vR r1), (2, vR r2)] [] w := by
  refine wp_lconst (n := 1) (v := 0) dX0_rangeByLists_0 rfl (by decide) ?_
  refine wp_lstore_n (n := 2) (i := 3) (ls' := [(3, vL 0), (0, vR (some h0)), (1, vR r1), (2, vR r2)]) dX0_rangeByLists_1 rfl rfl (Nat.le_of_ble_eq_true rfl) rfl ?_
  refine wp_aload_n (n := 3) (i := 2) (q := 3) dX0_rangeByLists_2 rfl rfl rfl ?_
  refine wp_astore (n := 5) (i := 5) (ls' := [(5, vR r2), (3, vL 0), (0, vR (some h0)), (1, vR r1), (2, vR r2)]) dX0_rangeByLists_3 rfl (Nat.le_of_ble_eq_true rfl) rfl ?_
  exact wp_sub [2, 3, 4, 1, 0] rfl h
set_option maxHeartbeats 1000000 in
theorem sg_X0_rangeByLists_5 {h0 : Nat} {r1 : Option Nat} {r2 : Option Nat} {l3 : Int64} {r5 : Option Nat} {rc rs : Nat} {QR : Option aV → aW → Prop} {QX : String → aW → Prop} {w : aW} (h : isO w h0 0 ∧ ct (KX0_nextOf) 0 0 [vR (some h0), vR r5] w (fun v10 w10 => ∃ x10 : Option Nat, v10 = some (vR x10) ∧ ∃ a14 : Nat, r1 = some a14 ∧ ck w10 a14 [6, 7] ∧ ct (KX4_prevMade) 0 0 [vR (some a14)] w10 (fun v14 w14 => ∃ x14 : Int32, v14 = some (vI x14) ∧ isO w14 h0 0 ∧ ct (KX0_deadBetween) 0 0 [vR (some h0), vR x10, vI x14, vI 2147483647] w14 (fun v20 w20 => ∃ x20 : Int64, v20 = some (vL x20) ∧ (¬ r5 = some a14 → ∃ a35 : Nat, r5 = some a35 ∧ ∃ x35 : Option Nat, gf w20 a35 [6, 7] 5 (vR x35) ∧ wp (KX0_rangeByLists) rc rs QR QX 5 [(0, vR (some h0)), (1, vR (some a14)), (2, vR r2), (3, vL (l3 + x20)), (5, vR x35)] [] w20) ∧ (r5 = some a14 → QR (some (vL (l3 + x20))) w20)) (fun E20 w20 => False)) (fun E14 w14 => False)) (fun E10 w10 => False)) : wp (KX0_rangeByLists) rc rs QR QX 5 [(0, vR (some h0)), (1, vR r1), (2, vR r2), (3, vL l3), (5, vR r5)] [] w := by
  refine wp_lload_n (n := 6) (i := 3) (q := 3) dX0_rangeByLists_5 rfl rfl rfl ?_
  refine wp_aload_n (n := 7) (i := 0) (q := 0) dX0_rangeByLists_6 rfl rfl rfl ?_
  refine wp_aload_n (n := 8) (i := 0) (q := 0) dX0_rangeByLists_7 rfl rfl rfl ?_
  refine wp_aload (n := 10) (i := 5) (q := 4) dX0_rangeByLists_8 rfl rfl ?_
  obtain ⟨⟨fs10, o10⟩, h⟩ := h
  refine wp_call (n := 13) (K' := KX0_nextOf) (rc' := rc) (rs' := rs) (aRun_V (K' := KX0_nextOf) (As := [vR r5]) (rest := [vR (some h0), vL l3]) (b := h0) (c0 := .inr (0, fs10)) dX0_rangeByLists_10 (aCal_of kf_X0_nextOf (Nat.le_of_ble_eq_true rfl)) q664 q666 qs23 ar_X0_nextOf o10 (by decide : 0 < 9) rfl (Nat.le_of_ble_eq_true rfl)) rfl (Nat.le_of_eq (Nat.zero_add _)) (Nat.le_of_eq (Nat.zero_add _)) (fun v10 w10 h => ?_) (fun E10 w10 h => ?_) h
  · obtain ⟨x10, rfl, h⟩ := h
    refine wp_aload_n (n := 14) (i := 1) (q := 1) dX0_rangeByLists_13 rfl rfl rfl ?_
    obtain ⟨a14, ea14, h⟩ := h
    rw [ea14]
    obtain ⟨⟨cc14, o14, kk14⟩, h⟩ := h
    have run14 : aRun (KX0_rangeByLists) (KX4_prevMade) 14 [vR (some a14)] [vR (some a14), vR x10, vR (some h0), vL l3] [vR x10, vR (some h0), vL l3] w10 := by
      simp only [List.mem_cons, List.not_mem_nil, or_false] at kk14
      rcases kk14 with kk14 | kk14
      · obtain ⟨fs14, rfl⟩ := kd_o kk14 (by decide)
        exact (aRun_U (K' := KX4_prevMade) (As := []) (rest := [vR x10, vR (some h0), vL l3]) (b := a14) (x := ⟨"DeadListPool$Snapshot", "prevMade", "()I"⟩) (owner := "DeadListPool$Holder") (c0 := .inr (6, fs14)) dX0_rangeByLists_14 (aCal_of kf_X4_prevMade (Nat.le_of_ble_eq_true rfl)) rfl q668 q669 q670 q502 (Or.inr q499) ⟨by decide, by decide⟩ ar_X4_prevMade o14 (by decide : 6 < 9) rfl (Nat.le_of_ble_eq_true rfl))
      · obtain ⟨fs14, rfl⟩ := kd_o kk14 (by decide)
        exact (aRun_U (K' := KX4_prevMade) (As := []) (rest := [vR x10, vR (some h0), vL l3]) (b := a14) (x := ⟨"DeadListPool$Snapshot", "prevMade", "()I"⟩) (owner := "DeadListPool$Holder") (c0 := .inr (7, fs14)) dX0_rangeByLists_14 (aCal_of kf_X4_prevMade (Nat.le_of_ble_eq_true rfl)) rfl q668 q669 q671 q502 (Or.inr q499) ⟨by decide, by decide⟩ ar_X4_prevMade o14 (by decide : 7 < 9) rfl (Nat.le_of_ble_eq_true rfl))
    refine wp_call (n := 17) (K' := KX4_prevMade) (rc' := rc) (rs' := rs) run14 rfl (Nat.le_of_eq (Nat.zero_add _)) (Nat.le_of_eq (Nat.zero_add _)) (fun v14 w14 h => ?_) (fun E14 w14 h => ?_) h
    · obtain ⟨x14, rfl, h⟩ := h
      refine wp_ldcw (n := 20) dX0_rangeByLists_17 rfl q821 ?_
      obtain ⟨⟨fs20, o20⟩, h⟩ := h
      refine wp_call (n := 23) (K' := KX0_deadBetween) (rc' := rc) (rs' := rs) (aRun_V (K' := KX0_deadBetween) (As := [vR x10, vI x14, vI 2147483647]) (rest := [vL l3]) (b := h0) (c0 := .inr (0, fs20)) dX0_rangeByLists_20 (aCal_of kf_X0_deadBetween (Nat.le_of_ble_eq_true rfl)) q798 q800 qs29 ar_X0_deadBetween o20 (by decide : 0 < 9) rfl (Nat.le_of_ble_eq_true rfl)) rfl (Nat.le_of_eq (Nat.zero_add _)) (Nat.le_of_eq (Nat.zero_add _)) (fun v20 w20 h => ?_) (fun E20 w20 h => ?_) h
      · obtain ⟨x20, rfl, h⟩ := h
        refine wp_ladd (n := 24) dX0_rangeByLists_23 rfl ?_
        refine wp_lstore_n (n := 25) (i := 3) (ls' := [(3, vL (l3 + x20)), (0, vR (some h0)), (1, vR (some a14)), (2, vR r2), (5, vR r5)]) dX0_rangeByLists_24 rfl rfl (Nat.le_of_ble_eq_true rfl) rfl ?_
        refine wp_aload (n := 27) (i := 5) (q := 4) dX0_rangeByLists_25 rfl rfl ?_
        refine wp_aload_n (n := 28) (i := 1) (q := 2) dX0_rangeByLists_27 rfl rfl rfl ?_
        refine wp_acmp_ne (n := 31) (t := 33) dX0_rangeByLists_28 rfl (by decide) (fun c28 => ?_) (fun c28 => ?_)
        · replace h := h.1 c28
          refine wp_aload (n := 35) (i := 5) (q := 4) dX0_rangeByLists_33 rfl rfl ?_
          obtain ⟨a35, ea35, h⟩ := h
          rw [ea35]
          obtain ⟨x35, g35, h⟩ := h
          refine wp_gf (n := 38) dX0_rangeByLists_35 rfl fl_X0_99 g35 ?_
          refine wp_astore (n := 40) (i := 5) (ls' := [(5, vR x35), (3, vL (l3 + x20)), (0, vR (some h0)), (1, vR (some a14)), (2, vR r2)]) dX0_rangeByLists_38 rfl (Nat.le_of_ble_eq_true rfl) rfl ?_
          refine wp_goto (t := 5) dX0_rangeByLists_40 (by decide) ?_
          exact wp_sub [2, 3, 4, 1, 0] rfl h
        · replace h := h.2 c28
          refine wp_lload_n (n := 32) (i := 3) (q := 0) dX0_rangeByLists_31 rfl rfl rfl ?_
          exact wp_lreturn dX0_rangeByLists_32 rfl h
      · exact h.elim
    · exact h.elim
  · exact h.elim
set_option maxHeartbeats 1000000 in
theorem sg_X4_holds_0 {h0 : Nat} {i1 : Int32} {rc rs : Nat} {QR : Option aV → aW → Prop} {QX : String → aW → Prop} {w : aW} (h : wp (KX4_holds) rc rs QR QX 2 [(0, vR (some h0)), (1, vI i1), (2, vI 0)] [] w) : wp (KX4_holds) rc rs QR QX 0 [(0, vR (some h0)), (1, vI i1)] [] w := by
  refine wp_iconst (n := 1) (v := 0) dX4_holds_0 rfl (by decide) ?_
  refine wp_istore_n (n := 2) (i := 2) (ls' := [(2, vI 0), (0, vR (some h0)), (1, vI i1)]) dX4_holds_1 rfl rfl (Nat.le_of_ble_eq_true rfl) rfl ?_
  exact wp_sub [1, 2, 0] rfl h
set_option maxHeartbeats 1000000 in
theorem sg_X4_holds_2 {h0 : Nat} {i1 : Int32} {i2 : Int32} {rc rs : Nat} {QR : Option aV → aW → Prop} {QX : String → aW → Prop} {w : aW} (h : (12 ≤ i2 → QR (some (vI 0)) w) ∧ (¬ 12 ≤ i2 → ∃ x9 : Nat, gf w h0 [4, 5, 6, 7] 1 (vR (some x9)) ∧ ∃ x13 : Int32, gI w x9 i2 x13 ∧ (¬ x13 = i1 → wp (KX4_holds) rc rs QR QX 2 [(0, vR (some h0)), (1, vI i1), (2, vI (i2 + 1))] [] w) ∧ (x13 = i1 → QR (some (vI 1)) w))) : wp (KX4_holds) rc rs QR QX 2 [(0, vR (some h0)), (1, vI i1), (2, vI i2)] [] w := by
  refine wp_iload_n (n := 3) (i := 2) (q := 2) dX4_holds_2 rfl rfl rfl ?_
  refine wp_bipush (n := 5) (v := 12) dX4_holds_3 rfl (by decide) ?_
  refine wp_icmp_ge (n := 8) (t := 26) dX4_holds_5 rfl (by decide) (fun c5 => ?_) (fun c5 => ?_)
  · replace h := h.1 c5
    refine wp_iconst (n := 27) (v := 0) dX4_holds_26 rfl (by decide) ?_
    exact wp_zreturn dX4_holds_27 rfl (by decide) h
  · replace h := h.2 c5
    refine wp_aload_n (n := 9) (i := 0) (q := 0) dX4_holds_8 rfl rfl rfl ?_
    obtain ⟨x9, g9, h⟩ := h
    refine wp_gf (n := 12) dX4_holds_9 rfl fl_X4_9 g9 ?_
    refine wp_iload_n (n := 13) (i := 2) (q := 2) dX4_holds_12 rfl rfl rfl ?_
    obtain ⟨x13, g13, h⟩ := h
    refine wp_gI (n := 14) dX4_holds_13 rfl g13 ?_
    refine wp_iload_n (n := 15) (i := 1) (q := 1) dX4_holds_14 rfl rfl rfl ?_
    refine wp_icmp_ne (n := 18) (t := 20) dX4_holds_15 rfl (by decide) (fun c15 => ?_) (fun c15 => ?_)
    · replace h := h.1 c15
      refine wp_iinc (n := 23) (i := 2) (q := 2) (v := i2 + 1) (ls' := [(2, vI (i2 + 1)), (0, vR (some h0)), (1, vI i1)]) dX4_holds_20 rfl rfl rfl (Nat.le_of_ble_eq_true rfl) rfl ?_
      refine wp_goto (t := 2) dX4_holds_23 (by decide) ?_
      exact wp_sub [1, 2, 0] rfl h
    · replace h := h.2 c15
      refine wp_iconst (n := 19) (v := 1) dX4_holds_18 rfl (by decide) ?_
      exact wp_zreturn dX4_holds_19 rfl (by decide) h
set_option maxHeartbeats 1000000 in
theorem sg_X0_isOnWay_0 {h0 : Nat} {r1 : Option Nat} {r2 : Option Nat} {r3 : Option Nat} {rc rs : Nat} {QR : Option aV → aW → Prop} {QX : String → aW → Prop} {w : aW} (h : wp (KX0_isOnWay) rc rs QR QX 3 [(0, vR (some h0)), (1, vR r1), (2, vR r2), (3, vR r3), (4, vR r2)] [] w) : wp (KX0_isOnWay) rc rs QR QX 0 [(0, vR (some h0)), (1, vR r1), (2, vR r2), (3, vR r3)] [] w := by
  refine wp_aload_n (n := 1) (i := 2) (q := 2) dX0_isOnWay_0 rfl rfl rfl ?_
  refine wp_astore (n := 3) (i := 4) (ls' := [(4, vR r2), (0, vR (some h0)), (1, vR r1), (2, vR r2), (3, vR r3)]) dX0_isOnWay_1 rfl (Nat.le_of_ble_eq_true rfl) rfl ?_
  exact wp_sub [1, 2, 3, 4, 0] rfl h
set_option maxHeartbeats 1000000 in
theorem sg_X0_isOnWay_3 {h0 : Nat} {r1 : Option Nat} {r2 : Option Nat} {r3 : Option Nat} {r4 : Option Nat} {rc rs : Nat} {QR : Option aV → aW → Prop} {QX : String → aW → Prop} {w : aW} (h : (r4 = r1 → (¬ r4 = r3 → QR (some (vI 0)) w) ∧ (r4 = r3 → QR (some (vI 1)) w)) ∧ (¬ r4 = r1 → (r4 = r3 → (¬ r4 = r3 → QR (some (vI 0)) w) ∧ (r4 = r3 → QR (some (vI 1)) w)) ∧ (¬ r4 = r3 → ∃ a17 : Nat, r4 = some a17 ∧ ∃ x17 : Option Nat, gf w a17 [6, 7] 5 (vR x17) ∧ wp (KX0_isOnWay) rc rs QR QX 3 [(0, vR (some h0)), (1, vR r1), (2, vR r2), (3, vR r3), (4, vR x17)] [] w))) : wp (KX0_isOnWay) rc rs QR QX 3 [(0, vR (some h0)), (1, vR r1), (2, vR r2), (3, vR r3), (4, vR r4)] [] w := by
  refine wp_aload (n := 5) (i := 4) (q := 4) dX0_isOnWay_3 rfl rfl ?_
  refine wp_aload_n (n := 6) (i := 1) (q := 1) dX0_isOnWay_5 rfl rfl rfl ?_
  refine wp_acmp_eq (n := 9) (t := 25) dX0_isOnWay_6 rfl (by decide) (fun c6 => ?_) (fun c6 => ?_)
  · replace h := h.1 c6
    refine wp_aload (n := 27) (i := 4) (q := 4) dX0_isOnWay_25 rfl rfl ?_
    refine wp_aload_n (n := 28) (i := 3) (q := 3) dX0_isOnWay_27 rfl rfl rfl ?_
    refine wp_acmp_ne (n := 31) (t := 35) dX0_isOnWay_28 rfl (by decide) (fun c28 => ?_) (fun c28 => ?_)
    · replace h := h.1 c28
      refine wp_iconst (n := 36) (v := 0) dX0_isOnWay_35 rfl (by decide) ?_
      exact wp_zreturn dX0_isOnWay_36 rfl (by decide) h
    · replace h := h.2 c28
      refine wp_iconst (n := 32) (v := 1) dX0_isOnWay_31 rfl (by decide) ?_
      refine wp_goto (t := 36) dX0_isOnWay_32 (by decide) ?_
      exact wp_zreturn dX0_isOnWay_36 rfl (by decide) h
  · replace h := h.2 c6
    refine wp_aload (n := 11) (i := 4) (q := 4) dX0_isOnWay_9 rfl rfl ?_
    refine wp_aload_n (n := 12) (i := 3) (q := 3) dX0_isOnWay_11 rfl rfl rfl ?_
    refine wp_acmp_eq (n := 15) (t := 25) dX0_isOnWay_12 rfl (by decide) (fun c12 => ?_) (fun c12 => ?_)
    · replace h := h.1 c12
      refine wp_aload (n := 27) (i := 4) (q := 4) dX0_isOnWay_25 rfl rfl ?_
      refine wp_aload_n (n := 28) (i := 3) (q := 3) dX0_isOnWay_27 rfl rfl rfl ?_
      refine wp_acmp_ne (n := 31) (t := 35) dX0_isOnWay_28 rfl (by decide) (fun c28 => ?_) (fun c28 => ?_)
      · replace h := h.1 c28
        refine wp_iconst (n := 36) (v := 0) dX0_isOnWay_35 rfl (by decide) ?_
        exact wp_zreturn dX0_isOnWay_36 rfl (by decide) h
      · replace h := h.2 c28
        refine wp_iconst (n := 32) (v := 1) dX0_isOnWay_31 rfl (by decide) ?_
        refine wp_goto (t := 36) dX0_isOnWay_32 (by decide) ?_
        exact wp_zreturn dX0_isOnWay_36 rfl (by decide) h
    · replace h := h.2 c12
      refine wp_aload (n := 17) (i := 4) (q := 4) dX0_isOnWay_15 rfl rfl ?_
      obtain ⟨a17, ea17, h⟩ := h
      rw [ea17]
      obtain ⟨x17, g17, h⟩ := h
      refine wp_gf (n := 20) dX0_isOnWay_17 rfl fl_X0_99 g17 ?_
      refine wp_astore (n := 22) (i := 4) (ls' := [(4, vR x17), (0, vR (some h0)), (1, vR r1), (2, vR r2), (3, vR r3)]) dX0_isOnWay_20 rfl (Nat.le_of_ble_eq_true rfl) rfl ?_
      refine wp_goto (t := 3) dX0_isOnWay_22 (by decide) ?_
      exact wp_sub [1, 2, 3, 4, 0] rfl h
set_option maxHeartbeats 1000000 in
theorem sg_X0_isHeldOutside_0 {h0 : Nat} {r1 : Option Nat} {r2 : Option Nat} {i3 : Int32} {rc rs : Nat} {QR : Option aV → aW → Prop} {QX : String → aW → Prop} {w : aW} (h : wp (KX0_isHeldOutside) rc rs QR QX 3 [(0, vR (some h0)), (1, vR r1), (2, vR r2), (3, vI i3), (4, vI 0)] [] w) : wp (KX0_isHeldOutside) rc rs QR QX 0 [(0, vR (some h0)), (1, vR r1), (2, vR r2), (3, vI i3)] [] w := by
  refine wp_iconst (n := 1) (v := 0) dX0_isHeldOutside_0 rfl (by decide) ?_
  refine wp_istore (n := 3) (i := 4) (ls' := [(4, vI 0), (0, vR (some h0)), (1, vR r1), (2, vR r2), (3, vI i3)]) dX0_isHeldOutside_1 rfl (Nat.le_of_ble_eq_true rfl) rfl ?_
  exact wp_sub [1, 2, 3, 4, 0] rfl h
set_option maxHeartbeats 1000000 in
theorem sg_X0_isHeldOutside_3 {h0 : Nat} {r1 : Option Nat} {r2 : Option Nat} {i3 : Int32} {i4 : Int32} {rc rs : Nat} {QR : Option aV → aW → Prop} {QX : String → aW → Prop} {w : aW} (h : (20 ≤ i4 → QR (some (vI 0)) w) ∧ (¬ 20 ≤ i4 → isO w h0 0 ∧ ct (KX0_holderAt) 0 0 [vR (some h0), vI i4] w (fun v13 w13 => ∃ x13 : Option Nat, v13 = some (vR x13) ∧ (x13 = none → wp (KX0_isHeldOutside) rc rs QR QX 3 [(0, vR (some h0)), (1, vR r1), (2, vR r2), (3, vI i3), (4, vI (i4 + 1))] [] w13) ∧ (∀ a20 : Nat, x13 = some a20 → ck w13 a20 [4, 5, 6, 7] ∧ ct (KX4_holds) 0 0 [vR (some a20), vI i3] w13 (fun v26 w26 => ∃ x26 : Int32, v26 = some (vI x26) ∧ (x26 = 0 → wp (KX0_isHeldOutside) rc rs QR QX 3 [(0, vR (some h0)), (1, vR r1), (2, vR r2), (3, vI i3), (4, vI (i4 + 1))] [] w26) ∧ (¬ x26 = 0 → isO w26 h0 0 ∧ ct (KX0_isOnWay) 0 0 [vR (some h0), vR r1, vR r2, vR (some a20)] w26 (fun v37 w37 => ∃ x37 : Int32, v37 = some (vI x37) ∧ (¬ x37 = 0 → wp (KX0_isHeldOutside) rc rs QR QX 3 [(0, vR (some h0)), (1, vR r1), (2, vR r2), (3, vI i3), (4, vI (i4 + 1))] [] w37) ∧ (x37 = 0 → QR (some (vI 1)) w37)) (fun E37 w37 => False))) (fun E26 w26 => False))) (fun E13 w13 => False))) : wp (KX0_isHeldOutside) rc rs QR QX 3 [(0, vR (some h0)), (1, vR r1), (2, vR r2), (3, vI i3), (4, vI i4)] [] w := by
  refine wp_iload (n := 5) (i := 4) (q := 4) dX0_isHeldOutside_3 rfl rfl ?_
  refine wp_bipush (n := 7) (v := 20) dX0_isHeldOutside_5 rfl (by decide) ?_
  refine wp_icmp_ge (n := 10) (t := 51) dX0_isHeldOutside_7 rfl (by decide) (fun c7 => ?_) (fun c7 => ?_)
  · replace h := h.1 c7
    refine wp_iconst (n := 52) (v := 0) dX0_isHeldOutside_51 rfl (by decide) ?_
    exact wp_zreturn dX0_isHeldOutside_52 rfl (by decide) h
  · replace h := h.2 c7
    refine wp_aload_n (n := 11) (i := 0) (q := 0) dX0_isHeldOutside_10 rfl rfl rfl ?_
    refine wp_iload (n := 13) (i := 4) (q := 4) dX0_isHeldOutside_11 rfl rfl ?_
    obtain ⟨⟨fs13, o13⟩, h⟩ := h
    refine wp_call (n := 16) (K' := KX0_holderAt) (rc' := rc) (rs' := rs) (aRun_V (K' := KX0_holderAt) (As := [vI i4]) (rest := []) (b := h0) (c0 := .inr (0, fs13)) dX0_isHeldOutside_13 (aCal_of kf_X0_holderAt (Nat.le_of_ble_eq_true rfl)) q655 q657 qs21 ar_X0_holderAt o13 (by decide : 0 < 9) rfl (Nat.le_of_ble_eq_true rfl)) rfl (Nat.le_of_eq (Nat.zero_add _)) (Nat.le_of_eq (Nat.zero_add _)) (fun v13 w13 h => ?_) (fun E13 w13 h => ?_) h
    · obtain ⟨x13, rfl, h⟩ := h
      refine wp_astore (n := 18) (i := 5) (ls' := [(5, vR x13), (0, vR (some h0)), (1, vR r1), (2, vR r2), (3, vI i3), (4, vI i4)]) dX0_isHeldOutside_16 rfl (Nat.le_of_ble_eq_true rfl) rfl ?_
      refine wp_aload (n := 20) (i := 5) (q := 0) dX0_isHeldOutside_18 rfl rfl ?_
      rcases opt_c x13 with ea20 | ⟨a20, ea20⟩
      · replace h := h.1 ea20
        rw [ea20]
        refine wp_ifnull (n := 23) (t := 45) dX0_isHeldOutside_20 rfl (by decide) (fun _ => ?_) (fun z zz => nomatch zz)
        refine wp_iinc (n := 48) (i := 4) (q := 5) (v := i4 + 1) (ls' := [(4, vI (i4 + 1)), (5, vR none), (0, vR (some h0)), (1, vR r1), (2, vR r2), (3, vI i3)]) dX0_isHeldOutside_45 rfl rfl rfl (Nat.le_of_ble_eq_true rfl) rfl ?_
        refine wp_goto (t := 3) dX0_isHeldOutside_48 (by decide) ?_
        exact wp_sub [2, 3, 4, 5, 0] rfl h
      · replace h := h.2 a20 ea20
        rw [ea20]
        refine wp_ifnull (n := 23) (t := 45) dX0_isHeldOutside_20 rfl (by decide) (fun zz => nomatch zz) (fun _ _ => ?_)
        refine wp_aload (n := 25) (i := 5) (q := 0) dX0_isHeldOutside_23 rfl rfl ?_
        refine wp_iload_n (n := 26) (i := 3) (q := 4) dX0_isHeldOutside_25 rfl rfl rfl ?_
        obtain ⟨⟨cc26, o26, kk26⟩, h⟩ := h
        have run26 : aRun (KX0_isHeldOutside) (KX4_holds) 26 [vR (some a20), vI i3] [vI i3, vR (some a20)] [] w13 := by
          simp only [List.mem_cons, List.not_mem_nil, or_false] at kk26
          rcases kk26 with kk26 | kk26 | kk26 | kk26
          · obtain ⟨fs26, rfl⟩ := kd_o kk26 (by decide)
            exact (aRun_U (K' := KX4_holds) (As := [vI i3]) (rest := []) (b := a20) (x := ⟨"DeadListPool$Holder", "holds", "(I)Z"⟩) (owner := "DeadListPool$Holder") (c0 := .inr (4, fs26)) dX0_isHeldOutside_26 (aCal_of kf_X4_holds (Nat.le_of_ble_eq_true rfl)) rfl q770 q772 q774 q771 (Or.inr q828) ⟨by decide, by decide⟩ ar_X4_holds o26 (by decide : 4 < 9) rfl (Nat.le_of_ble_eq_true rfl))
          · obtain ⟨fs26, rfl⟩ := kd_o kk26 (by decide)
            exact (aRun_U (K' := KX4_holds) (As := [vI i3]) (rest := []) (b := a20) (x := ⟨"DeadListPool$Holder", "holds", "(I)Z"⟩) (owner := "DeadListPool$Holder") (c0 := .inr (5, fs26)) dX0_isHeldOutside_26 (aCal_of kf_X4_holds (Nat.le_of_ble_eq_true rfl)) rfl q770 q772 q773 q771 (Or.inr q828) ⟨by decide, by decide⟩ ar_X4_holds o26 (by decide : 5 < 9) rfl (Nat.le_of_ble_eq_true rfl))
          · obtain ⟨fs26, rfl⟩ := kd_o kk26 (by decide)
            exact (aRun_U (K' := KX4_holds) (As := [vI i3]) (rest := []) (b := a20) (x := ⟨"DeadListPool$Holder", "holds", "(I)Z"⟩) (owner := "DeadListPool$Holder") (c0 := .inr (6, fs26)) dX0_isHeldOutside_26 (aCal_of kf_X4_holds (Nat.le_of_ble_eq_true rfl)) rfl q770 q772 q775 q771 (Or.inr q828) ⟨by decide, by decide⟩ ar_X4_holds o26 (by decide : 6 < 9) rfl (Nat.le_of_ble_eq_true rfl))
          · obtain ⟨fs26, rfl⟩ := kd_o kk26 (by decide)
            exact (aRun_U (K' := KX4_holds) (As := [vI i3]) (rest := []) (b := a20) (x := ⟨"DeadListPool$Holder", "holds", "(I)Z"⟩) (owner := "DeadListPool$Holder") (c0 := .inr (7, fs26)) dX0_isHeldOutside_26 (aCal_of kf_X4_holds (Nat.le_of_ble_eq_true rfl)) rfl q770 q772 q776 q771 (Or.inr q828) ⟨by decide, by decide⟩ ar_X4_holds o26 (by decide : 7 < 9) rfl (Nat.le_of_ble_eq_true rfl))
        refine wp_call (n := 29) (K' := KX4_holds) (rc' := rc) (rs' := rs) run26 rfl (Nat.le_of_eq (Nat.zero_add _)) (Nat.le_of_eq (Nat.zero_add _)) (fun v26 w26 h => ?_) (fun E26 w26 h => ?_) h
        · obtain ⟨x26, rfl, h⟩ := h
          refine wp_if_eq (n := 32) (t := 45) dX0_isHeldOutside_29 rfl (by decide) (fun c29 => ?_) (fun c29 => ?_)
          · replace h := h.1 c29
            refine wp_iinc (n := 48) (i := 4) (q := 5) (v := i4 + 1) (ls' := [(4, vI (i4 + 1)), (5, vR (some a20)), (0, vR (some h0)), (1, vR r1), (2, vR r2), (3, vI i3)]) dX0_isHeldOutside_45 rfl rfl rfl (Nat.le_of_ble_eq_true rfl) rfl ?_
            refine wp_goto (t := 3) dX0_isHeldOutside_48 (by decide) ?_
            exact wp_sub [2, 3, 4, 5, 0] rfl h
          · replace h := h.2 c29
            refine wp_aload_n (n := 33) (i := 0) (q := 1) dX0_isHeldOutside_32 rfl rfl rfl ?_
            refine wp_aload_n (n := 34) (i := 1) (q := 2) dX0_isHeldOutside_33 rfl rfl rfl ?_
            refine wp_aload_n (n := 35) (i := 2) (q := 3) dX0_isHeldOutside_34 rfl rfl rfl ?_
            refine wp_aload (n := 37) (i := 5) (q := 0) dX0_isHeldOutside_35 rfl rfl ?_
            obtain ⟨⟨fs37, o37⟩, h⟩ := h
            refine wp_call (n := 40) (K' := KX0_isOnWay) (rc' := rc) (rs' := rs) (aRun_V (K' := KX0_isOnWay) (As := [vR r1, vR r2, vR (some a20)]) (rest := []) (b := h0) (c0 := .inr (0, fs37)) dX0_isHeldOutside_37 (aCal_of kf_X0_isOnWay (Nat.le_of_ble_eq_true rfl)) q835 q837 qs34 ar_X0_isOnWay o37 (by decide : 0 < 9) rfl (Nat.le_of_ble_eq_true rfl)) rfl (Nat.le_of_eq (Nat.zero_add _)) (Nat.le_of_eq (Nat.zero_add _)) (fun v37 w37 h => ?_) (fun E37 w37 h => ?_) h
            · obtain ⟨x37, rfl, h⟩ := h
              refine wp_if_ne (n := 43) (t := 45) dX0_isHeldOutside_40 rfl (by decide) (fun c40 => ?_) (fun c40 => ?_)
              · replace h := h.1 c40
                refine wp_iinc (n := 48) (i := 4) (q := 5) (v := i4 + 1) (ls' := [(4, vI (i4 + 1)), (5, vR (some a20)), (0, vR (some h0)), (1, vR r1), (2, vR r2), (3, vI i3)]) dX0_isHeldOutside_45 rfl rfl rfl (Nat.le_of_ble_eq_true rfl) rfl ?_
                refine wp_goto (t := 3) dX0_isHeldOutside_48 (by decide) ?_
                exact wp_sub [2, 3, 4, 5, 0] rfl h
              · replace h := h.2 c40
                refine wp_iconst (n := 44) (v := 1) dX0_isHeldOutside_43 rfl (by decide) ?_
                exact wp_zreturn dX0_isHeldOutside_44 rfl (by decide) h
            · exact h.elim
        · exact h.elim
    · exact h.elim
set_option maxHeartbeats 1000000 in
theorem sg_X0_rangeByBlocks_0 {h0 : Nat} {r1 : Option Nat} {r2 : Option Nat} {rc rs : Nat} {QR : Option aV → aW → Prop} {QX : String → aW → Prop} {w : aW} (h : wp (KX0_rangeByBlocks) rc rs QR QX 8 [(0, vR (some h0)), (1, vR r1), (2, vR r2), (3, vL 0), (5, vR none), (6, vR r2)] [] w) : wp (KX0_rangeByBlocks) rc rs QR QX 0 [(0, vR (some h0)), (1, vR r1), (2, vR r2)] [] w := by
  refine wp_lconst (n := 1) (v := 0) dX0_rangeByBlocks_0 rfl (by decide) ?_
  refine wp_lstore_n (n := 2) (i := 3) (ls' := [(3, vL 0), (0, vR (some h0)), (1, vR r1), (2, vR r2)]) dX0_rangeByBlocks_1 rfl rfl (Nat.le_of_ble_eq_true rfl) rfl ?_
  refine wp_null (n := 3) dX0_rangeByBlocks_2 rfl ?_
  refine wp_astore (n := 5) (i := 5) (ls' := [(5, vR none), (3, vL 0), (0, vR (some h0)), (1, vR r1), (2, vR r2)]) dX0_rangeByBlocks_3 rfl (Nat.le_of_ble_eq_true rfl) rfl ?_
  refine wp_aload_n (n := 6) (i := 2) (q := 4) dX0_rangeByBlocks_5 rfl rfl rfl ?_
  refine wp_astore (n := 8) (i := 6) (ls' := [(6, vR r2), (5, vR none), (3, vL 0), (0, vR (some h0)), (1, vR r1), (2, vR r2)]) dX0_rangeByBlocks_6 rfl (Nat.le_of_ble_eq_true rfl) rfl ?_
  exact wp_sub [3, 4, 5, 2, 1, 0] rfl h
set_option maxHeartbeats 1000000 in
theorem sg_X0_rangeByBlocks_8 {h0 : Nat} {r1 : Option Nat} {r2 : Option Nat} {l3 : Int64} {r5 : Option Nat} {r6 : Option Nat} {rc rs : Nat} {QR : Option aV → aW → Prop} {QX : String → aW → Prop} {w : aW} (h : wp (KX0_rangeByBlocks) rc rs QR QX 11 [(0, vR (some h0)), (1, vR r1), (2, vR r2), (3, vL l3), (5, vR r5), (6, vR r6), (7, vI 0)] [] w) : wp (KX0_rangeByBlocks) rc rs QR QX 8 [(0, vR (some h0)), (1, vR r1), (2, vR r2), (3, vL l3), (5, vR r5), (6, vR r6)] [] w := by
  refine wp_iconst (n := 9) (v := 0) dX0_rangeByBlocks_8 rfl (by decide) ?_
  refine wp_istore (n := 11) (i := 7) (ls' := [(7, vI 0), (0, vR (some h0)), (1, vR r1), (2, vR r2), (3, vL l3), (5, vR r5), (6, vR r6)]) dX0_rangeByBlocks_9 rfl (Nat.le_of_ble_eq_true rfl) rfl ?_
  exact wp_sub [1, 2, 3, 4, 5, 6, 0] rfl h
set_option maxHeartbeats 1000000 in
theorem sg_X0_rangeByBlocks_11 {h0 : Nat} {r1 : Option Nat} {r2 : Option Nat} {l3 : Int64} {r5 : Option Nat} {r6 : Option Nat} {i7 : Int32} {rc rs : Nat} {QR : Option aV → aW → Prop} {QX : String → aW → Prop} {w : aW} (h : (12 ≤ i7 → (¬ r6 = r1 → ∃ a107 : Nat, r6 = some a107 ∧ ∃ x107 : Option Nat, gf w a107 [6, 7] 5 (vR x107) ∧ wp (KX0_rangeByBlocks) rc rs QR QX 8 [(0, vR (some h0)), (1, vR r1), (2, vR r2), (3, vL l3), (5, vR (some a107)), (6, vR x107)] [] w) ∧ (r6 = r1 → QR (some (vL l3)) w)) ∧ (¬ 12 ≤ i7 → ∃ a20 : Nat, r6 = some a20 ∧ ∃ x20 : Nat, gf w a20 [6, 7] 1 (vR (some x20)) ∧ ∃ x25 : Int32, gI w x20 i7 x25 ∧ (x25 = (-1) → wp (KX0_rangeByBlocks) rc rs QR QX 11 [(0, vR (some h0)), (1, vR r1), (2, vR r2), (3, vL (l3 + 0)), (5, vR r5), (6, vR (some a20)), (7, vI (i7 + 1))] [] w) ∧ (¬ x25 = (-1) → (r5 = none → isO w h0 0 ∧ ct (KX0_isHeldOutside) 0 0 [vR (some h0), vR r1, vR r2, vI x25] w (fun v67 w67 => ∃ x67 : Int32, v67 = some (vI x67) ∧ (¬ x67 = 0 → wp (KX0_rangeByBlocks) rc rs QR QX 11 [(0, vR (some h0)), (1, vR r1), (2, vR r2), (3, vL (l3 + 0)), (5, vR none), (6, vR (some a20)), (7, vI (i7 + 1))] [] w67) ∧ (x67 = 0 → ∃ x74 : Nat, gf w67 h0 [0] 0 (vR (some x74)) ∧ ∃ x79 : Int32, gI w67 x74 x25 x79 ∧ wp (KX0_rangeByBlocks) rc rs QR QX 11 [(0, vR (some h0)), (1, vR r1), (2, vR r2), (3, vL (l3 + (Int32.toInt64 x79))), (5, vR none), (6, vR (some a20)), (7, vI (i7 + 1))] [] w67)) (fun E67 w67 => False)) ∧ (∀ a36 : Nat, r5 = some a36 → ck w a36 [6, 7] ∧ ct (KX4_holds) 0 0 [vR (some a36), vI x25] w (fun v43 w43 => ∃ x43 : Int32, v43 = some (vI x43) ∧ (¬ x43 = 0 → wp (KX0_rangeByBlocks) rc rs QR QX 11 [(0, vR (some h0)), (1, vR r1), (2, vR r2), (3, vL (l3 + 0)), (5, vR (some a36)), (6, vR (some a20)), (7, vI (i7 + 1))] [] w43) ∧ (x43 = 0 → isO w43 h0 0 ∧ ct (KX0_isHeldOutside) 0 0 [vR (some h0), vR r1, vR r2, vI x25] w43 (fun v67 w67 => ∃ x67 : Int32, v67 = some (vI x67) ∧ (¬ x67 = 0 → wp (KX0_rangeByBlocks) rc rs QR QX 11 [(0, vR (some h0)), (1, vR r1), (2, vR r2), (3, vL (l3 + 0)), (5, vR (some a36)), (6, vR (some a20)), (7, vI (i7 + 1))] [] w67) ∧ (x67 = 0 → ∃ x74 : Nat, gf w67 h0 [0] 0 (vR (some x74)) ∧ ∃ x79 : Int32, gI w67 x74 x25 x79 ∧ wp (KX0_rangeByBlocks) rc rs QR QX 11 [(0, vR (some h0)), (1, vR r1), (2, vR r2), (3, vL (l3 + (Int32.toInt64 x79))), (5, vR (some a36)), (6, vR (some a20)), (7, vI (i7 + 1))] [] w67)) (fun E67 w67 => False))) (fun E43 w43 => False))))) : wp (KX0_rangeByBlocks) rc rs QR QX 11 [(0, vR (some h0)), (1, vR r1), (2, vR r2), (3, vL l3), (5, vR r5), (6, vR r6), (7, vI i7)] [] w := by
  refine wp_iload (n := 13) (i := 7) (q := 6) dX0_rangeByBlocks_11 rfl rfl ?_
  refine wp_bipush (n := 15) (v := 12) dX0_rangeByBlocks_13 rfl (by decide) ?_
  refine wp_icmp_ge (n := 18) (t := 93) dX0_rangeByBlocks_15 rfl (by decide) (fun c15 => ?_) (fun c15 => ?_)
  · replace h := h.1 c15
    refine wp_aload (n := 95) (i := 6) (q := 5) dX0_rangeByBlocks_93 rfl rfl ?_
    refine wp_aload_n (n := 96) (i := 1) (q := 1) dX0_rangeByBlocks_95 rfl rfl rfl ?_
    refine wp_acmp_ne (n := 99) (t := 101) dX0_rangeByBlocks_96 rfl (by decide) (fun c96 => ?_) (fun c96 => ?_)
    · replace h := h.1 c96
      refine wp_aload (n := 103) (i := 6) (q := 5) dX0_rangeByBlocks_101 rfl rfl ?_
      refine wp_astore (n := 105) (i := 5) (ls' := [(5, vR r6), (0, vR (some h0)), (1, vR r1), (2, vR r2), (3, vL l3), (6, vR r6), (7, vI i7)]) dX0_rangeByBlocks_103 rfl (Nat.le_of_ble_eq_true rfl) rfl ?_
      refine wp_aload (n := 107) (i := 6) (q := 5) dX0_rangeByBlocks_105 rfl rfl ?_
      obtain ⟨a107, ea107, h⟩ := h
      rw [ea107]
      obtain ⟨x107, g107, h⟩ := h
      refine wp_gf (n := 110) dX0_rangeByBlocks_107 rfl fl_X0_99 g107 ?_
      refine wp_astore (n := 112) (i := 6) (ls' := [(6, vR x107), (5, vR (some a107)), (0, vR (some h0)), (1, vR r1), (2, vR r2), (3, vL l3), (7, vI i7)]) dX0_rangeByBlocks_110 rfl (Nat.le_of_ble_eq_true rfl) rfl ?_
      refine wp_goto (t := 8) dX0_rangeByBlocks_112 (by decide) ?_
      exact wp_sub [2, 3, 4, 5, 1, 0] rfl h
    · replace h := h.2 c96
      refine wp_lload_n (n := 100) (i := 3) (q := 3) dX0_rangeByBlocks_99 rfl rfl rfl ?_
      exact wp_lreturn dX0_rangeByBlocks_100 rfl h
  · replace h := h.2 c15
    refine wp_aload (n := 20) (i := 6) (q := 5) dX0_rangeByBlocks_18 rfl rfl ?_
    obtain ⟨a20, ea20, h⟩ := h
    rw [ea20]
    obtain ⟨x20, g20, h⟩ := h
    refine wp_gf (n := 23) dX0_rangeByBlocks_20 rfl fl_X0_310 g20 ?_
    refine wp_iload (n := 25) (i := 7) (q := 6) dX0_rangeByBlocks_23 rfl rfl ?_
    obtain ⟨x25, g25, h⟩ := h
    refine wp_gI (n := 26) dX0_rangeByBlocks_25 rfl g25 ?_
    refine wp_istore (n := 28) (i := 8) (ls' := [(8, vI x25), (0, vR (some h0)), (1, vR r1), (2, vR r2), (3, vL l3), (5, vR r5), (6, vR (some a20)), (7, vI i7)]) dX0_rangeByBlocks_26 rfl (Nat.le_of_ble_eq_true rfl) rfl ?_
    refine wp_iload (n := 30) (i := 8) (q := 0) dX0_rangeByBlocks_28 rfl rfl ?_
    refine wp_iconst (n := 31) (v := (-1)) dX0_rangeByBlocks_30 rfl (by decide) ?_
    refine wp_icmp_eq (n := 34) (t := 53) dX0_rangeByBlocks_31 rfl (by decide) (fun c31 => ?_) (fun c31 => ?_)
    · replace h := h.1 c31
      refine wp_iconst (n := 54) (v := 0) dX0_rangeByBlocks_53 rfl (by decide) ?_
      refine wp_istore (n := 56) (i := 9) (ls' := [(9, vI 0), (8, vI x25), (0, vR (some h0)), (1, vR r1), (2, vR r2), (3, vL l3), (5, vR r5), (6, vR (some a20)), (7, vI i7)]) dX0_rangeByBlocks_54 rfl (Nat.le_of_ble_eq_true rfl) rfl ?_
      refine wp_lload_n (n := 57) (i := 3) (q := 5) dX0_rangeByBlocks_56 rfl rfl rfl ?_
      refine wp_iload (n := 59) (i := 9) (q := 0) dX0_rangeByBlocks_57 rfl rfl ?_
      refine wp_if_eq (n := 62) (t := 84) dX0_rangeByBlocks_59 rfl (by decide) (fun _ => ?_) (fun z => absurd z (by decide))
      refine wp_lconst (n := 85) (v := 0) dX0_rangeByBlocks_84 rfl (by decide) ?_
      refine wp_ladd (n := 86) dX0_rangeByBlocks_85 rfl ?_
      refine wp_lstore_n (n := 87) (i := 3) (ls' := [(3, vL (l3 + 0)), (9, vI 0), (8, vI x25), (0, vR (some h0)), (1, vR r1), (2, vR r2), (5, vR r5), (6, vR (some a20)), (7, vI i7)]) dX0_rangeByBlocks_86 rfl rfl (Nat.le_of_ble_eq_true rfl) rfl ?_
      refine wp_iinc (n := 90) (i := 7) (q := 8) (v := i7 + 1) (ls' := [(7, vI (i7 + 1)), (3, vL (l3 + 0)), (9, vI 0), (8, vI x25), (0, vR (some h0)), (1, vR r1), (2, vR r2), (5, vR r5), (6, vR (some a20))]) dX0_rangeByBlocks_87 rfl rfl rfl (Nat.le_of_ble_eq_true rfl) rfl ?_
      refine wp_goto (t := 11) dX0_rangeByBlocks_90 (by decide) ?_
      exact wp_sub [4, 5, 6, 1, 7, 8, 0] rfl h
    · replace h := h.2 c31
      refine wp_aload (n := 36) (i := 5) (q := 5) dX0_rangeByBlocks_34 rfl rfl ?_
      rcases opt_c r5 with ea36 | ⟨a36, ea36⟩
      · replace h := h.1 ea36
        rw [ea36]
        refine wp_ifnull (n := 39) (t := 49) dX0_rangeByBlocks_36 rfl (by decide) (fun _ => ?_) (fun z zz => nomatch zz)
        refine wp_iconst (n := 50) (v := 1) dX0_rangeByBlocks_49 rfl (by decide) ?_
        refine wp_goto (t := 54) dX0_rangeByBlocks_50 (by decide) ?_
        refine wp_istore (n := 56) (i := 9) (ls' := [(9, vI 1), (8, vI x25), (0, vR (some h0)), (1, vR r1), (2, vR r2), (3, vL l3), (5, vR none), (6, vR (some a20)), (7, vI i7)]) dX0_rangeByBlocks_54 rfl (Nat.le_of_ble_eq_true rfl) rfl ?_
        refine wp_lload_n (n := 57) (i := 3) (q := 5) dX0_rangeByBlocks_56 rfl rfl rfl ?_
        refine wp_iload (n := 59) (i := 9) (q := 0) dX0_rangeByBlocks_57 rfl rfl ?_
        refine wp_if_eq (n := 62) (t := 84) dX0_rangeByBlocks_59 rfl (by decide) (fun z => absurd z (by decide)) (fun _ => ?_)
        refine wp_aload_n (n := 63) (i := 0) (q := 2) dX0_rangeByBlocks_62 rfl rfl rfl ?_
        refine wp_aload_n (n := 64) (i := 1) (q := 3) dX0_rangeByBlocks_63 rfl rfl rfl ?_
        refine wp_aload_n (n := 65) (i := 2) (q := 4) dX0_rangeByBlocks_64 rfl rfl rfl ?_
        refine wp_iload (n := 67) (i := 8) (q := 1) dX0_rangeByBlocks_65 rfl rfl ?_
        obtain ⟨⟨fs67, o67⟩, h⟩ := h
        refine wp_call (n := 70) (K' := KX0_isHeldOutside) (rc' := rc) (rs' := rs) (aRun_V (K' := KX0_isHeldOutside) (As := [vR r1, vR r2, vI x25]) (rest := [vL l3]) (b := h0) (c0 := .inr (0, fs67)) dX0_rangeByBlocks_67 (aCal_of kf_X0_isHeldOutside (Nat.le_of_ble_eq_true rfl)) q831 q833 qs33 ar_X0_isHeldOutside o67 (by decide : 0 < 9) rfl (Nat.le_of_ble_eq_true rfl)) rfl (Nat.le_of_eq (Nat.zero_add _)) (Nat.le_of_eq (Nat.zero_add _)) (fun v67 w67 h => ?_) (fun E67 w67 h => ?_) h
        · obtain ⟨x67, rfl, h⟩ := h
          refine wp_if_ne (n := 73) (t := 84) dX0_rangeByBlocks_70 rfl (by decide) (fun c70 => ?_) (fun c70 => ?_)
          · replace h := h.1 c70
            refine wp_lconst (n := 85) (v := 0) dX0_rangeByBlocks_84 rfl (by decide) ?_
            refine wp_ladd (n := 86) dX0_rangeByBlocks_85 rfl ?_
            refine wp_lstore_n (n := 87) (i := 3) (ls' := [(3, vL (l3 + 0)), (9, vI 1), (8, vI x25), (0, vR (some h0)), (1, vR r1), (2, vR r2), (5, vR none), (6, vR (some a20)), (7, vI i7)]) dX0_rangeByBlocks_86 rfl rfl (Nat.le_of_ble_eq_true rfl) rfl ?_
            refine wp_iinc (n := 90) (i := 7) (q := 8) (v := i7 + 1) (ls' := [(7, vI (i7 + 1)), (3, vL (l3 + 0)), (9, vI 1), (8, vI x25), (0, vR (some h0)), (1, vR r1), (2, vR r2), (5, vR none), (6, vR (some a20))]) dX0_rangeByBlocks_87 rfl rfl rfl (Nat.le_of_ble_eq_true rfl) rfl ?_
            refine wp_goto (t := 11) dX0_rangeByBlocks_90 (by decide) ?_
            exact wp_sub [4, 5, 6, 1, 7, 8, 0] rfl h
          · replace h := h.2 c70
            refine wp_aload_n (n := 74) (i := 0) (q := 2) dX0_rangeByBlocks_73 rfl rfl rfl ?_
            obtain ⟨x74, g74, h⟩ := h
            refine wp_gf (n := 77) dX0_rangeByBlocks_74 rfl fl_X0_9 g74 ?_
            refine wp_iload (n := 79) (i := 8) (q := 1) dX0_rangeByBlocks_77 rfl rfl ?_
            obtain ⟨x79, g79, h⟩ := h
            refine wp_gI (n := 80) dX0_rangeByBlocks_79 rfl g79 ?_
            refine wp_i2l (n := 81) dX0_rangeByBlocks_80 rfl ?_
            refine wp_goto (t := 85) dX0_rangeByBlocks_81 (by decide) ?_
            refine wp_ladd (n := 86) dX0_rangeByBlocks_85 rfl ?_
            refine wp_lstore_n (n := 87) (i := 3) (ls' := [(3, vL (l3 + (Int32.toInt64 x79))), (9, vI 1), (8, vI x25), (0, vR (some h0)), (1, vR r1), (2, vR r2), (5, vR none), (6, vR (some a20)), (7, vI i7)]) dX0_rangeByBlocks_86 rfl rfl (Nat.le_of_ble_eq_true rfl) rfl ?_
            refine wp_iinc (n := 90) (i := 7) (q := 8) (v := i7 + 1) (ls' := [(7, vI (i7 + 1)), (3, vL (l3 + (Int32.toInt64 x79))), (9, vI 1), (8, vI x25), (0, vR (some h0)), (1, vR r1), (2, vR r2), (5, vR none), (6, vR (some a20))]) dX0_rangeByBlocks_87 rfl rfl rfl (Nat.le_of_ble_eq_true rfl) rfl ?_
            refine wp_goto (t := 11) dX0_rangeByBlocks_90 (by decide) ?_
            exact wp_sub [4, 5, 6, 1, 7, 8, 0] rfl h
        · exact h.elim
      · replace h := h.2 a36 ea36
        rw [ea36]
        refine wp_ifnull (n := 39) (t := 49) dX0_rangeByBlocks_36 rfl (by decide) (fun zz => nomatch zz) (fun _ _ => ?_)
        refine wp_aload (n := 41) (i := 5) (q := 5) dX0_rangeByBlocks_39 rfl rfl ?_
        refine wp_iload (n := 43) (i := 8) (q := 0) dX0_rangeByBlocks_41 rfl rfl ?_
        obtain ⟨⟨cc43, o43, kk43⟩, h⟩ := h
        have run43 : aRun (KX0_rangeByBlocks) (KX4_holds) 43 [vR (some a36), vI x25] [vI x25, vR (some a36)] [] w := by
          simp only [List.mem_cons, List.not_mem_nil, or_false] at kk43
          rcases kk43 with kk43 | kk43
          · obtain ⟨fs43, rfl⟩ := kd_o kk43 (by decide)
            exact (aRun_U (K' := KX4_holds) (As := [vI x25]) (rest := []) (b := a36) (x := ⟨"DeadListPool$Snapshot", "holds", "(I)Z"⟩) (owner := "DeadListPool$Holder") (c0 := .inr (6, fs43)) dX0_rangeByBlocks_43 (aCal_of kf_X4_holds (Nat.le_of_ble_eq_true rfl)) rfl q826 q827 q829 q771 (Or.inr q828) ⟨by decide, by decide⟩ ar_X4_holds o43 (by decide : 6 < 9) rfl (Nat.le_of_ble_eq_true rfl))
          · obtain ⟨fs43, rfl⟩ := kd_o kk43 (by decide)
            exact (aRun_U (K' := KX4_holds) (As := [vI x25]) (rest := []) (b := a36) (x := ⟨"DeadListPool$Snapshot", "holds", "(I)Z"⟩) (owner := "DeadListPool$Holder") (c0 := .inr (7, fs43)) dX0_rangeByBlocks_43 (aCal_of kf_X4_holds (Nat.le_of_ble_eq_true rfl)) rfl q826 q827 q830 q771 (Or.inr q828) ⟨by decide, by decide⟩ ar_X4_holds o43 (by decide : 7 < 9) rfl (Nat.le_of_ble_eq_true rfl))
        refine wp_call (n := 46) (K' := KX4_holds) (rc' := rc) (rs' := rs) run43 rfl (Nat.le_of_eq (Nat.zero_add _)) (Nat.le_of_eq (Nat.zero_add _)) (fun v43 w43 h => ?_) (fun E43 w43 h => ?_) h
        · obtain ⟨x43, rfl, h⟩ := h
          refine wp_if_ne (n := 49) (t := 53) dX0_rangeByBlocks_46 rfl (by decide) (fun c46 => ?_) (fun c46 => ?_)
          · replace h := h.1 c46
            refine wp_iconst (n := 54) (v := 0) dX0_rangeByBlocks_53 rfl (by decide) ?_
            refine wp_istore (n := 56) (i := 9) (ls' := [(9, vI 0), (8, vI x25), (0, vR (some h0)), (1, vR r1), (2, vR r2), (3, vL l3), (5, vR (some a36)), (6, vR (some a20)), (7, vI i7)]) dX0_rangeByBlocks_54 rfl (Nat.le_of_ble_eq_true rfl) rfl ?_
            refine wp_lload_n (n := 57) (i := 3) (q := 5) dX0_rangeByBlocks_56 rfl rfl rfl ?_
            refine wp_iload (n := 59) (i := 9) (q := 0) dX0_rangeByBlocks_57 rfl rfl ?_
            refine wp_if_eq (n := 62) (t := 84) dX0_rangeByBlocks_59 rfl (by decide) (fun _ => ?_) (fun z => absurd z (by decide))
            refine wp_lconst (n := 85) (v := 0) dX0_rangeByBlocks_84 rfl (by decide) ?_
            refine wp_ladd (n := 86) dX0_rangeByBlocks_85 rfl ?_
            refine wp_lstore_n (n := 87) (i := 3) (ls' := [(3, vL (l3 + 0)), (9, vI 0), (8, vI x25), (0, vR (some h0)), (1, vR r1), (2, vR r2), (5, vR (some a36)), (6, vR (some a20)), (7, vI i7)]) dX0_rangeByBlocks_86 rfl rfl (Nat.le_of_ble_eq_true rfl) rfl ?_
            refine wp_iinc (n := 90) (i := 7) (q := 8) (v := i7 + 1) (ls' := [(7, vI (i7 + 1)), (3, vL (l3 + 0)), (9, vI 0), (8, vI x25), (0, vR (some h0)), (1, vR r1), (2, vR r2), (5, vR (some a36)), (6, vR (some a20))]) dX0_rangeByBlocks_87 rfl rfl rfl (Nat.le_of_ble_eq_true rfl) rfl ?_
            refine wp_goto (t := 11) dX0_rangeByBlocks_90 (by decide) ?_
            exact wp_sub [4, 5, 6, 1, 7, 8, 0] rfl h
          · replace h := h.2 c46
            refine wp_iconst (n := 50) (v := 1) dX0_rangeByBlocks_49 rfl (by decide) ?_
            refine wp_goto (t := 54) dX0_rangeByBlocks_50 (by decide) ?_
            refine wp_istore (n := 56) (i := 9) (ls' := [(9, vI 1), (8, vI x25), (0, vR (some h0)), (1, vR r1), (2, vR r2), (3, vL l3), (5, vR (some a36)), (6, vR (some a20)), (7, vI i7)]) dX0_rangeByBlocks_54 rfl (Nat.le_of_ble_eq_true rfl) rfl ?_
            refine wp_lload_n (n := 57) (i := 3) (q := 5) dX0_rangeByBlocks_56 rfl rfl rfl ?_
            refine wp_iload (n := 59) (i := 9) (q := 0) dX0_rangeByBlocks_57 rfl rfl ?_
            refine wp_if_eq (n := 62) (t := 84) dX0_rangeByBlocks_59 rfl (by decide) (fun z => absurd z (by decide)) (fun _ => ?_)
            refine wp_aload_n (n := 63) (i := 0) (q := 2) dX0_rangeByBlocks_62 rfl rfl rfl ?_
            refine wp_aload_n (n := 64) (i := 1) (q := 3) dX0_rangeByBlocks_63 rfl rfl rfl ?_
            refine wp_aload_n (n := 65) (i := 2) (q := 4) dX0_rangeByBlocks_64 rfl rfl rfl ?_
            refine wp_iload (n := 67) (i := 8) (q := 1) dX0_rangeByBlocks_65 rfl rfl ?_
            obtain ⟨⟨fs67, o67⟩, h⟩ := h
            refine wp_call (n := 70) (K' := KX0_isHeldOutside) (rc' := rc) (rs' := rs) (aRun_V (K' := KX0_isHeldOutside) (As := [vR r1, vR r2, vI x25]) (rest := [vL l3]) (b := h0) (c0 := .inr (0, fs67)) dX0_rangeByBlocks_67 (aCal_of kf_X0_isHeldOutside (Nat.le_of_ble_eq_true rfl)) q831 q833 qs33 ar_X0_isHeldOutside o67 (by decide : 0 < 9) rfl (Nat.le_of_ble_eq_true rfl)) rfl (Nat.le_of_eq (Nat.zero_add _)) (Nat.le_of_eq (Nat.zero_add _)) (fun v67 w67 h => ?_) (fun E67 w67 h => ?_) h
            · obtain ⟨x67, rfl, h⟩ := h
              refine wp_if_ne (n := 73) (t := 84) dX0_rangeByBlocks_70 rfl (by decide) (fun c70 => ?_) (fun c70 => ?_)
              · replace h := h.1 c70
                refine wp_lconst (n := 85) (v := 0) dX0_rangeByBlocks_84 rfl (by decide) ?_
                refine wp_ladd (n := 86) dX0_rangeByBlocks_85 rfl ?_
                refine wp_lstore_n (n := 87) (i := 3) (ls' := [(3, vL (l3 + 0)), (9, vI 1), (8, vI x25), (0, vR (some h0)), (1, vR r1), (2, vR r2), (5, vR (some a36)), (6, vR (some a20)), (7, vI i7)]) dX0_rangeByBlocks_86 rfl rfl (Nat.le_of_ble_eq_true rfl) rfl ?_
                refine wp_iinc (n := 90) (i := 7) (q := 8) (v := i7 + 1) (ls' := [(7, vI (i7 + 1)), (3, vL (l3 + 0)), (9, vI 1), (8, vI x25), (0, vR (some h0)), (1, vR r1), (2, vR r2), (5, vR (some a36)), (6, vR (some a20))]) dX0_rangeByBlocks_87 rfl rfl rfl (Nat.le_of_ble_eq_true rfl) rfl ?_
                refine wp_goto (t := 11) dX0_rangeByBlocks_90 (by decide) ?_
                exact wp_sub [4, 5, 6, 1, 7, 8, 0] rfl h
              · replace h := h.2 c70
                refine wp_aload_n (n := 74) (i := 0) (q := 2) dX0_rangeByBlocks_73 rfl rfl rfl ?_
                obtain ⟨x74, g74, h⟩ := h
                refine wp_gf (n := 77) dX0_rangeByBlocks_74 rfl fl_X0_9 g74 ?_
                refine wp_iload (n := 79) (i := 8) (q := 1) dX0_rangeByBlocks_77 rfl rfl ?_
                obtain ⟨x79, g79, h⟩ := h
                refine wp_gI (n := 80) dX0_rangeByBlocks_79 rfl g79 ?_
                refine wp_i2l (n := 81) dX0_rangeByBlocks_80 rfl ?_
                refine wp_goto (t := 85) dX0_rangeByBlocks_81 (by decide) ?_
                refine wp_ladd (n := 86) dX0_rangeByBlocks_85 rfl ?_
                refine wp_lstore_n (n := 87) (i := 3) (ls' := [(3, vL (l3 + (Int32.toInt64 x79))), (9, vI 1), (8, vI x25), (0, vR (some h0)), (1, vR r1), (2, vR r2), (5, vR (some a36)), (6, vR (some a20)), (7, vI i7)]) dX0_rangeByBlocks_86 rfl rfl (Nat.le_of_ble_eq_true rfl) rfl ?_
                refine wp_iinc (n := 90) (i := 7) (q := 8) (v := i7 + 1) (ls' := [(7, vI (i7 + 1)), (3, vL (l3 + (Int32.toInt64 x79))), (9, vI 1), (8, vI x25), (0, vR (some h0)), (1, vR r1), (2, vR r2), (5, vR (some a36)), (6, vR (some a20))]) dX0_rangeByBlocks_87 rfl rfl rfl (Nat.le_of_ble_eq_true rfl) rfl ?_
                refine wp_goto (t := 11) dX0_rangeByBlocks_90 (by decide) ?_
                exact wp_sub [4, 5, 6, 1, 7, 8, 0] rfl h
            · exact h.elim
        · exact h.elim
set_option maxHeartbeats 1000000 in
theorem sg_X0_rangeOf_0 {h0 : Nat} {r1 : Option Nat} {r2 : Option Nat} {rc rs : Nat} {QR : Option aV → aW → Prop} {QX : String → aW → Prop} {w : aW} (h : wp (KX0_rangeOf) rc rs QR QX 5 [(0, vR (some h0)), (1, vR r1), (2, vR r2), (3, vI 1), (4, vR r2)] [] w) : wp (KX0_rangeOf) rc rs QR QX 0 [(0, vR (some h0)), (1, vR r1), (2, vR r2)] [] w := by
  refine wp_iconst (n := 1) (v := 1) dX0_rangeOf_0 rfl (by decide) ?_
  refine wp_istore_n (n := 2) (i := 3) (ls' := [(3, vI 1), (0, vR (some h0)), (1, vR r1), (2, vR r2)]) dX0_rangeOf_1 rfl rfl (Nat.le_of_ble_eq_true rfl) rfl ?_
  refine wp_aload_n (n := 3) (i := 2) (q := 3) dX0_rangeOf_2 rfl rfl rfl ?_
  refine wp_astore (n := 5) (i := 4) (ls' := [(4, vR r2), (3, vI 1), (0, vR (some h0)), (1, vR r1), (2, vR r2)]) dX0_rangeOf_3 rfl (Nat.le_of_ble_eq_true rfl) rfl ?_
  exact wp_sub [2, 3, 4, 1, 0] rfl h
set_option maxHeartbeats 1000000 in
theorem sg_X0_rangeOf_5 {h0 : Nat} {r1 : Option Nat} {r2 : Option Nat} {i3 : Int32} {r4 : Option Nat} {rc rs : Nat} {QR : Option aV → aW → Prop} {QX : String → aW → Prop} {w : aW} (h : (r4 = r1 → (i3 = 0 → isO w h0 0 ∧ ct (KX0_rangeByBlocks) 0 0 [vR (some h0), vR r1, vR r2] w (fun v66 w66 => ∃ x66 : Int64, v66 = some (vL x66) ∧ QR (some (vL x66)) w66) (fun E66 w66 => False)) ∧ (¬ i3 = 0 → isO w h0 0 ∧ ct (KX0_nextMany) 0 0 [vR (some h0), vR r1] w (fun v47 w47 => ∃ x47 : Int32, v47 = some (vI x47) ∧ (¬ x47 = 1 → isO w47 h0 0 ∧ ct (KX0_rangeByBlocks) 0 0 [vR (some h0), vR r1, vR r2] w47 (fun v66 w66 => ∃ x66 : Int64, v66 = some (vL x66) ∧ QR (some (vL x66)) w66) (fun E66 w66 => False)) ∧ (x47 = 1 → isO w47 h0 0 ∧ ct (KX0_rangeByLists) 0 0 [vR (some h0), vR r1, vR r2] w47 (fun v57 w57 => ∃ x57 : Int64, v57 = some (vL x57) ∧ QR (some (vL x57)) w57) (fun E57 w57 => False))) (fun E47 w47 => False))) ∧ (¬ r4 = r1 → (i3 = 0 → ∃ a33 : Nat, r4 = some a33 ∧ ∃ x33 : Option Nat, gf w a33 [6, 7] 5 (vR x33) ∧ wp (KX0_rangeOf) rc rs QR QX 5 [(0, vR (some h0)), (1, vR r1), (2, vR r2), (3, vI 0), (4, vR x33)] [] w) ∧ (¬ i3 = 0 → isO w h0 0 ∧ ct (KX0_nextMany) 0 0 [vR (some h0), vR r4] w (fun v18 w18 => ∃ x18 : Int32, v18 = some (vI x18) ∧ (¬ x18 = 1 → ∃ a33 : Nat, r4 = some a33 ∧ ∃ x33 : Option Nat, gf w18 a33 [6, 7] 5 (vR x33) ∧ wp (KX0_rangeOf) rc rs QR QX 5 [(0, vR (some h0)), (1, vR r1), (2, vR r2), (3, vI 0), (4, vR x33)] [] w18) ∧ (x18 = 1 → ∃ a33 : Nat, r4 = some a33 ∧ ∃ x33 : Option Nat, gf w18 a33 [6, 7] 5 (vR x33) ∧ wp (KX0_rangeOf) rc rs QR QX 5 [(0, vR (some h0)), (1, vR r1), (2, vR r2), (3, vI 1), (4, vR x33)] [] w18)) (fun E18 w18 => False)))) : wp (KX0_rangeOf) rc rs QR QX 5 [(0, vR (some h0)), (1, vR r1), (2, vR r2), (3, vI i3), (4, vR r4)] [] w := by
  refine wp_aload (n := 7) (i := 4) (q := 4) dX0_rangeOf_5 rfl rfl ?_
  refine wp_aload_n (n := 8) (i := 1) (q := 1) dX0_rangeOf_7 rfl rfl rfl ?_
  refine wp_acmp_eq (n := 11) (t := 41) dX0_rangeOf_8 rfl (by decide) (fun c8 => ?_) (fun c8 => ?_)
  · replace h := h.1 c8
    refine wp_iload_n (n := 42) (i := 3) (q := 3) dX0_rangeOf_41 rfl rfl rfl ?_
    refine wp_if_eq (n := 45) (t := 63) dX0_rangeOf_42 rfl (by decide) (fun c42 => ?_) (fun c42 => ?_)
    · replace h := h.1 c42
      refine wp_aload_n (n := 64) (i := 0) (q := 0) dX0_rangeOf_63 rfl rfl rfl ?_
      refine wp_aload_n (n := 65) (i := 1) (q := 1) dX0_rangeOf_64 rfl rfl rfl ?_
      refine wp_aload_n (n := 66) (i := 2) (q := 2) dX0_rangeOf_65 rfl rfl rfl ?_
      obtain ⟨⟨fs66, o66⟩, h⟩ := h
      refine wp_call (n := 69) (K' := KX0_rangeByBlocks) (rc' := rc) (rs' := rs) (aRun_V (K' := KX0_rangeByBlocks) (As := [vR r1, vR r2]) (rest := []) (b := h0) (c0 := .inr (0, fs66)) dX0_rangeOf_66 (aCal_of kf_X0_rangeByBlocks (Nat.le_of_ble_eq_true rfl)) q822 q824 qs32 ar_X0_rangeByBlocks o66 (by decide : 0 < 9) rfl (Nat.le_of_ble_eq_true rfl)) rfl (Nat.le_of_eq (Nat.zero_add _)) (Nat.le_of_eq (Nat.zero_add _)) (fun v66 w66 h => ?_) (fun E66 w66 h => ?_) h
      · obtain ⟨x66, rfl, h⟩ := h
        exact wp_lreturn dX0_rangeOf_69 rfl h
      · exact h.elim
    · replace h := h.2 c42
      refine wp_aload_n (n := 46) (i := 0) (q := 0) dX0_rangeOf_45 rfl rfl rfl ?_
      refine wp_aload_n (n := 47) (i := 1) (q := 1) dX0_rangeOf_46 rfl rfl rfl ?_
      obtain ⟨⟨fs47, o47⟩, h⟩ := h
      refine wp_call (n := 50) (K' := KX0_nextMany) (rc' := rc) (rs' := rs) (aRun_V (K' := KX0_nextMany) (As := [vR r1]) (rest := []) (b := h0) (c0 := .inr (0, fs47)) dX0_rangeOf_47 (aCal_of kf_X0_nextMany (Nat.le_of_ble_eq_true rfl)) q651 q653 qs20 ar_X0_nextMany o47 (by decide : 0 < 9) rfl (Nat.le_of_ble_eq_true rfl)) rfl (Nat.le_of_eq (Nat.zero_add _)) (Nat.le_of_eq (Nat.zero_add _)) (fun v47 w47 h => ?_) (fun E47 w47 h => ?_) h
      · obtain ⟨x47, rfl, h⟩ := h
        refine wp_iconst (n := 51) (v := 1) dX0_rangeOf_50 rfl (by decide) ?_
        refine wp_icmp_ne (n := 54) (t := 63) dX0_rangeOf_51 rfl (by decide) (fun c51 => ?_) (fun c51 => ?_)
        · replace h := h.1 c51
          refine wp_aload_n (n := 64) (i := 0) (q := 0) dX0_rangeOf_63 rfl rfl rfl ?_
          refine wp_aload_n (n := 65) (i := 1) (q := 1) dX0_rangeOf_64 rfl rfl rfl ?_
          refine wp_aload_n (n := 66) (i := 2) (q := 2) dX0_rangeOf_65 rfl rfl rfl ?_
          obtain ⟨⟨fs66, o66⟩, h⟩ := h
          refine wp_call (n := 69) (K' := KX0_rangeByBlocks) (rc' := rc) (rs' := rs) (aRun_V (K' := KX0_rangeByBlocks) (As := [vR r1, vR r2]) (rest := []) (b := h0) (c0 := .inr (0, fs66)) dX0_rangeOf_66 (aCal_of kf_X0_rangeByBlocks (Nat.le_of_ble_eq_true rfl)) q822 q824 qs32 ar_X0_rangeByBlocks o66 (by decide : 0 < 9) rfl (Nat.le_of_ble_eq_true rfl)) rfl (Nat.le_of_eq (Nat.zero_add _)) (Nat.le_of_eq (Nat.zero_add _)) (fun v66 w66 h => ?_) (fun E66 w66 h => ?_) h
          · obtain ⟨x66, rfl, h⟩ := h
            exact wp_lreturn dX0_rangeOf_69 rfl h
          · exact h.elim
        · replace h := h.2 c51
          refine wp_aload_n (n := 55) (i := 0) (q := 0) dX0_rangeOf_54 rfl rfl rfl ?_
          refine wp_aload_n (n := 56) (i := 1) (q := 1) dX0_rangeOf_55 rfl rfl rfl ?_
          refine wp_aload_n (n := 57) (i := 2) (q := 2) dX0_rangeOf_56 rfl rfl rfl ?_
          obtain ⟨⟨fs57, o57⟩, h⟩ := h
          refine wp_call (n := 60) (K' := KX0_rangeByLists) (rc' := rc) (rs' := rs) (aRun_V (K' := KX0_rangeByLists) (As := [vR r1, vR r2]) (rest := []) (b := h0) (c0 := .inr (0, fs57)) dX0_rangeOf_57 (aCal_of kf_X0_rangeByLists (Nat.le_of_ble_eq_true rfl)) q817 q819 qs31 ar_X0_rangeByLists o57 (by decide : 0 < 9) rfl (Nat.le_of_ble_eq_true rfl)) rfl (Nat.le_of_eq (Nat.zero_add _)) (Nat.le_of_eq (Nat.zero_add _)) (fun v57 w57 h => ?_) (fun E57 w57 h => ?_) h
          · obtain ⟨x57, rfl, h⟩ := h
            refine wp_goto (t := 69) dX0_rangeOf_60 (by decide) ?_
            exact wp_lreturn dX0_rangeOf_69 rfl h
          · exact h.elim
      · exact h.elim
  · replace h := h.2 c8
    refine wp_iload_n (n := 12) (i := 3) (q := 3) dX0_rangeOf_11 rfl rfl rfl ?_
    refine wp_if_eq (n := 15) (t := 29) dX0_rangeOf_12 rfl (by decide) (fun c12 => ?_) (fun c12 => ?_)
    · replace h := h.1 c12
      refine wp_iconst (n := 30) (v := 0) dX0_rangeOf_29 rfl (by decide) ?_
      refine wp_istore_n (n := 31) (i := 3) (ls' := [(3, vI 0), (0, vR (some h0)), (1, vR r1), (2, vR r2), (4, vR r4)]) dX0_rangeOf_30 rfl rfl (Nat.le_of_ble_eq_true rfl) rfl ?_
      refine wp_aload (n := 33) (i := 4) (q := 4) dX0_rangeOf_31 rfl rfl ?_
      obtain ⟨a33, ea33, h⟩ := h
      rw [ea33]
      obtain ⟨x33, g33, h⟩ := h
      refine wp_gf (n := 36) dX0_rangeOf_33 rfl fl_X0_99 g33 ?_
      refine wp_astore (n := 38) (i := 4) (ls' := [(4, vR x33), (3, vI 0), (0, vR (some h0)), (1, vR r1), (2, vR r2)]) dX0_rangeOf_36 rfl (Nat.le_of_ble_eq_true rfl) rfl ?_
      refine wp_goto (t := 5) dX0_rangeOf_38 (by decide) ?_
      exact wp_sub [2, 3, 4, 1, 0] rfl h
    · replace h := h.2 c12
      refine wp_aload_n (n := 16) (i := 0) (q := 0) dX0_rangeOf_15 rfl rfl rfl ?_
      refine wp_aload (n := 18) (i := 4) (q := 4) dX0_rangeOf_16 rfl rfl ?_
      obtain ⟨⟨fs18, o18⟩, h⟩ := h
      refine wp_call (n := 21) (K' := KX0_nextMany) (rc' := rc) (rs' := rs) (aRun_V (K' := KX0_nextMany) (As := [vR r4]) (rest := []) (b := h0) (c0 := .inr (0, fs18)) dX0_rangeOf_18 (aCal_of kf_X0_nextMany (Nat.le_of_ble_eq_true rfl)) q651 q653 qs20 ar_X0_nextMany o18 (by decide : 0 < 9) rfl (Nat.le_of_ble_eq_true rfl)) rfl (Nat.le_of_eq (Nat.zero_add _)) (Nat.le_of_eq (Nat.zero_add _)) (fun v18 w18 h => ?_) (fun E18 w18 h => ?_) h
      · obtain ⟨x18, rfl, h⟩ := h
        refine wp_iconst (n := 22) (v := 1) dX0_rangeOf_21 rfl (by decide) ?_
        refine wp_icmp_ne (n := 25) (t := 29) dX0_rangeOf_22 rfl (by decide) (fun c22 => ?_) (fun c22 => ?_)
        · replace h := h.1 c22
          refine wp_iconst (n := 30) (v := 0) dX0_rangeOf_29 rfl (by decide) ?_
          refine wp_istore_n (n := 31) (i := 3) (ls' := [(3, vI 0), (0, vR (some h0)), (1, vR r1), (2, vR r2), (4, vR r4)]) dX0_rangeOf_30 rfl rfl (Nat.le_of_ble_eq_true rfl) rfl ?_
          refine wp_aload (n := 33) (i := 4) (q := 4) dX0_rangeOf_31 rfl rfl ?_
          obtain ⟨a33, ea33, h⟩ := h
          rw [ea33]
          obtain ⟨x33, g33, h⟩ := h
          refine wp_gf (n := 36) dX0_rangeOf_33 rfl fl_X0_99 g33 ?_
          refine wp_astore (n := 38) (i := 4) (ls' := [(4, vR x33), (3, vI 0), (0, vR (some h0)), (1, vR r1), (2, vR r2)]) dX0_rangeOf_36 rfl (Nat.le_of_ble_eq_true rfl) rfl ?_
          refine wp_goto (t := 5) dX0_rangeOf_38 (by decide) ?_
          exact wp_sub [2, 3, 4, 1, 0] rfl h
        · replace h := h.2 c22
          refine wp_iconst (n := 26) (v := 1) dX0_rangeOf_25 rfl (by decide) ?_
          refine wp_goto (t := 30) dX0_rangeOf_26 (by decide) ?_
          refine wp_istore_n (n := 31) (i := 3) (ls' := [(3, vI 1), (0, vR (some h0)), (1, vR r1), (2, vR r2), (4, vR r4)]) dX0_rangeOf_30 rfl rfl (Nat.le_of_ble_eq_true rfl) rfl ?_
          refine wp_aload (n := 33) (i := 4) (q := 4) dX0_rangeOf_31 rfl rfl ?_
          obtain ⟨a33, ea33, h⟩ := h
          rw [ea33]
          obtain ⟨x33, g33, h⟩ := h
          refine wp_gf (n := 36) dX0_rangeOf_33 rfl fl_X0_99 g33 ?_
          refine wp_astore (n := 38) (i := 4) (ls' := [(4, vR x33), (3, vI 1), (0, vR (some h0)), (1, vR r1), (2, vR r2)]) dX0_rangeOf_36 rfl (Nat.le_of_ble_eq_true rfl) rfl ?_
          refine wp_goto (t := 5) dX0_rangeOf_38 (by decide) ?_
          exact wp_sub [2, 3, 4, 1, 0] rfl h
      · exact h.elim
set_option maxHeartbeats 1000000 in
theorem sg_X0_alone_0 {h0 : Nat} {i1 : Int32} {rc rs : Nat} {QR : Option aV → aW → Prop} {QX : String → aW → Prop} {w : aW} (h : isO w h0 0 ∧ ct (KX0_holderAt) 0 0 [vR (some h0), vI i1] w (fun v2 w2 => ∃ x2 : Option Nat, v2 = some (vR x2) ∧ (x2 = none → QR (some (vL (-4611686018427387904))) w2) ∧ (∀ a7 : Nat, x2 = some a7 → ((ck w2 a7 [4, 5] ∧ ck w2 a7 [4, 5] ∧ isO w2 h0 0 ∧ ct (KX0_liveAlone) 0 0 [vR (some h0), vR (some a7)] w2 (fun v26 w26 => ∃ x26 : Int64, v26 = some (vL x26) ∧ QR (some (vL x26)) w26) (fun E26 w26 => False)) ∨ (ck w2 a7 [6, 7, 8] ∧ ck w2 a7 [6, 7] ∧ ck w2 a7 [6, 7] ∧ isO w2 h0 0 ∧ ct (KX0_rangeOf) 0 0 [vR (some h0), vR (some a7), vR (some a7)] w2 (fun v41 w41 => ∃ x41 : Int64, v41 = some (vL x41) ∧ QR (some (vL x41)) w41) (fun E41 w41 => False))))) (fun E2 w2 => False)) : wp (KX0_alone) rc rs QR QX 0 [(0, vR (some h0)), (1, vI i1)] [] w := by
  refine wp_aload_n (n := 1) (i := 0) (q := 0) dX0_alone_0 rfl rfl rfl ?_
  refine wp_iload_n (n := 2) (i := 1) (q := 1) dX0_alone_1 rfl rfl rfl ?_
  obtain ⟨⟨fs2, o2⟩, h⟩ := h
  refine wp_call (n := 5) (K' := KX0_holderAt) (rc' := rc) (rs' := rs) (aRun_V (K' := KX0_holderAt) (As := [vI i1]) (rest := []) (b := h0) (c0 := .inr (0, fs2)) dX0_alone_2 (aCal_of kf_X0_holderAt (Nat.le_of_ble_eq_true rfl)) q655 q657 qs21 ar_X0_holderAt o2 (by decide : 0 < 9) rfl (Nat.le_of_ble_eq_true rfl)) rfl (Nat.le_of_eq (Nat.zero_add _)) (Nat.le_of_eq (Nat.zero_add _)) (fun v2 w2 h => ?_) (fun E2 w2 h => ?_) h
  · obtain ⟨x2, rfl, h⟩ := h
    refine wp_astore_n (n := 6) (i := 2) (ls' := [(2, vR x2), (0, vR (some h0)), (1, vI i1)]) dX0_alone_5 rfl rfl (Nat.le_of_ble_eq_true rfl) rfl ?_
    refine wp_aload_n (n := 7) (i := 2) (q := 0) dX0_alone_6 rfl rfl rfl ?_
    rcases opt_c x2 with ea7 | ⟨a7, ea7⟩
    · replace h := h.1 ea7
      rw [ea7]
      refine wp_ifnonnull (n := 10) (t := 14) dX0_alone_7 rfl (by decide) (fun z zz => nomatch zz) (fun _ => ?_)
      refine wp_ldc2 (n := 13) dX0_alone_10 rfl q797 ?_
      exact wp_lreturn dX0_alone_13 rfl h
    · replace h := h.2 a7 ea7
      rw [ea7]
      refine wp_ifnonnull (n := 10) (t := 14) dX0_alone_7 rfl (by decide) (fun _ _ => ?_) (fun zz => nomatch zz)
      refine wp_aload_n (n := 15) (i := 2) (q := 0) dX0_alone_14 rfl rfl rfl ?_
      rcases h with h | h
      · obtain ⟨k15, h⟩ := h
        refine wp_ciY (n := 18) dX0_alone_15 rfl q235 cok_Folder k15 ?_
        refine wp_if_eq (n := 21) (t := 32) dX0_alone_18 rfl (by decide) (fun z => absurd z (by decide)) (fun _ => ?_)
        refine wp_aload_n (n := 22) (i := 0) (q := 1) dX0_alone_21 rfl rfl rfl ?_
        refine wp_aload_n (n := 23) (i := 2) (q := 0) dX0_alone_22 rfl rfl rfl ?_
        obtain ⟨k23, h⟩ := h
        refine wp_ckY (n := 26) dX0_alone_23 rfl q235 cok_Folder k23 ?_
        obtain ⟨⟨fs26, o26⟩, h⟩ := h
        refine wp_call (n := 29) (K' := KX0_liveAlone) (rc' := rc) (rs' := rs) (aRun_V (K' := KX0_liveAlone) (As := [vR (some a7)]) (rest := []) (b := h0) (c0 := .inr (0, fs26)) dX0_alone_26 (aCal_of kf_X0_liveAlone (Nat.le_of_ble_eq_true rfl)) q843 q845 qs35 ar_X0_liveAlone o26 (by decide : 0 < 9) rfl (Nat.le_of_ble_eq_true rfl)) rfl (Nat.le_of_eq (Nat.zero_add _)) (Nat.le_of_eq (Nat.zero_add _)) (fun v26 w26 h => ?_) (fun E26 w26 h => ?_) h
        · obtain ⟨x26, rfl, h⟩ := h
          refine wp_goto (t := 44) dX0_alone_29 (by decide) ?_
          exact wp_lreturn dX0_alone_44 rfl h
        · exact h.elim
      · obtain ⟨k15, h⟩ := h
        refine wp_ciX (n := 18) dX0_alone_15 rfl q235 cno_Folder k15 ?_
        refine wp_if_eq (n := 21) (t := 32) dX0_alone_18 rfl (by decide) (fun _ => ?_) (fun z => absurd z (by decide))
        refine wp_aload_n (n := 33) (i := 0) (q := 1) dX0_alone_32 rfl rfl rfl ?_
        refine wp_aload_n (n := 34) (i := 2) (q := 0) dX0_alone_33 rfl rfl rfl ?_
        obtain ⟨k34, h⟩ := h
        refine wp_ckY (n := 37) dX0_alone_34 rfl q119 cok_Snapshot k34 ?_
        refine wp_aload_n (n := 38) (i := 2) (q := 0) dX0_alone_37 rfl rfl rfl ?_
        obtain ⟨k38, h⟩ := h
        refine wp_ckY (n := 41) dX0_alone_38 rfl q119 cok_Snapshot k38 ?_
        obtain ⟨⟨fs41, o41⟩, h⟩ := h
        refine wp_call (n := 44) (K' := KX0_rangeOf) (rc' := rc) (rs' := rs) (aRun_V (K' := KX0_rangeOf) (As := [vR (some a7), vR (some a7)]) (rest := []) (b := h0) (c0 := .inr (0, fs41)) dX0_alone_41 (aCal_of kf_X0_rangeOf (Nat.le_of_ble_eq_true rfl)) q813 q815 qs30 ar_X0_rangeOf o41 (by decide : 0 < 9) rfl (Nat.le_of_ble_eq_true rfl)) rfl (Nat.le_of_eq (Nat.zero_add _)) (Nat.le_of_eq (Nat.zero_add _)) (fun v41 w41 h => ?_) (fun E41 w41 h => ?_) h
        · obtain ⟨x41, rfl, h⟩ := h
          exact wp_lreturn dX0_alone_44 rfl h
        · exact h.elim
  · exact h.elim
set_option maxHeartbeats 1000000 in
theorem sg_X0_lengthOf_0 {r0 : Option Nat} {i1 : Int32} {rc rs : Nat} {QR : Option aV → aW → Prop} {QX : String → aW → Prop} {w : aW} (h : (¬ i1 = 0 → (r0 = none → 1 ≤ rc ∧ 8 ≤ rs ∧ QX "java/lang/NullPointerException" w) ∧ (∀ a13 : Nat, r0 = some a13 → ((ckr w a13 1 ∧ ∃ n16 : Int32, gA w a13 n16 ∧ QR (some (vI n16)) w) ∨ (ckr w a13 0 ∧ 3 ≤ rc ∧ 950 ≤ rs ∧ QX "java/lang/ClassCastException" w)))) ∧ (i1 = 0 → (r0 = none → 1 ≤ rc ∧ 8 ≤ rs ∧ QX "java/lang/NullPointerException" w) ∧ (∀ a5 : Nat, r0 = some a5 → ((ckr w a5 0 ∧ ∃ n8 : Int32, gA w a5 n8 ∧ QR (some (vI n8)) w) ∨ (ckr w a5 1 ∧ 3 ≤ rc ∧ 950 ≤ rs ∧ QX "java/lang/ClassCastException" w))))) : wp (KX0_lengthOf) rc rs QR QX 0 [(0, vR r0), (1, vI i1)] [] w := by
  refine wp_iload_n (n := 1) (i := 1) (q := 1) dX0_lengthOf_0 rfl rfl rfl ?_
  refine wp_if_ne (n := 4) (t := 12) dX0_lengthOf_1 rfl (by decide) (fun c1 => ?_) (fun c1 => ?_)
  · replace h := h.1 c1
    refine wp_aload_n (n := 13) (i := 0) (q := 0) dX0_lengthOf_12 rfl rfl rfl ?_
    rcases opt_c r0 with ea13 | ⟨a13, ea13⟩
    · replace h := h.1 ea13
      rw [ea13]
      refine wp_castN (n := 16) dX0_lengthOf_13 rfl ?_
      obtain ⟨b1, b2, h⟩ := h
      refine wp_alenNull (rc' := 0) (rs' := 0) dX0_lengthOf_16 (by omega) (by omega) (Nat.le_of_ble_eq_true rfl) ?_
      exact wpx_out (fun z hz => absurd hz List.not_mem_nil) h
    · replace h := h.2 a13 ea13
      rw [ea13]
      rcases h with h | h
      · obtain ⟨k13, h⟩ := h
        refine wp_ckrY (n := 16) dX0_lengthOf_13 rfl q930 cok_J1 k13 ?_
        obtain ⟨n16, g16, h⟩ := h
        refine wp_gA (n := 17) dX0_lengthOf_16 rfl g16 ?_
        exact wp_ireturn dX0_lengthOf_17 rfl h
      · obtain ⟨k13, b1, b2, h⟩ := h
        refine wp_ckrX (rc' := 0) (rs' := 0) dX0_lengthOf_13 q930 cno_J1 sn_J1 k13 (by omega) (by omega) (Nat.le_of_ble_eq_true rfl) ?_
        exact wpx_out (fun z hz => absurd hz List.not_mem_nil) h
  · replace h := h.2 c1
    refine wp_aload_n (n := 5) (i := 0) (q := 0) dX0_lengthOf_4 rfl rfl rfl ?_
    rcases opt_c r0 with ea5 | ⟨a5, ea5⟩
    · replace h := h.1 ea5
      rw [ea5]
      refine wp_castN (n := 8) dX0_lengthOf_5 rfl ?_
      obtain ⟨b1, b2, h⟩ := h
      refine wp_alenNull (rc' := 0) (rs' := 0) dX0_lengthOf_8 (by omega) (by omega) (Nat.le_of_ble_eq_true rfl) ?_
      exact wpx_out (fun z hz => absurd hz List.not_mem_nil) h
    · replace h := h.2 a5 ea5
      rw [ea5]
      rcases h with h | h
      · obtain ⟨k5, h⟩ := h
        refine wp_ckrY (n := 8) dX0_lengthOf_5 rfl q929 cok_I1 k5 ?_
        obtain ⟨n8, g8, h⟩ := h
        refine wp_gA (n := 9) dX0_lengthOf_8 rfl g8 ?_
        refine wp_goto (t := 17) dX0_lengthOf_9 (by decide) ?_
        exact wp_ireturn dX0_lengthOf_17 rfl h
      · obtain ⟨k5, b1, b2, h⟩ := h
        refine wp_ckrX (rc' := 0) (rs' := 0) dX0_lengthOf_5 q929 cno_I1 sn_I1 k5 (by omega) (by omega) (Nat.le_of_ble_eq_true rfl) ?_
        exact wpx_out (fun z hz => absurd hz List.not_mem_nil) h
set_option maxHeartbeats 1000000 in
theorem sg_X0_itemOf_0 {r0 : Option Nat} {i1 : Int32} {i2 : Int32} {rc rs : Nat} {QR : Option aV → aW → Prop} {QX : String → aW → Prop} {w : aW} (h : 3 ≤ rc ∧ 950 ≤ rs ∧ ct (KX0_lengthOf) 3 950 [vR r0, vI i1] w (fun v3 w3 => ∃ x3 : Int32, v3 = some (vI x3) ∧ 1 ≤ (rc - 3) ∧ 6 ≤ (rs - 950) ∧ ct (KX0_asksPlace) 1 6 [vI i2, vI x3] w3 (fun v6 w6 => v6 = none ∧ (¬ i1 = 0 → ∃ a24 : Nat, r0 = some a24 ∧ ckr w6 a24 1 ∧ ∃ x28 : Int64, gL w6 a24 i2 x28 ∧ QR (some (vL x28)) w6) ∧ (i1 = 0 → ∃ a14 : Nat, r0 = some a14 ∧ ckr w6 a14 0 ∧ ∃ x18 : Int32, gI w6 a14 i2 x18 ∧ QR (some (vL (Int32.toInt64 x18))) w6)) (fun E6 w6 => (E6 = "java/lang/IndexOutOfBoundsException" ∧ QX "java/lang/IndexOutOfBoundsException" w6))) (fun E3 w3 => (E3 = "java/lang/NullPointerException" ∧ QX "java/lang/NullPointerException" w3) ∨ (E3 = "java/lang/ClassCastException" ∧ QX "java/lang/ClassCastException" w3))) : wp (KX0_itemOf) rc rs QR QX 0 [(0, vR r0), (1, vI i1), (2, vI i2)] [] w := by
  refine wp_iload_n (n := 1) (i := 2) (q := 2) dX0_itemOf_0 rfl rfl rfl ?_
  refine wp_aload_n (n := 2) (i := 0) (q := 0) dX0_itemOf_1 rfl rfl rfl ?_
  refine wp_iload_n (n := 3) (i := 1) (q := 1) dX0_itemOf_2 rfl rfl rfl ?_
  obtain ⟨b3, bb3, h⟩ := h
  refine wp_call (n := 6) (K' := KX0_lengthOf) (rc' := rc - 3) (rs' := rs - 950) (aRun_S (K' := KX0_lengthOf) (As := [vR r0, vI i1]) (rest := [vI i2]) dX0_itemOf_3 (aCal_of kf_X0_lengthOf (Nat.le_of_ble_eq_true rfl)) rfl q938 q939 ar_X0_lengthOf rfl (Nat.le_of_ble_eq_true rfl)) rfl (by omega) (by omega) (fun v3 w3 h => ?_) (fun E3 w3 h => ?_) h
  · obtain ⟨x3, rfl, h⟩ := h
    obtain ⟨b6, bb6, h⟩ := h
    refine wp_call (n := 9) (K' := KX0_asksPlace) (rc' := rc - 3 - 1) (rs' := rs - 950 - 6) (aRun_S (K' := KX0_asksPlace) (As := [vI i2, vI x3]) (rest := []) dX0_itemOf_6 (aCal_of kf_X0_asksPlace (Nat.le_of_ble_eq_true rfl)) rfl q455 q456 ar_X0_asksPlace rfl (Nat.le_of_ble_eq_true rfl)) rfl (by omega) (by omega) (fun v6 w6 h => ?_) (fun E6 w6 h => ?_) h
    · obtain ⟨rfl, h⟩ := h
      refine wp_iload_n (n := 10) (i := 1) (q := 1) dX0_itemOf_9 rfl rfl rfl ?_
      refine wp_if_ne (n := 13) (t := 23) dX0_itemOf_10 rfl (by decide) (fun c10 => ?_) (fun c10 => ?_)
      · replace h := h.1 c10
        refine wp_aload_n (n := 24) (i := 0) (q := 0) dX0_itemOf_23 rfl rfl rfl ?_
        obtain ⟨a24, ea24, h⟩ := h
        rw [ea24]
        obtain ⟨k24, h⟩ := h
        refine wp_ckrY (n := 27) dX0_itemOf_24 rfl q930 cok_J1 k24 ?_
        refine wp_iload_n (n := 28) (i := 2) (q := 2) dX0_itemOf_27 rfl rfl rfl ?_
        obtain ⟨x28, g28, h⟩ := h
        refine wp_gL (n := 29) dX0_itemOf_28 rfl g28 ?_
        exact wp_lreturn dX0_itemOf_29 rfl h
      · replace h := h.2 c10
        refine wp_aload_n (n := 14) (i := 0) (q := 0) dX0_itemOf_13 rfl rfl rfl ?_
        obtain ⟨a14, ea14, h⟩ := h
        rw [ea14]
        obtain ⟨k14, h⟩ := h
        refine wp_ckrY (n := 17) dX0_itemOf_14 rfl q929 cok_I1 k14 ?_
        refine wp_iload_n (n := 18) (i := 2) (q := 2) dX0_itemOf_17 rfl rfl rfl ?_
        obtain ⟨x18, g18, h⟩ := h
        refine wp_gI (n := 19) dX0_itemOf_18 rfl g18 ?_
        refine wp_i2l (n := 20) dX0_itemOf_19 rfl ?_
        refine wp_goto (t := 29) dX0_itemOf_20 (by decide) ?_
        exact wp_lreturn dX0_itemOf_29 rfl h
    · obtain ⟨rfl, h⟩ := h
      exact wpx_out (fun z hz => absurd hz List.not_mem_nil) h
  · rcases h with h | h
    · obtain ⟨rfl, h⟩ := h
      exact wpx_out (fun z hz => absurd hz List.not_mem_nil) h
    · obtain ⟨rfl, h⟩ := h
      exact wpx_out (fun z hz => absurd hz List.not_mem_nil) h
set_option maxHeartbeats 1000000 in
theorem sg_X0_applies_0 {h0 : Nat} {r1 : Option Nat} {r2 : Option Nat} {i3 : Int32} {rc rs : Nat} {QR : Option aV → aW → Prop} {QX : String → aW → Prop} {w : aW} (h : (r1 = none → 1 ≤ rc ∧ 8 ≤ rs ∧ QX "java/lang/NullPointerException" w) ∧ (∀ a1 : Nat, r1 = some a1 → ∃ x1 : Int32, gf w a1 [4, 5] 4 (vI x1) ∧ 3 ≤ rc ∧ 950 ≤ rs ∧ ct (KX0_lengthOf) 3 950 [vR r2, vI i3] w (fun v8 w8 => ∃ x8 : Int32, v8 = some (vI x8) ∧ wp (KX0_applies) (rc - 3) (rs - 950) QR QX 19 [(0, vR (some h0)), (1, vR (some a1)), (2, vR r2), (3, vI i3), (4, vI x1), (5, vI x8), (6, vI 0), (7, vI 0)] [] w8) (fun E8 w8 => (E8 = "java/lang/NullPointerException" ∧ QX "java/lang/NullPointerException" w8) ∨ (E8 = "java/lang/ClassCastException" ∧ QX "java/lang/ClassCastException" w8)))) : wp (KX0_applies) rc rs QR QX 0 [(0, vR (some h0)), (1, vR r1), (2, vR r2), (3, vI i3)] [] w := by
  refine wp_aload_n (n := 1) (i := 1) (q := 1) dX0_applies_0 rfl rfl rfl ?_
  rcases opt_c r1 with ea1 | ⟨a1, ea1⟩
  · obtain ⟨b1, b2, h⟩ := h.1 ea1
    rw [ea1]
    refine wp_getfNull (rc' := 0) (rs' := 0) dX0_applies_1 (fl_X0_177 4 (by decide)) (by omega) (by omega) (Nat.le_of_ble_eq_true rfl) ?_
    exact wpx_out (fun z hz => absurd hz List.not_mem_nil) h
  · replace h := h.2 a1 ea1
    rw [ea1]
    obtain ⟨x1, g1, h⟩ := h
    refine wp_gf (n := 4) dX0_applies_1 rfl fl_X0_177 g1 ?_
    refine wp_istore (n := 6) (i := 4) (ls' := [(4, vI x1), (0, vR (some h0)), (1, vR (some a1)), (2, vR r2), (3, vI i3)]) dX0_applies_4 rfl (Nat.le_of_ble_eq_true rfl) rfl ?_
    refine wp_aload_n (n := 7) (i := 2) (q := 3) dX0_applies_6 rfl rfl rfl ?_
    refine wp_iload_n (n := 8) (i := 3) (q := 4) dX0_applies_7 rfl rfl rfl ?_
    obtain ⟨b8, bb8, h⟩ := h
    refine wp_call (n := 11) (K' := KX0_lengthOf) (rc' := rc - 3) (rs' := rs - 950) (aRun_S (K' := KX0_lengthOf) (As := [vR r2, vI i3]) (rest := []) dX0_applies_8 (aCal_of kf_X0_lengthOf (Nat.le_of_ble_eq_true rfl)) rfl q938 q939 ar_X0_lengthOf rfl (Nat.le_of_ble_eq_true rfl)) rfl (by omega) (by omega) (fun v8 w8 h => ?_) (fun E8 w8 h => ?_) h
    · obtain ⟨x8, rfl, h⟩ := h
      refine wp_istore (n := 13) (i := 5) (ls' := [(5, vI x8), (4, vI x1), (0, vR (some h0)), (1, vR (some a1)), (2, vR r2), (3, vI i3)]) dX0_applies_11 rfl (Nat.le_of_ble_eq_true rfl) rfl ?_
      refine wp_iconst (n := 14) (v := 0) dX0_applies_13 rfl (by decide) ?_
      refine wp_istore (n := 16) (i := 6) (ls' := [(6, vI 0), (5, vI x8), (4, vI x1), (0, vR (some h0)), (1, vR (some a1)), (2, vR r2), (3, vI i3)]) dX0_applies_14 rfl (Nat.le_of_ble_eq_true rfl) rfl ?_
      refine wp_iconst (n := 17) (v := 0) dX0_applies_16 rfl (by decide) ?_
      refine wp_istore (n := 19) (i := 7) (ls' := [(7, vI 0), (6, vI 0), (5, vI x8), (4, vI x1), (0, vR (some h0)), (1, vR (some a1)), (2, vR r2), (3, vI i3)]) dX0_applies_17 rfl (Nat.le_of_ble_eq_true rfl) rfl ?_
      exact wp_sub [4, 5, 6, 7, 3, 2, 1, 0] rfl h
    · rcases h with h | h
      · obtain ⟨rfl, h⟩ := h
        exact wpx_out (fun z hz => absurd hz List.not_mem_nil) h
      · obtain ⟨rfl, h⟩ := h
        exact wpx_out (fun z hz => absurd hz List.not_mem_nil) h
set_option maxHeartbeats 1000000 in
theorem sg_X0_applies_19 {h0 : Nat} {r1 : Option Nat} {r2 : Option Nat} {i3 : Int32} {i4 : Int32} {i5 : Int32} {i6 : Int32} {i7 : Int32} {rc rs : Nat} {QR : Option aV → aW → Prop} {QX : String → aW → Prop} {w : aW} (h : (i5 ≤ i7 → QR (some (vI i6)) w) ∧ (¬ i5 ≤ i7 → 4 ≤ rc ∧ 956 ≤ rs ∧ ct (KX0_itemOf) 4 956 [vR r2, vI i3, vI i7] w (fun v30 w30 => ∃ x30 : Int64, v30 = some (vL x30) ∧ 4 ≤ (rc - 4) ∧ 956 ≤ (rs - 956) ∧ ct (KX0_itemOf) 4 956 [vR r2, vI i3, vI (i7 + 1)] w30 (fun v41 w41 => ∃ x41 : Int64, v41 = some (vL x41) ∧ ct (KX0_in) 0 0 [vL x30, vL 0, vL 11] w41 (fun v52 w52 => ∃ x52 : Int32, v52 = some (vI x52) ∧ (x52 = 0 → wp (KX0_applies) (rc - 4 - 4) (rs - 956 - 956) QR QX 19 [(0, vR (some h0)), (1, vR r1), (2, vR r2), (3, vI i3), (4, vI i4), (5, vI i5), (6, vI i6), (7, vI (i7 + 2))] [] w52) ∧ (¬ x52 = 0 → ct (KX0_in) 0 0 [vL x41, vL 0, vL 1000000000] w52 (fun v64 w64 => ∃ x64 : Int32, v64 = some (vI x64) ∧ (x64 = 0 → wp (KX0_applies) (rc - 4 - 4) (rs - 956 - 956) QR QX 19 [(0, vR (some h0)), (1, vR r1), (2, vR r2), (3, vI i3), (4, vI i4), (5, vI i5), (6, vI i6), (7, vI (i7 + 2))] [] w64) ∧ (¬ x64 = 0 → (¬ x41 = 0 → 1 ≤ (rc - 4 - 4) ∧ 8 ≤ (rs - 956 - 956) ∧ isO w64 h0 0 ∧ ct (KX0_writes) 1 8 [vR (some h0), vR r1, vI (Int64.toInt32 x30), vI (Int64.toInt32 x41)] w64 (fun v118 w118 => ∃ x118 : Int32, v118 = some (vI x118) ∧ (x118 < 0 → wp (KX0_applies) (rc - 4 - 4 - 1) (rs - 956 - 956 - 8) QR QX 19 [(0, vR (some h0)), (1, vR r1), (2, vR r2), (3, vI i3), (4, vI i4), (5, vI i5), (6, vI (i6 + 0)), (7, vI (i7 + 2))] [] w118) ∧ (¬ x118 < 0 → wp (KX0_applies) (rc - 4 - 4 - 1) (rs - 956 - 956 - 8) QR QX 19 [(0, vR (some h0)), (1, vR r1), (2, vR r2), (3, vI i3), (4, vI i4), (5, vI i5), (6, vI (i6 + 1)), (7, vI (i7 + 2))] [] w118)) (fun E118 w118 => (E118 = "java/lang/NullPointerException" ∧ QX "java/lang/NullPointerException" w118))) ∧ (x41 = 0 → isO w64 h0 0 ∧ ct (KX0_leaves) 0 0 [vR (some h0), vR r1, vI (Int64.toInt32 x30)] w64 (fun v94 w94 => v94 = none ∧ wp (KX0_applies) (rc - 4 - 4) (rs - 956 - 956) QR QX 19 [(0, vR (some h0)), (1, vR r1), (2, vR r2), (3, vI i3), (4, vI i4), (5, vI i5), (6, vI (i6 + 1)), (7, vI (i7 + 2))] [] w94) (fun E94 w94 => False)))) (fun E64 w64 => False))) (fun E52 w52 => False)) (fun E41 w41 => (E41 = "java/lang/IndexOutOfBoundsException" ∧ QX "java/lang/IndexOutOfBoundsException" w41) ∨ (E41 = "java/lang/NullPointerException" ∧ QX "java/lang/NullPointerException" w41) ∨ (E41 = "java/lang/ClassCastException" ∧ QX "java/lang/ClassCastException" w41))) (fun E30 w30 => (E30 = "java/lang/IndexOutOfBoundsException" ∧ QX "java/lang/IndexOutOfBoundsException" w30) ∨ (E30 = "java/lang/NullPointerException" ∧ QX "java/lang/NullPointerException" w30) ∨ (E30 = "java/lang/ClassCastException" ∧ QX "java/lang/ClassCastException" w30)))) : wp (KX0_applies) rc rs QR QX 19 [(0, vR (some h0)), (1, vR r1), (2, vR r2), (3, vI i3), (4, vI i4), (5, vI i5), (6, vI i6), (7, vI i7)] [] w := by
  refine wp_iload (n := 21) (i := 7) (q := 7) dX0_applies_19 rfl rfl ?_
  refine wp_iload (n := 23) (i := 5) (q := 5) dX0_applies_21 rfl rfl ?_
  refine wp_icmp_ge (n := 26) (t := 138) dX0_applies_23 rfl (by decide) (fun c23 => ?_) (fun c23 => ?_)
  · replace h := h.1 c23
    refine wp_iload (n := 140) (i := 6) (q := 6) dX0_applies_138 rfl rfl ?_
    exact wp_ireturn dX0_applies_140 rfl h
  · replace h := h.2 c23
    refine wp_aload_n (n := 27) (i := 2) (q := 2) dX0_applies_26 rfl rfl rfl ?_
    refine wp_iload_n (n := 28) (i := 3) (q := 3) dX0_applies_27 rfl rfl rfl ?_
    refine wp_iload (n := 30) (i := 7) (q := 7) dX0_applies_28 rfl rfl ?_
    obtain ⟨b30, bb30, h⟩ := h
    refine wp_call (n := 33) (K' := KX0_itemOf) (rc' := rc - 4) (rs' := rs - 956) (aRun_S (K' := KX0_itemOf) (As := [vR r2, vI i3, vI i7]) (rest := []) dX0_applies_30 (aCal_of kf_X0_itemOf (Nat.le_of_ble_eq_true rfl)) rfl q935 q936 ar_X0_itemOf rfl (Nat.le_of_ble_eq_true rfl)) rfl (by omega) (by omega) (fun v30 w30 h => ?_) (fun E30 w30 h => ?_) h
    · obtain ⟨x30, rfl, h⟩ := h
      refine wp_lstore (n := 35) (i := 8) (ls' := [(8, vL x30), (0, vR (some h0)), (1, vR r1), (2, vR r2), (3, vI i3), (4, vI i4), (5, vI i5), (6, vI i6), (7, vI i7)]) dX0_applies_33 rfl (Nat.le_of_ble_eq_true rfl) rfl ?_
      refine wp_aload_n (n := 36) (i := 2) (q := 3) dX0_applies_35 rfl rfl rfl ?_
      refine wp_iload_n (n := 37) (i := 3) (q := 4) dX0_applies_36 rfl rfl rfl ?_
      refine wp_iload (n := 39) (i := 7) (q := 8) dX0_applies_37 rfl rfl ?_
      refine wp_iconst (n := 40) (v := 1) dX0_applies_39 rfl (by decide) ?_
      refine wp_iadd (n := 41) dX0_applies_40 rfl ?_
      obtain ⟨b41, bb41, h⟩ := h
      refine wp_call (n := 44) (K' := KX0_itemOf) (rc' := rc - 4 - 4) (rs' := rs - 956 - 956) (aRun_S (K' := KX0_itemOf) (As := [vR r2, vI i3, vI (i7 + 1)]) (rest := []) dX0_applies_41 (aCal_of kf_X0_itemOf (Nat.le_of_ble_eq_true rfl)) rfl q935 q936 ar_X0_itemOf rfl (Nat.le_of_ble_eq_true rfl)) rfl (by omega) (by omega) (fun v41 w41 h => ?_) (fun E41 w41 h => ?_) h
      · obtain ⟨x41, rfl, h⟩ := h
        refine wp_lstore (n := 46) (i := 10) (ls' := [(10, vL x41), (8, vL x30), (0, vR (some h0)), (1, vR r1), (2, vR r2), (3, vI i3), (4, vI i4), (5, vI i5), (6, vI i6), (7, vI i7)]) dX0_applies_44 rfl (Nat.le_of_ble_eq_true rfl) rfl ?_
        refine wp_lload (n := 48) (i := 8) (q := 1) dX0_applies_46 rfl rfl ?_
        refine wp_lconst (n := 49) (v := 0) dX0_applies_48 rfl (by decide) ?_
        refine wp_ldc2 (n := 52) dX0_applies_49 rfl q450 ?_
        refine wp_call (n := 55) (K' := KX0_in) (rc' := rc - 4 - 4) (rs' := rs - 956 - 956) (aRun_S (K' := KX0_in) (As := [vL x30, vL 0, vL 11]) (rest := []) dX0_applies_52 (aCal_of kf_X0_in (Nat.le_of_ble_eq_true rfl)) rfl q228 q229 ar_X0_in rfl (Nat.le_of_ble_eq_true rfl)) rfl (Nat.le_of_eq (Nat.zero_add _)) (Nat.le_of_eq (Nat.zero_add _)) (fun v52 w52 h => ?_) (fun E52 w52 h => ?_) h
        · obtain ⟨x52, rfl, h⟩ := h
          refine wp_if_eq (n := 58) (t := 74) dX0_applies_55 rfl (by decide) (fun c55 => ?_) (fun c55 => ?_)
          · replace h := h.1 c55
            refine wp_iconst (n := 75) (v := 0) dX0_applies_74 rfl (by decide) ?_
            refine wp_istore (n := 77) (i := 12) (ls' := [(12, vI 0), (10, vL x41), (8, vL x30), (0, vR (some h0)), (1, vR r1), (2, vR r2), (3, vI i3), (4, vI i4), (5, vI i5), (6, vI i6), (7, vI i7)]) dX0_applies_75 rfl (Nat.le_of_ble_eq_true rfl) rfl ?_
            refine wp_iload (n := 79) (i := 12) (q := 0) dX0_applies_77 rfl rfl ?_
            refine wp_if_eq (n := 82) (t := 103) dX0_applies_79 rfl (by decide) (fun _ => ?_) (fun z => absurd z (by decide))
            refine wp_iload (n := 105) (i := 12) (q := 0) dX0_applies_103 rfl rfl ?_
            refine wp_if_eq (n := 108) (t := 132) dX0_applies_105 rfl (by decide) (fun _ => ?_) (fun z => absurd z (by decide))
            refine wp_iinc (n := 135) (i := 7) (q := 10) (v := i7 + 2) (ls' := [(7, vI (i7 + 2)), (12, vI 0), (10, vL x41), (8, vL x30), (0, vR (some h0)), (1, vR r1), (2, vR r2), (3, vI i3), (4, vI i4), (5, vI i5), (6, vI i6)]) dX0_applies_132 rfl rfl rfl (Nat.le_of_ble_eq_true rfl) rfl ?_
            refine wp_goto (t := 19) dX0_applies_135 (by decide) ?_
            exact wp_sub [4, 5, 6, 7, 8, 9, 10, 0] rfl h
          · replace h := h.2 c55
            refine wp_lload (n := 60) (i := 10) (q := 0) dX0_applies_58 rfl rfl ?_
            refine wp_lconst (n := 61) (v := 0) dX0_applies_60 rfl (by decide) ?_
            refine wp_ldc2 (n := 64) dX0_applies_61 rfl q227 ?_
            refine wp_call (n := 67) (K' := KX0_in) (rc' := rc - 4 - 4) (rs' := rs - 956 - 956) (aRun_S (K' := KX0_in) (As := [vL x41, vL 0, vL 1000000000]) (rest := []) dX0_applies_64 (aCal_of kf_X0_in (Nat.le_of_ble_eq_true rfl)) rfl q228 q229 ar_X0_in rfl (Nat.le_of_ble_eq_true rfl)) rfl (Nat.le_of_eq (Nat.zero_add _)) (Nat.le_of_eq (Nat.zero_add _)) (fun v64 w64 h => ?_) (fun E64 w64 h => ?_) h
            · obtain ⟨x64, rfl, h⟩ := h
              refine wp_if_eq (n := 70) (t := 74) dX0_applies_67 rfl (by decide) (fun c67 => ?_) (fun c67 => ?_)
              · replace h := h.1 c67
                refine wp_iconst (n := 75) (v := 0) dX0_applies_74 rfl (by decide) ?_
                refine wp_istore (n := 77) (i := 12) (ls' := [(12, vI 0), (10, vL x41), (8, vL x30), (0, vR (some h0)), (1, vR r1), (2, vR r2), (3, vI i3), (4, vI i4), (5, vI i5), (6, vI i6), (7, vI i7)]) dX0_applies_75 rfl (Nat.le_of_ble_eq_true rfl) rfl ?_
                refine wp_iload (n := 79) (i := 12) (q := 0) dX0_applies_77 rfl rfl ?_
                refine wp_if_eq (n := 82) (t := 103) dX0_applies_79 rfl (by decide) (fun _ => ?_) (fun z => absurd z (by decide))
                refine wp_iload (n := 105) (i := 12) (q := 0) dX0_applies_103 rfl rfl ?_
                refine wp_if_eq (n := 108) (t := 132) dX0_applies_105 rfl (by decide) (fun _ => ?_) (fun z => absurd z (by decide))
                refine wp_iinc (n := 135) (i := 7) (q := 10) (v := i7 + 2) (ls' := [(7, vI (i7 + 2)), (12, vI 0), (10, vL x41), (8, vL x30), (0, vR (some h0)), (1, vR r1), (2, vR r2), (3, vI i3), (4, vI i4), (5, vI i5), (6, vI i6)]) dX0_applies_132 rfl rfl rfl (Nat.le_of_ble_eq_true rfl) rfl ?_
                refine wp_goto (t := 19) dX0_applies_135 (by decide) ?_
                exact wp_sub [4, 5, 6, 7, 8, 9, 10, 0] rfl h
              · replace h := h.2 c67
                refine wp_iconst (n := 71) (v := 1) dX0_applies_70 rfl (by decide) ?_
                refine wp_goto (t := 75) dX0_applies_71 (by decide) ?_
                refine wp_istore (n := 77) (i := 12) (ls' := [(12, vI 1), (10, vL x41), (8, vL x30), (0, vR (some h0)), (1, vR r1), (2, vR r2), (3, vI i3), (4, vI i4), (5, vI i5), (6, vI i6), (7, vI i7)]) dX0_applies_75 rfl (Nat.le_of_ble_eq_true rfl) rfl ?_
                refine wp_iload (n := 79) (i := 12) (q := 0) dX0_applies_77 rfl rfl ?_
                refine wp_if_eq (n := 82) (t := 103) dX0_applies_79 rfl (by decide) (fun z => absurd z (by decide)) (fun _ => ?_)
                refine wp_lload (n := 84) (i := 10) (q := 1) dX0_applies_82 rfl rfl ?_
                refine wp_lconst (n := 85) (v := 0) dX0_applies_84 rfl (by decide) ?_
                refine wp_lcmp (n := 86) dX0_applies_85 rfl ?_
                refine wp_if_ne (n := 89) (t := 103) dX0_applies_86 rfl (by decide) (fun c86 => ?_) (fun c86 => ?_)
                · replace h := h.1 (lgc_ne.mp c86)
                  refine wp_iload (n := 105) (i := 12) (q := 0) dX0_applies_103 rfl rfl ?_
                  refine wp_if_eq (n := 108) (t := 132) dX0_applies_105 rfl (by decide) (fun z => absurd z (by decide)) (fun _ => ?_)
                  refine wp_iload (n := 110) (i := 6) (q := 9) dX0_applies_108 rfl rfl ?_
                  refine wp_aload_n (n := 111) (i := 0) (q := 3) dX0_applies_110 rfl rfl rfl ?_
                  refine wp_aload_n (n := 112) (i := 1) (q := 4) dX0_applies_111 rfl rfl rfl ?_
                  refine wp_lload (n := 114) (i := 8) (q := 2) dX0_applies_112 rfl rfl ?_
                  refine wp_l2i (n := 115) dX0_applies_114 rfl ?_
                  refine wp_lload (n := 117) (i := 10) (q := 1) dX0_applies_115 rfl rfl ?_
                  refine wp_l2i (n := 118) dX0_applies_117 rfl ?_
                  obtain ⟨b118, bb118, h⟩ := h
                  obtain ⟨⟨fs118, o118⟩, h⟩ := h
                  refine wp_call (n := 121) (K' := KX0_writes) (rc' := rc - 4 - 4 - 1) (rs' := rs - 956 - 956 - 8) (aRun_V (K' := KX0_writes) (As := [vR r1, vI (Int64.toInt32 x30), vI (Int64.toInt32 x41)]) (rest := [vI i6]) (b := h0) (c0 := .inr (0, fs118)) dX0_applies_118 (aCal_of kf_X0_writes (Nat.le_of_ble_eq_true rfl)) q472 q474 qs5 ar_X0_writes o118 (by decide : 0 < 9) rfl (Nat.le_of_ble_eq_true rfl)) rfl (by omega) (by omega) (fun v118 w118 h => ?_) (fun E118 w118 h => ?_) h
                  · obtain ⟨x118, rfl, h⟩ := h
                    refine wp_if_lt (n := 124) (t := 128) dX0_applies_121 rfl (by decide) (fun c121 => ?_) (fun c121 => ?_)
                    · replace h := h.1 c121
                      refine wp_iconst (n := 129) (v := 0) dX0_applies_128 rfl (by decide) ?_
                      refine wp_iadd (n := 130) dX0_applies_129 rfl ?_
                      refine wp_istore (n := 132) (i := 6) (ls' := [(6, vI (i6 + 0)), (12, vI 1), (10, vL x41), (8, vL x30), (0, vR (some h0)), (1, vR r1), (2, vR r2), (3, vI i3), (4, vI i4), (5, vI i5), (7, vI i7)]) dX0_applies_130 rfl (Nat.le_of_ble_eq_true rfl) rfl ?_
                      refine wp_iinc (n := 135) (i := 7) (q := 10) (v := i7 + 2) (ls' := [(7, vI (i7 + 2)), (6, vI (i6 + 0)), (12, vI 1), (10, vL x41), (8, vL x30), (0, vR (some h0)), (1, vR r1), (2, vR r2), (3, vI i3), (4, vI i4), (5, vI i5)]) dX0_applies_132 rfl rfl rfl (Nat.le_of_ble_eq_true rfl) rfl ?_
                      refine wp_goto (t := 19) dX0_applies_135 (by decide) ?_
                      exact wp_sub [5, 6, 7, 8, 9, 10, 1, 0] rfl h
                    · replace h := h.2 c121
                      refine wp_iconst (n := 125) (v := 1) dX0_applies_124 rfl (by decide) ?_
                      refine wp_goto (t := 129) dX0_applies_125 (by decide) ?_
                      refine wp_iadd (n := 130) dX0_applies_129 rfl ?_
                      refine wp_istore (n := 132) (i := 6) (ls' := [(6, vI (i6 + 1)), (12, vI 1), (10, vL x41), (8, vL x30), (0, vR (some h0)), (1, vR r1), (2, vR r2), (3, vI i3), (4, vI i4), (5, vI i5), (7, vI i7)]) dX0_applies_130 rfl (Nat.le_of_ble_eq_true rfl) rfl ?_
                      refine wp_iinc (n := 135) (i := 7) (q := 10) (v := i7 + 2) (ls' := [(7, vI (i7 + 2)), (6, vI (i6 + 1)), (12, vI 1), (10, vL x41), (8, vL x30), (0, vR (some h0)), (1, vR r1), (2, vR r2), (3, vI i3), (4, vI i4), (5, vI i5)]) dX0_applies_132 rfl rfl rfl (Nat.le_of_ble_eq_true rfl) rfl ?_
                      refine wp_goto (t := 19) dX0_applies_135 (by decide) ?_
                      exact wp_sub [5, 6, 7, 8, 9, 10, 1, 0] rfl h
                  · obtain ⟨rfl, h⟩ := h
                    exact wpx_out (fun z hz => absurd hz List.not_mem_nil) h
                · replace h := h.2 (lgc_eq.mp c86)
                  refine wp_aload_n (n := 90) (i := 0) (q := 3) dX0_applies_89 rfl rfl rfl ?_
                  refine wp_aload_n (n := 91) (i := 1) (q := 4) dX0_applies_90 rfl rfl rfl ?_
                  refine wp_lload (n := 93) (i := 8) (q := 2) dX0_applies_91 rfl rfl ?_
                  refine wp_l2i (n := 94) dX0_applies_93 rfl ?_
                  obtain ⟨⟨fs94, o94⟩, h⟩ := h
                  refine wp_call (n := 97) (K' := KX0_leaves) (rc' := rc - 4 - 4) (rs' := rs - 956 - 956) (aRun_V (K' := KX0_leaves) (As := [vR r1, vI (Int64.toInt32 x30)]) (rest := []) (b := h0) (c0 := .inr (0, fs94)) dX0_applies_94 (aCal_of kf_X0_leaves (Nat.le_of_ble_eq_true rfl)) q493 q495 qs8 ar_X0_leaves o94 (by decide : 0 < 9) rfl (Nat.le_of_ble_eq_true rfl)) rfl (Nat.le_of_eq (Nat.zero_add _)) (Nat.le_of_eq (Nat.zero_add _)) (fun v94 w94 h => ?_) (fun E94 w94 h => ?_) h
                  · obtain ⟨rfl, h⟩ := h
                    refine wp_iinc (n := 100) (i := 6) (q := 9) (v := i6 + 1) (ls' := [(6, vI (i6 + 1)), (12, vI 1), (10, vL x41), (8, vL x30), (0, vR (some h0)), (1, vR r1), (2, vR r2), (3, vI i3), (4, vI i4), (5, vI i5), (7, vI i7)]) dX0_applies_97 rfl rfl rfl (Nat.le_of_ble_eq_true rfl) rfl ?_
                    refine wp_goto (t := 132) dX0_applies_100 (by decide) ?_
                    refine wp_iinc (n := 135) (i := 7) (q := 10) (v := i7 + 2) (ls' := [(7, vI (i7 + 2)), (6, vI (i6 + 1)), (12, vI 1), (10, vL x41), (8, vL x30), (0, vR (some h0)), (1, vR r1), (2, vR r2), (3, vI i3), (4, vI i4), (5, vI i5)]) dX0_applies_132 rfl rfl rfl (Nat.le_of_ble_eq_true rfl) rfl ?_
                    refine wp_goto (t := 19) dX0_applies_135 (by decide) ?_
                    exact wp_sub [5, 6, 7, 8, 9, 10, 1, 0] rfl h
                  · exact h.elim
            · exact h.elim
        · exact h.elim
      · rcases h with h | h | h
        · obtain ⟨rfl, h⟩ := h
          exact wpx_out (fun z hz => absurd hz List.not_mem_nil) h
        · obtain ⟨rfl, h⟩ := h
          exact wpx_out (fun z hz => absurd hz List.not_mem_nil) h
        · obtain ⟨rfl, h⟩ := h
          exact wpx_out (fun z hz => absurd hz List.not_mem_nil) h
    · rcases h with h | h | h
      · obtain ⟨rfl, h⟩ := h
        exact wpx_out (fun z hz => absurd hz List.not_mem_nil) h
      · obtain ⟨rfl, h⟩ := h
        exact wpx_out (fun z hz => absurd hz List.not_mem_nil) h
      · obtain ⟨rfl, h⟩ := h
        exact wpx_out (fun z hz => absurd hz List.not_mem_nil) h
set_option maxHeartbeats 1000000 in
theorem sg_X0_isSheet_0 {i0 : Int32} {rc rs : Nat} {QR : Option aV → aW → Prop} {QX : String → aW → Prop} {w : aW} (h : ct (KX0_in) 0 0 [vL (Int32.toInt64 i0), vL 0, vL 3] w (fun v6 w6 => ∃ x6 : Int32, v6 = some (vI x6) ∧ narrow .boolean (.int x6) = .int x6 ∧ QR (some (vI x6)) w6) (fun E6 w6 => False)) : wp (KX0_isSheet) rc rs QR QX 0 [(0, vI i0)] [] w := by
  refine wp_iload_n (n := 1) (i := 0) (q := 0) dX0_isSheet_0 rfl rfl rfl ?_
  refine wp_i2l (n := 2) dX0_isSheet_1 rfl ?_
  refine wp_lconst (n := 3) (v := 0) dX0_isSheet_2 rfl (by decide) ?_
  refine wp_ldc2 (n := 6) dX0_isSheet_3 rfl q917 ?_
  refine wp_call (n := 9) (K' := KX0_in) (rc' := rc) (rs' := rs) (aRun_S (K' := KX0_in) (As := [vL (Int32.toInt64 i0), vL 0, vL 3]) (rest := []) dX0_isSheet_6 (aCal_of kf_X0_in (Nat.le_of_ble_eq_true rfl)) rfl q228 q229 ar_X0_in rfl (Nat.le_of_ble_eq_true rfl)) rfl (Nat.le_of_eq (Nat.zero_add _)) (Nat.le_of_eq (Nat.zero_add _)) (fun v6 w6 h => ?_) (fun E6 w6 h => ?_) h
  · obtain ⟨x6, rfl, h⟩ := h
    exact wp_zreturn dX0_isSheet_9 rfl h.1 h.2
  · exact h.elim
set_option maxHeartbeats 1000000 in
theorem sg_X0_apply_0 {h0 : Nat} {i1 : Int32} {i2 : Int32} {i3 : Int32} {rc rs : Nat} {QR : Option aV → aW → Prop} {QX : String → aW → Prop} {w : aW} (h : ct (KX0_isSheet) 0 0 [vI i2] w (fun v1 w1 => ∃ x1 : Int32, v1 = some (vI x1) ∧ (x1 = 0 → QR (some (vI (-2))) w1) ∧ (¬ x1 = 0 → ct (KX0_in) 0 0 [vL (Int32.toInt64 i3), vL 0, vL 1] w1 (fun v11 w11 => ∃ x11 : Int32, v11 = some (vI x11) ∧ (¬ x11 = 0 → 1 ≤ rc ∧ 6 ≤ rs ∧ isO w11 h0 0 ∧ ct (KX0_thingAt) 1 6 [vR (some h0), vI i1] w11 (fun v23 w23 => ∃ x23 : Option Nat, v23 = some (vR x23) ∧ (x23 = none → ∃ x30 : Nat, gf w23 h0 [0] 7 (vR (some x30)) ∧ ∃ x34 : Nat, gR w23 x30 4 i2 (some x34) ∧ ∃ x35 : Option Nat, gf w23 x34 [1] 0 (vR x35) ∧ 200 ≤ (rc - 1) ∧ 42000 ≤ (rs - 6) ∧ isO w23 h0 0 ∧ ct (KX0_applies) 200 42000 [vR (some h0), vR none, vR x35, vI i3] w23 (fun v39 w39 => ∃ x39 : Int32, v39 = some (vI x39) ∧ QR (some (vI x39)) w39) (fun E39 w39 => (E39 = "java/lang/IndexOutOfBoundsException" ∧ QR (some (vI (-12))) w39) ∨ (E39 = "java/lang/NullPointerException" ∧ QR (some (vI (-11))) w39) ∨ (E39 = "java/lang/ClassCastException" ∧ QR (some (vI (-13))) w39))) ∧ (∀ a26 : Nat, x23 = some a26 → ((ck w23 a26 [4, 5] ∧ ∃ x30 : Nat, gf w23 h0 [0] 7 (vR (some x30)) ∧ ∃ x34 : Nat, gR w23 x30 4 i2 (some x34) ∧ ∃ x35 : Option Nat, gf w23 x34 [1] 0 (vR x35) ∧ 200 ≤ (rc - 1) ∧ 42000 ≤ (rs - 6) ∧ isO w23 h0 0 ∧ ct (KX0_applies) 200 42000 [vR (some h0), vR (some a26), vR x35, vI i3] w23 (fun v39 w39 => ∃ x39 : Int32, v39 = some (vI x39) ∧ QR (some (vI x39)) w39) (fun E39 w39 => (E39 = "java/lang/IndexOutOfBoundsException" ∧ QR (some (vI (-12))) w39) ∨ (E39 = "java/lang/NullPointerException" ∧ QR (some (vI (-11))) w39) ∨ (E39 = "java/lang/ClassCastException" ∧ QR (some (vI (-13))) w39))) ∨ (ck w23 a26 [6, 7, 8] ∧ 3 ≤ (rc - 1) ∧ 950 ≤ (rs - 6) ∧ QR (some (vI (-13))) w23)))) (fun E23 w23 => (E23 = "java/lang/IndexOutOfBoundsException" ∧ QR (some (vI (-12))) w23))) ∧ (x11 = 0 → QR (some (vI (-2))) w11)) (fun E11 w11 => False))) (fun E1 w1 => False)) : wp (KX0_apply) rc rs QR QX 0 [(0, vR (some h0)), (1, vI i1), (2, vI i2), (3, vI i3)] [] w := by
  refine wp_iload_n (n := 1) (i := 2) (q := 2) dX0_apply_0 rfl rfl rfl ?_
  refine wp_call (n := 4) (K' := KX0_isSheet) (rc' := rc) (rs' := rs) (aRun_S (K' := KX0_isSheet) (As := [vI i2]) (rest := []) dX0_apply_1 (aCal_of kf_X0_isSheet (Nat.le_of_ble_eq_true rfl)) rfl q914 q915 ar_X0_isSheet rfl (Nat.le_of_ble_eq_true rfl)) rfl (Nat.le_of_eq (Nat.zero_add _)) (Nat.le_of_eq (Nat.zero_add _)) (fun v1 w1 h => ?_) (fun E1 w1 h => ?_) h
  · obtain ⟨x1, rfl, h⟩ := h
    refine wp_if_eq (n := 7) (t := 17) dX0_apply_4 rfl (by decide) (fun c4 => ?_) (fun c4 => ?_)
    · replace h := h.1 c4
      refine wp_bipush (n := 19) (v := (-2)) dX0_apply_17 rfl (by decide) ?_
      exact wp_ireturn dX0_apply_19 rfl h
    · replace h := h.2 c4
      refine wp_iload_n (n := 8) (i := 3) (q := 3) dX0_apply_7 rfl rfl rfl ?_
      refine wp_i2l (n := 9) dX0_apply_8 rfl ?_
      refine wp_lconst (n := 10) (v := 0) dX0_apply_9 rfl (by decide) ?_
      refine wp_lconst (n := 11) (v := 1) dX0_apply_10 rfl (by decide) ?_
      refine wp_call (n := 14) (K' := KX0_in) (rc' := rc) (rs' := rs) (aRun_S (K' := KX0_in) (As := [vL (Int32.toInt64 i3), vL 0, vL 1]) (rest := []) dX0_apply_11 (aCal_of kf_X0_in (Nat.le_of_ble_eq_true rfl)) rfl q228 q229 ar_X0_in rfl (Nat.le_of_ble_eq_true rfl)) rfl (Nat.le_of_eq (Nat.zero_add _)) (Nat.le_of_eq (Nat.zero_add _)) (fun v11 w11 h => ?_) (fun E11 w11 h => ?_) h
      · obtain ⟨x11, rfl, h⟩ := h
        refine wp_if_ne (n := 17) (t := 20) dX0_apply_14 rfl (by decide) (fun c14 => ?_) (fun c14 => ?_)
        · replace h := h.1 c14
          refine wp_aload_n (n := 21) (i := 0) (q := 0) dX0_apply_20 rfl rfl rfl ?_
          refine wp_aload_n (n := 22) (i := 0) (q := 0) dX0_apply_21 rfl rfl rfl ?_
          refine wp_iload_n (n := 23) (i := 1) (q := 1) dX0_apply_22 rfl rfl rfl ?_
          obtain ⟨b23, bb23, h⟩ := h
          obtain ⟨⟨fs23, o23⟩, h⟩ := h
          refine wp_call (n := 26) (K' := KX0_thingAt) (rc' := rc - 1) (rs' := rs - 6) (aRun_V (K' := KX0_thingAt) (As := [vI i1]) (rest := [vR (some h0)]) (b := h0) (c0 := .inr (0, fs23)) dX0_apply_23 (aCal_of kf_X0_thingAt (Nat.le_of_ble_eq_true rfl)) q451 q453 qs4 ar_X0_thingAt o23 (by decide : 0 < 9) rfl (Nat.le_of_ble_eq_true rfl)) rfl (by omega) (by omega) (fun v23 w23 h => ?_) (fun E23 w23 h => ?_) h
          · obtain ⟨x23, rfl, h⟩ := h
            rcases opt_c x23 with ea26 | ⟨a26, ea26⟩
            · replace h := h.1 ea26
              rw [ea26]
              refine wp_castN (n := 29) dX0_apply_26 rfl ?_
              refine wp_aload_n (n := 30) (i := 0) (q := 0) dX0_apply_29 rfl rfl rfl ?_
              obtain ⟨x30, g30, h⟩ := h
              refine wp_gf (n := 33) dX0_apply_30 rfl fl_X0_36 g30 ?_
              refine wp_iload_n (n := 34) (i := 2) (q := 2) dX0_apply_33 rfl rfl rfl ?_
              obtain ⟨x34, g34, h⟩ := h
              refine wp_gR (n := 35) dX0_apply_34 rfl (by decide) g34 ?_
              obtain ⟨x35, g35, h⟩ := h
              refine wp_gfn (n := 38) dX0_apply_35 rfl fl_X0_376 g35 ?_
              refine wp_iload_n (n := 39) (i := 3) (q := 3) dX0_apply_38 rfl rfl rfl ?_
              obtain ⟨b39, bb39, h⟩ := h
              obtain ⟨⟨fs39, o39⟩, h⟩ := h
              refine wp_call (n := 42) (K' := KX0_applies) (rc' := rc - 1 - 200) (rs' := rs - 6 - 42000) (aRun_V (K' := KX0_applies) (As := [vR none, vR x35, vI i3]) (rest := []) (b := h0) (c0 := .inr (0, fs39)) dX0_apply_39 (aCal_of kf_X0_applies (Nat.le_of_ble_eq_true rfl)) q957 q959 qs43 ar_X0_applies o39 (by decide : 0 < 9) rfl (Nat.le_of_ble_eq_true rfl)) rfl (by omega) (by omega) (fun v39 w39 h => ?_) (fun E39 w39 h => ?_) h
              · obtain ⟨x39, rfl, h⟩ := h
                exact wp_ireturn dX0_apply_42 rfl h
              · rcases h with h | h | h
                · obtain ⟨rfl, h⟩ := h
                  refine wpx_catch (nm := "java/lang/IndexOutOfBoundsException") [] (20, 42, 43, 53) [(20, 42, 48, 169), (20, 42, 53, 171)] rfl (fun z hz => absurd hz List.not_mem_nil) (by decide) (by decide) q320 q459 (fun q9 => ?_)
                  refine wp_astore (n := 45) (i := 4) (ls' := [(4, vR (some q9)), (0, vR (some h0)), (1, vI i1), (2, vI i2), (3, vI i3)]) dX0_apply_43 rfl (Nat.le_of_ble_eq_true rfl) rfl ?_
                  refine wp_bipush (n := 47) (v := (-12)) dX0_apply_45 rfl (by decide) ?_
                  exact wp_ireturn dX0_apply_47 rfl h
                · obtain ⟨rfl, h⟩ := h
                  refine wpx_catch (nm := "java/lang/NullPointerException") [(20, 42, 43, 53)] (20, 42, 48, 169) [(20, 42, 53, 171)] rfl (fun z hz => by have hz : z ∈ ([(20, 42, 43, 53)] : List (Nat × Nat × Nat × Nat)) := hz; simp only [List.mem_cons, List.not_mem_nil, or_false] at hz; subst hz; exact Or.inr ⟨by decide, "java/lang/IndexOutOfBoundsException", q320, nc_NullPointerException_IndexOutOfBoundsException⟩) (by decide) (by decide) q411 q433 (fun q9 => ?_)
                  refine wp_astore (n := 50) (i := 4) (ls' := [(4, vR (some q9)), (0, vR (some h0)), (1, vI i1), (2, vI i2), (3, vI i3)]) dX0_apply_48 rfl (Nat.le_of_ble_eq_true rfl) rfl ?_
                  refine wp_bipush (n := 52) (v := (-11)) dX0_apply_50 rfl (by decide) ?_
                  exact wp_ireturn dX0_apply_52 rfl h
                · obtain ⟨rfl, h⟩ := h
                  refine wpx_catch (nm := "java/lang/ClassCastException") [(20, 42, 43, 53), (20, 42, 48, 169)] (20, 42, 53, 171) [] rfl (fun z hz => by have hz : z ∈ ([(20, 42, 43, 53), (20, 42, 48, 169)] : List (Nat × Nat × Nat × Nat)) := hz; simp only [List.mem_cons, List.not_mem_nil, or_false] at hz; rcases hz with rfl | rfl; exact Or.inr ⟨by decide, "java/lang/IndexOutOfBoundsException", q320, nc_ClassCastException_IndexOutOfBoundsException⟩; exact Or.inr ⟨by decide, "java/lang/NullPointerException", q411, nc_ClassCastException_NullPointerException⟩) (by decide) (by decide) q436 q448 (fun q9 => ?_)
                  refine wp_astore (n := 55) (i := 4) (ls' := [(4, vR (some q9)), (0, vR (some h0)), (1, vI i1), (2, vI i2), (3, vI i3)]) dX0_apply_53 rfl (Nat.le_of_ble_eq_true rfl) rfl ?_
                  refine wp_bipush (n := 57) (v := (-13)) dX0_apply_55 rfl (by decide) ?_
                  exact wp_ireturn dX0_apply_57 rfl h
            · replace h := h.2 a26 ea26
              rw [ea26]
              rcases h with h | h
              · obtain ⟨k26, h⟩ := h
                refine wp_ckY (n := 29) dX0_apply_26 rfl q235 cok_Folder k26 ?_
                refine wp_aload_n (n := 30) (i := 0) (q := 0) dX0_apply_29 rfl rfl rfl ?_
                obtain ⟨x30, g30, h⟩ := h
                refine wp_gf (n := 33) dX0_apply_30 rfl fl_X0_36 g30 ?_
                refine wp_iload_n (n := 34) (i := 2) (q := 2) dX0_apply_33 rfl rfl rfl ?_
                obtain ⟨x34, g34, h⟩ := h
                refine wp_gR (n := 35) dX0_apply_34 rfl (by decide) g34 ?_
                obtain ⟨x35, g35, h⟩ := h
                refine wp_gfn (n := 38) dX0_apply_35 rfl fl_X0_376 g35 ?_
                refine wp_iload_n (n := 39) (i := 3) (q := 3) dX0_apply_38 rfl rfl rfl ?_
                obtain ⟨b39, bb39, h⟩ := h
                obtain ⟨⟨fs39, o39⟩, h⟩ := h
                refine wp_call (n := 42) (K' := KX0_applies) (rc' := rc - 1 - 200) (rs' := rs - 6 - 42000) (aRun_V (K' := KX0_applies) (As := [vR (some a26), vR x35, vI i3]) (rest := []) (b := h0) (c0 := .inr (0, fs39)) dX0_apply_39 (aCal_of kf_X0_applies (Nat.le_of_ble_eq_true rfl)) q957 q959 qs43 ar_X0_applies o39 (by decide : 0 < 9) rfl (Nat.le_of_ble_eq_true rfl)) rfl (by omega) (by omega) (fun v39 w39 h => ?_) (fun E39 w39 h => ?_) h
                · obtain ⟨x39, rfl, h⟩ := h
                  exact wp_ireturn dX0_apply_42 rfl h
                · rcases h with h | h | h
                  · obtain ⟨rfl, h⟩ := h
                    refine wpx_catch (nm := "java/lang/IndexOutOfBoundsException") [] (20, 42, 43, 53) [(20, 42, 48, 169), (20, 42, 53, 171)] rfl (fun z hz => absurd hz List.not_mem_nil) (by decide) (by decide) q320 q459 (fun q9 => ?_)
                    refine wp_astore (n := 45) (i := 4) (ls' := [(4, vR (some q9)), (0, vR (some h0)), (1, vI i1), (2, vI i2), (3, vI i3)]) dX0_apply_43 rfl (Nat.le_of_ble_eq_true rfl) rfl ?_
                    refine wp_bipush (n := 47) (v := (-12)) dX0_apply_45 rfl (by decide) ?_
                    exact wp_ireturn dX0_apply_47 rfl h
                  · obtain ⟨rfl, h⟩ := h
                    refine wpx_catch (nm := "java/lang/NullPointerException") [(20, 42, 43, 53)] (20, 42, 48, 169) [(20, 42, 53, 171)] rfl (fun z hz => by have hz : z ∈ ([(20, 42, 43, 53)] : List (Nat × Nat × Nat × Nat)) := hz; simp only [List.mem_cons, List.not_mem_nil, or_false] at hz; subst hz; exact Or.inr ⟨by decide, "java/lang/IndexOutOfBoundsException", q320, nc_NullPointerException_IndexOutOfBoundsException⟩) (by decide) (by decide) q411 q433 (fun q9 => ?_)
                    refine wp_astore (n := 50) (i := 4) (ls' := [(4, vR (some q9)), (0, vR (some h0)), (1, vI i1), (2, vI i2), (3, vI i3)]) dX0_apply_48 rfl (Nat.le_of_ble_eq_true rfl) rfl ?_
                    refine wp_bipush (n := 52) (v := (-11)) dX0_apply_50 rfl (by decide) ?_
                    exact wp_ireturn dX0_apply_52 rfl h
                  · obtain ⟨rfl, h⟩ := h
                    refine wpx_catch (nm := "java/lang/ClassCastException") [(20, 42, 43, 53), (20, 42, 48, 169)] (20, 42, 53, 171) [] rfl (fun z hz => by have hz : z ∈ ([(20, 42, 43, 53), (20, 42, 48, 169)] : List (Nat × Nat × Nat × Nat)) := hz; simp only [List.mem_cons, List.not_mem_nil, or_false] at hz; rcases hz with rfl | rfl; exact Or.inr ⟨by decide, "java/lang/IndexOutOfBoundsException", q320, nc_ClassCastException_IndexOutOfBoundsException⟩; exact Or.inr ⟨by decide, "java/lang/NullPointerException", q411, nc_ClassCastException_NullPointerException⟩) (by decide) (by decide) q436 q448 (fun q9 => ?_)
                    refine wp_astore (n := 55) (i := 4) (ls' := [(4, vR (some q9)), (0, vR (some h0)), (1, vI i1), (2, vI i2), (3, vI i3)]) dX0_apply_53 rfl (Nat.le_of_ble_eq_true rfl) rfl ?_
                    refine wp_bipush (n := 57) (v := (-13)) dX0_apply_55 rfl (by decide) ?_
                    exact wp_ireturn dX0_apply_57 rfl h
              · obtain ⟨k26, b1, b2, h⟩ := h
                refine wp_ckX (rc' := 0) (rs' := 0) dX0_apply_26 q235 cno_Folder sn_Folder k26 (by omega) (by omega) (Nat.le_of_ble_eq_true rfl) ?_
                refine wpx_catch (nm := "java/lang/ClassCastException") [(20, 42, 43, 53), (20, 42, 48, 169)] (20, 42, 53, 171) [] rfl (fun z hz => by have hz : z ∈ ([(20, 42, 43, 53), (20, 42, 48, 169)] : List (Nat × Nat × Nat × Nat)) := hz; simp only [List.mem_cons, List.not_mem_nil, or_false] at hz; rcases hz with rfl | rfl; exact Or.inr ⟨by decide, "java/lang/IndexOutOfBoundsException", q320, nc_ClassCastException_IndexOutOfBoundsException⟩; exact Or.inr ⟨by decide, "java/lang/NullPointerException", q411, nc_ClassCastException_NullPointerException⟩) (by decide) (by decide) q436 q448 (fun q9 => ?_)
                refine wp_astore (n := 55) (i := 4) (ls' := [(4, vR (some q9)), (0, vR (some h0)), (1, vI i1), (2, vI i2), (3, vI i3)]) dX0_apply_53 rfl (Nat.le_of_ble_eq_true rfl) rfl ?_
                refine wp_bipush (n := 57) (v := (-13)) dX0_apply_55 rfl (by decide) ?_
                exact wp_ireturn dX0_apply_57 rfl h
          · obtain ⟨rfl, h⟩ := h
            refine wpx_catch (nm := "java/lang/IndexOutOfBoundsException") [] (20, 42, 43, 53) [(20, 42, 48, 169), (20, 42, 53, 171)] rfl (fun z hz => absurd hz List.not_mem_nil) (by decide) (by decide) q320 q459 (fun q9 => ?_)
            refine wp_astore (n := 45) (i := 4) (ls' := [(4, vR (some q9)), (0, vR (some h0)), (1, vI i1), (2, vI i2), (3, vI i3)]) dX0_apply_43 rfl (Nat.le_of_ble_eq_true rfl) rfl ?_
            refine wp_bipush (n := 47) (v := (-12)) dX0_apply_45 rfl (by decide) ?_
            exact wp_ireturn dX0_apply_47 rfl h
        · replace h := h.2 c14
          refine wp_bipush (n := 19) (v := (-2)) dX0_apply_17 rfl (by decide) ?_
          exact wp_ireturn dX0_apply_19 rfl h
      · exact h.elim
  · exact h.elim
set_option maxHeartbeats 1000000 in
theorem sg_X7_tagsAre_0 {h0 : Nat} {i1 : Int32} {rc rs : Nat} {QR : Option aV → aW → Prop} {QX : String → aW → Prop} {w : aW} (h : QR none w) : wp (KX7_tagsAre) rc rs QR QX 0 [(0, vR (some h0)), (1, vI i1)] [] w := by
  exact wp_return dX7_tagsAre_0 rfl h
set_option maxHeartbeats 1000000 in
theorem sg_X8_tagsAre_0 {h0 : Nat} {i1 : Int32} {rc rs : Nat} {QR : Option aV → aW → Prop} {QX : String → aW → Prop} {w : aW} (h : pf w h0 [7] 7 (vI i1) (fun w2 => QR none w2)) : wp (KX8_tagsAre) rc rs QR QX 0 [(0, vR (some h0)), (1, vI i1)] [] w := by
  refine wp_aload_n (n := 1) (i := 0) (q := 0) dX8_tagsAre_0 rfl rfl rfl ?_
  refine wp_iload_n (n := 2) (i := 1) (q := 1) dX8_tagsAre_1 rfl rfl rfl ?_
  refine wp_pf (n := 5) dX8_tagsAre_2 rfl (pt_X8_7 _) rfl rfl (pf_mono h (fun w2 h => ?_))
  exact wp_return dX8_tagsAre_5 rfl h
set_option maxHeartbeats 1000000 in
theorem sg_X0_laysOneBack_0 {r0 : Option Nat} {r1 : Option Nat} {i2 : Int32} {rc rs : Nat} {QR : Option aV → aW → Prop} {QX : String → aW → Prop} {w : aW} (h : wp (KX0_laysOneBack) rc rs QR QX 2 [(0, vR r0), (1, vR r1), (2, vI i2), (3, vI 0)] [] w) : wp (KX0_laysOneBack) rc rs QR QX 0 [(0, vR r0), (1, vR r1), (2, vI i2)] [] w := by
  refine wp_iconst (n := 1) (v := 0) dX0_laysOneBack_0 rfl (by decide) ?_
  refine wp_istore_n (n := 2) (i := 3) (ls' := [(3, vI 0), (0, vR r0), (1, vR r1), (2, vI i2)]) dX0_laysOneBack_1 rfl rfl (Nat.le_of_ble_eq_true rfl) rfl ?_
  exact wp_sub [1, 2, 3, 0] rfl h
set_option maxHeartbeats 1000000 in
theorem sg_X0_laysOneBack_2 {r0 : Option Nat} {r1 : Option Nat} {i2 : Int32} {i3 : Int32} {rc rs : Nat} {QR : Option aV → aW → Prop} {QX : String → aW → Prop} {w : aW} (h : (12 ≤ i3 → ∃ a44 : Nat, r0 = some a44 ∧ ∃ x44 : Nat, gf w a44 [2] 3 (vR (some x44)) ∧ ∃ x48 : Int32, gI w x44 i2 x48 ∧ ∃ a49 : Nat, r1 = some a49 ∧ pf w a49 [4, 5, 6, 7] 3 (vI x48) (fun w49 => ∃ x54 : Nat, gf w49 a44 [2] 4 (vR (some x54)) ∧ ∃ x58 : Option Nat, gR w49 x54 3 i2 x58 ∧ pf w49 a49 [4, 5, 6, 7] 5 (vR x58) (fun w59 => ((ck w59 a49 [6, 7] ∧ ck w59 a49 [6, 7] ∧ ∃ x74 : Nat, gf w59 a44 [2] 5 (vR (some x74)) ∧ ∃ x78 : Option Nat, gR w59 x74 5 i2 x78 ∧ pf w59 a49 [6, 7] 6 (vR x78) (fun w79 => ck w79 a49 [6, 7] ∧ ∃ x87 : Nat, gf w79 a44 [2] 6 (vR (some x87)) ∧ ∃ x91 : Int32, gI w79 x87 i2 x91 ∧ ((isO w79 a49 6 ∧ ct (KX7_tagsAre) 0 0 [vR (some a49), vI x91] w79 (fun v92 w92 => v92 = none ∧ QR none w92) (fun E92 w92 => False)) ∨ (isO w79 a49 7 ∧ ct (KX8_tagsAre) 0 0 [vR (some a49), vI x91] w79 (fun v92 w92 => v92 = none ∧ QR none w92) (fun E92 w92 => False))))) ∨ (ck w59 a49 [4, 5, 8] ∧ QR none w59))))) ∧ (¬ 12 ≤ i3 → ∃ a9 : Nat, r1 = some a9 ∧ ∃ x9 : Nat, gf w a9 [4, 5, 6, 7] 1 (vR (some x9)) ∧ ∃ a14 : Nat, r0 = some a14 ∧ ∃ x14 : Nat, gf w a14 [2] 1 (vR (some x14)) ∧ ∃ x18 : Nat, gR w x14 6 i2 (some x18) ∧ ∃ x20 : Int32, gI w x18 i3 x20 ∧ pI w x9 i3 x20 (fun w21 => ∃ x23 : Nat, gf w21 a9 [4, 5, 6, 7] 2 (vR (some x23)) ∧ ∃ x28 : Nat, gf w21 a14 [2] 2 (vR (some x28)) ∧ ∃ x32 : Nat, gR w21 x28 6 i2 (some x32) ∧ ∃ x34 : Int32, gI w21 x32 i3 x34 ∧ pI w21 x23 i3 x34 (fun w35 => wp (KX0_laysOneBack) rc rs QR QX 2 [(0, vR (some a14)), (1, vR (some a9)), (2, vI i2), (3, vI (i3 + 1))] [] w35)))) : wp (KX0_laysOneBack) rc rs QR QX 2 [(0, vR r0), (1, vR r1), (2, vI i2), (3, vI i3)] [] w := by
  refine wp_iload_n (n := 3) (i := 3) (q := 3) dX0_laysOneBack_2 rfl rfl rfl ?_
  refine wp_bipush (n := 5) (v := 12) dX0_laysOneBack_3 rfl (by decide) ?_
  refine wp_icmp_ge (n := 8) (t := 42) dX0_laysOneBack_5 rfl (by decide) (fun c5 => ?_) (fun c5 => ?_)
  · replace h := h.1 c5
    refine wp_aload_n (n := 43) (i := 1) (q := 1) dX0_laysOneBack_42 rfl rfl rfl ?_
    refine wp_aload_n (n := 44) (i := 0) (q := 0) dX0_laysOneBack_43 rfl rfl rfl ?_
    obtain ⟨a44, ea44, h⟩ := h
    rw [ea44]
    obtain ⟨x44, g44, h⟩ := h
    refine wp_gfn (n := 47) dX0_laysOneBack_44 rfl fl_X0_468 g44 ?_
    refine wp_iload_n (n := 48) (i := 2) (q := 2) dX0_laysOneBack_47 rfl rfl rfl ?_
    obtain ⟨x48, g48, h⟩ := h
    refine wp_gI (n := 49) dX0_laysOneBack_48 rfl g48 ?_
    obtain ⟨a49, ea49, h⟩ := h
    rw [ea49]
    refine wp_pf (n := 52) dX0_laysOneBack_49 rfl (pt_X0_122 _) rfl rfl (pf_mono h (fun w49 h => ?_))
    refine wp_aload_n (n := 53) (i := 1) (q := 1) dX0_laysOneBack_52 rfl rfl rfl ?_
    refine wp_aload_n (n := 54) (i := 0) (q := 0) dX0_laysOneBack_53 rfl rfl rfl ?_
    obtain ⟨x54, g54, h⟩ := h
    refine wp_gfn (n := 57) dX0_laysOneBack_54 rfl fl_X0_470 g54 ?_
    refine wp_iload_n (n := 58) (i := 2) (q := 2) dX0_laysOneBack_57 rfl rfl rfl ?_
    obtain ⟨x58, g58, h⟩ := h
    refine wp_gR (n := 59) dX0_laysOneBack_58 rfl (by decide) g58 ?_
    refine wp_pf (n := 62) dX0_laysOneBack_59 rfl (pt_X0_88 _) (nar_o _ _) (fit_o _ _) (pf_mono h (fun w59 h => ?_))
    refine wp_aload_n (n := 63) (i := 1) (q := 1) dX0_laysOneBack_62 rfl rfl rfl ?_
    rcases h with h | h
    · obtain ⟨k63, h⟩ := h
      refine wp_ciY (n := 66) dX0_laysOneBack_63 rfl q119 cok_Snapshot k63 ?_
      refine wp_if_eq (n := 69) (t := 95) dX0_laysOneBack_66 rfl (by decide) (fun z => absurd z (by decide)) (fun _ => ?_)
      refine wp_aload_n (n := 70) (i := 1) (q := 1) dX0_laysOneBack_69 rfl rfl rfl ?_
      obtain ⟨k70, h⟩ := h
      refine wp_ckY (n := 73) dX0_laysOneBack_70 rfl q119 cok_Snapshot k70 ?_
      refine wp_aload_n (n := 74) (i := 0) (q := 0) dX0_laysOneBack_73 rfl rfl rfl ?_
      obtain ⟨x74, g74, h⟩ := h
      refine wp_gfn (n := 77) dX0_laysOneBack_74 rfl fl_X0_473 g74 ?_
      refine wp_iload_n (n := 78) (i := 2) (q := 2) dX0_laysOneBack_77 rfl rfl rfl ?_
      obtain ⟨x78, g78, h⟩ := h
      refine wp_gR (n := 79) dX0_laysOneBack_78 rfl (by decide) g78 ?_
      refine wp_pf (n := 82) dX0_laysOneBack_79 rfl (pt_X0_95 _) (nar_o _ _) (fit_o _ _) (pf_mono h (fun w79 h => ?_))
      refine wp_aload_n (n := 83) (i := 1) (q := 1) dX0_laysOneBack_82 rfl rfl rfl ?_
      obtain ⟨k83, h⟩ := h
      refine wp_ckY (n := 86) dX0_laysOneBack_83 rfl q119 cok_Snapshot k83 ?_
      refine wp_aload_n (n := 87) (i := 0) (q := 0) dX0_laysOneBack_86 rfl rfl rfl ?_
      obtain ⟨x87, g87, h⟩ := h
      refine wp_gfn (n := 90) dX0_laysOneBack_87 rfl fl_X0_477 g87 ?_
      refine wp_iload_n (n := 91) (i := 2) (q := 2) dX0_laysOneBack_90 rfl rfl rfl ?_
      obtain ⟨x91, g91, h⟩ := h
      refine wp_gI (n := 92) dX0_laysOneBack_91 rfl g91 ?_
      rcases h with h | h
      · obtain ⟨⟨fs92, o92⟩, h⟩ := h
        refine wp_call (n := 95) (K' := KX7_tagsAre) (rc' := rc) (rs' := rs) (aRun_V (K' := KX7_tagsAre) (As := [vI x91]) (rest := []) (b := a49) (c0 := .inr (6, fs92)) dX0_laysOneBack_92 (aCal_of kf_X7_tagsAre (Nat.le_of_ble_eq_true rfl)) q1009 q1010 q1011 ar_X7_tagsAre o92 (by decide : 6 < 9) rfl (Nat.le_of_ble_eq_true rfl)) rfl (Nat.le_of_eq (Nat.zero_add _)) (Nat.le_of_eq (Nat.zero_add _)) (fun v92 w92 h => ?_) (fun E92 w92 h => ?_) h
        · obtain ⟨rfl, h⟩ := h
          exact wp_return dX0_laysOneBack_95 rfl h
        · exact h.elim
      · obtain ⟨⟨fs92, o92⟩, h⟩ := h
        refine wp_call (n := 95) (K' := KX8_tagsAre) (rc' := rc) (rs' := rs) (aRun_U (K' := KX8_tagsAre) (As := [vI x91]) (rest := []) (b := a49) (x := ⟨"DeadListPool$Snapshot", "tagsAre", "(I)V"⟩) (owner := "DeadListPool$Snapshot") (c0 := .inr (7, fs92)) dX0_laysOneBack_92 (aCal_of kf_X8_tagsAre (Nat.le_of_ble_eq_true rfl)) rfl q1009 q1012 q1013 q589 (Or.inl ⟨_, _, _, q1010, q1014⟩) ⟨by decide, by decide⟩ ar_X8_tagsAre o92 (by decide : 7 < 9) rfl (Nat.le_of_ble_eq_true rfl)) rfl (Nat.le_of_eq (Nat.zero_add _)) (Nat.le_of_eq (Nat.zero_add _)) (fun v92 w92 h => ?_) (fun E92 w92 h => ?_) h
        · obtain ⟨rfl, h⟩ := h
          exact wp_return dX0_laysOneBack_95 rfl h
        · exact h.elim
    · obtain ⟨k63, h⟩ := h
      refine wp_ciX (n := 66) dX0_laysOneBack_63 rfl q119 cno_Snapshot k63 ?_
      refine wp_if_eq (n := 69) (t := 95) dX0_laysOneBack_66 rfl (by decide) (fun _ => ?_) (fun z => absurd z (by decide))
      exact wp_return dX0_laysOneBack_95 rfl h
  · replace h := h.2 c5
    refine wp_aload_n (n := 9) (i := 1) (q := 1) dX0_laysOneBack_8 rfl rfl rfl ?_
    obtain ⟨a9, ea9, h⟩ := h
    rw [ea9]
    obtain ⟨x9, g9, h⟩ := h
    refine wp_gf (n := 12) dX0_laysOneBack_9 rfl fl_X0_119 g9 ?_
    refine wp_iload_n (n := 13) (i := 3) (q := 3) dX0_laysOneBack_12 rfl rfl rfl ?_
    refine wp_aload_n (n := 14) (i := 0) (q := 0) dX0_laysOneBack_13 rfl rfl rfl ?_
    obtain ⟨a14, ea14, h⟩ := h
    rw [ea14]
    obtain ⟨x14, g14, h⟩ := h
    refine wp_gfn (n := 17) dX0_laysOneBack_14 rfl fl_X0_463 g14 ?_
    refine wp_iload_n (n := 18) (i := 2) (q := 2) dX0_laysOneBack_17 rfl rfl rfl ?_
    obtain ⟨x18, g18, h⟩ := h
    refine wp_gR (n := 19) dX0_laysOneBack_18 rfl (by decide) g18 ?_
    refine wp_iload_n (n := 20) (i := 3) (q := 3) dX0_laysOneBack_19 rfl rfl rfl ?_
    obtain ⟨x20, g20, h⟩ := h
    refine wp_gI (n := 21) dX0_laysOneBack_20 rfl g20 ?_
    refine wp_pI (n := 22) dX0_laysOneBack_21 rfl (pI_mono h (fun w21 h => ?_))
    refine wp_aload_n (n := 23) (i := 1) (q := 1) dX0_laysOneBack_22 rfl rfl rfl ?_
    obtain ⟨x23, g23, h⟩ := h
    refine wp_gf (n := 26) dX0_laysOneBack_23 rfl fl_X0_125 g23 ?_
    refine wp_iload_n (n := 27) (i := 3) (q := 3) dX0_laysOneBack_26 rfl rfl rfl ?_
    refine wp_aload_n (n := 28) (i := 0) (q := 0) dX0_laysOneBack_27 rfl rfl rfl ?_
    obtain ⟨x28, g28, h⟩ := h
    refine wp_gfn (n := 31) dX0_laysOneBack_28 rfl fl_X0_466 g28 ?_
    refine wp_iload_n (n := 32) (i := 2) (q := 2) dX0_laysOneBack_31 rfl rfl rfl ?_
    obtain ⟨x32, g32, h⟩ := h
    refine wp_gR (n := 33) dX0_laysOneBack_32 rfl (by decide) g32 ?_
    refine wp_iload_n (n := 34) (i := 3) (q := 3) dX0_laysOneBack_33 rfl rfl rfl ?_
    obtain ⟨x34, g34, h⟩ := h
    refine wp_gI (n := 35) dX0_laysOneBack_34 rfl g34 ?_
    refine wp_pI (n := 36) dX0_laysOneBack_35 rfl (pI_mono h (fun w35 h => ?_))
    refine wp_iinc (n := 39) (i := 3) (q := 3) (v := i3 + 1) (ls' := [(3, vI (i3 + 1)), (0, vR (some a14)), (1, vR (some a9)), (2, vI i2)]) dX0_laysOneBack_36 rfl rfl rfl (Nat.le_of_ble_eq_true rfl) rfl ?_
    refine wp_goto (t := 2) dX0_laysOneBack_39 (by decide) ?_
    exact wp_sub [1, 2, 3, 0] rfl h
set_option maxHeartbeats 1000000 in
theorem sg_X0_laysBack_0 {h0 : Nat} {r1 : Option Nat} {rc rs : Nat} {QR : Option aV → aW → Prop} {QX : String → aW → Prop} {w : aW} (h : wp (KX0_laysBack) rc rs QR QX 2 [(0, vR (some h0)), (1, vR r1), (2, vI 0)] [] w) : wp (KX0_laysBack) rc rs QR QX 0 [(0, vR (some h0)), (1, vR r1)] [] w := by
  refine wp_iconst (n := 1) (v := 0) dX0_laysBack_0 rfl (by decide) ?_
  refine wp_istore_n (n := 2) (i := 2) (ls' := [(2, vI 0), (0, vR (some h0)), (1, vR r1)]) dX0_laysBack_1 rfl rfl (Nat.le_of_ble_eq_true rfl) rfl ?_
  exact wp_sub [1, 2, 0] rfl h
set_option maxHeartbeats 1000000 in
theorem sg_X0_laysBack_2 {h0 : Nat} {r1 : Option Nat} {i2 : Int32} {rc rs : Nat} {QR : Option aV → aW → Prop} {QX : String → aW → Prop} {w : aW} (h : (20 ≤ i2 → wp (KX0_laysBack) rc rs QR QX 54 [(0, vR (some h0)), (1, vR r1), (2, vI 0)] [] w) ∧ (¬ 20 ≤ i2 → ∃ x9 : Nat, gf w h0 [0] 4 (vR (some x9)) ∧ ∃ a14 : Nat, r1 = some a14 ∧ ∃ x14 : Nat, gf w a14 [2] 0 (vR (some x14)) ∧ ∃ x18 : Option Nat, gR w x14 2 i2 x18 ∧ (x18 = none ∨ ∃ v, x18 = some v ∧ ck w v [4, 5, 6, 7, 8]) ∧ pR w x9 2 i2 x18 (fun w19 => ∃ x21 : Nat, gf w19 h0 [0] 4 (vR (some x21)) ∧ ∃ x25 : Option Nat, gR w19 x21 2 i2 x25 ∧ (x25 = none → wp (KX0_laysBack) rc rs QR QX 2 [(0, vR (some h0)), (1, vR (some a14)), (2, vI (i2 + 1))] [] w19) ∧ (∀ a26 : Nat, x25 = some a26 → ((ck w19 a26 [4, 5, 6, 7] ∧ ∃ x34 : Nat, gf w19 h0 [0] 4 (vR (some x34)) ∧ ∃ x38 : Option Nat, gR w19 x34 2 i2 x38 ∧ ∃ a39 : Nat, x38 = some a39 ∧ ck w19 a39 [4, 5, 6, 7] ∧ ct (KX0_laysOneBack) 0 0 [vR (some a14), vR (some a39), vI i2] w19 (fun v43 w43 => v43 = none ∧ wp (KX0_laysBack) rc rs QR QX 2 [(0, vR (some h0)), (1, vR (some a14)), (2, vI (i2 + 1))] [] w43) (fun E43 w43 => False)) ∨ (ck w19 a26 [8] ∧ wp (KX0_laysBack) rc rs QR QX 2 [(0, vR (some h0)), (1, vR (some a14)), (2, vI (i2 + 1))] [] w19)))))) : wp (KX0_laysBack) rc rs QR QX 2 [(0, vR (some h0)), (1, vR r1), (2, vI i2)] [] w := by
  refine wp_iload_n (n := 3) (i := 2) (q := 2) dX0_laysBack_2 rfl rfl rfl ?_
  refine wp_bipush (n := 5) (v := 20) dX0_laysBack_3 rfl (by decide) ?_
  refine wp_icmp_ge (n := 8) (t := 52) dX0_laysBack_5 rfl (by decide) (fun c5 => ?_) (fun c5 => ?_)
  · replace h := h.1 c5
    refine wp_iconst (n := 53) (v := 0) dX0_laysBack_52 rfl (by decide) ?_
    refine wp_istore_n (n := 54) (i := 2) (ls' := [(2, vI 0), (0, vR (some h0)), (1, vR r1)]) dX0_laysBack_53 rfl rfl (Nat.le_of_ble_eq_true rfl) rfl ?_
    exact wp_sub [1, 2, 0] rfl h
  · replace h := h.2 c5
    refine wp_aload_n (n := 9) (i := 0) (q := 0) dX0_laysBack_8 rfl rfl rfl ?_
    obtain ⟨x9, g9, h⟩ := h
    refine wp_gf (n := 12) dX0_laysBack_9 rfl fl_X0_20 g9 ?_
    refine wp_iload_n (n := 13) (i := 2) (q := 2) dX0_laysBack_12 rfl rfl rfl ?_
    refine wp_aload_n (n := 14) (i := 1) (q := 1) dX0_laysBack_13 rfl rfl rfl ?_
    obtain ⟨a14, ea14, h⟩ := h
    rw [ea14]
    obtain ⟨x14, g14, h⟩ := h
    refine wp_gfn (n := 17) dX0_laysBack_14 rfl fl_X0_480 g14 ?_
    refine wp_iload_n (n := 18) (i := 2) (q := 2) dX0_laysBack_17 rfl rfl rfl ?_
    obtain ⟨x18, g18, h⟩ := h
    refine wp_gR (n := 19) dX0_laysBack_18 rfl (by decide) g18 ?_
    obtain ⟨k19, h⟩ := h
    refine wp_pR (n := 20) dX0_laysBack_19 rfl (by decide) rfl cok_Object k19 (pR_mono h (fun w19 h => ?_))
    refine wp_aload_n (n := 21) (i := 0) (q := 0) dX0_laysBack_20 rfl rfl rfl ?_
    obtain ⟨x21, g21, h⟩ := h
    refine wp_gf (n := 24) dX0_laysBack_21 rfl fl_X0_20 g21 ?_
    refine wp_iload_n (n := 25) (i := 2) (q := 2) dX0_laysBack_24 rfl rfl rfl ?_
    obtain ⟨x25, g25, h⟩ := h
    refine wp_gR (n := 26) dX0_laysBack_25 rfl (by decide) g25 ?_
    rcases opt_c x25 with ea26 | ⟨a26, ea26⟩
    · replace h := h.1 ea26
      rw [ea26]
      refine wp_instN (n := 29) dX0_laysBack_26 rfl ?_
      refine wp_if_eq (n := 32) (t := 46) dX0_laysBack_29 rfl (by decide) (fun _ => ?_) (fun z => absurd z (by decide))
      refine wp_iinc (n := 49) (i := 2) (q := 2) (v := i2 + 1) (ls' := [(2, vI (i2 + 1)), (0, vR (some h0)), (1, vR (some a14))]) dX0_laysBack_46 rfl rfl rfl (Nat.le_of_ble_eq_true rfl) rfl ?_
      refine wp_goto (t := 2) dX0_laysBack_49 (by decide) ?_
      exact wp_sub [1, 2, 0] rfl h
    · replace h := h.2 a26 ea26
      rw [ea26]
      rcases h with h | h
      · obtain ⟨k26, h⟩ := h
        refine wp_ciY (n := 29) dX0_laysBack_26 rfl q659 cok_Holder k26 ?_
        refine wp_if_eq (n := 32) (t := 46) dX0_laysBack_29 rfl (by decide) (fun z => absurd z (by decide)) (fun _ => ?_)
        refine wp_aload_n (n := 33) (i := 1) (q := 1) dX0_laysBack_32 rfl rfl rfl ?_
        refine wp_aload_n (n := 34) (i := 0) (q := 0) dX0_laysBack_33 rfl rfl rfl ?_
        obtain ⟨x34, g34, h⟩ := h
        refine wp_gf (n := 37) dX0_laysBack_34 rfl fl_X0_20 g34 ?_
        refine wp_iload_n (n := 38) (i := 2) (q := 2) dX0_laysBack_37 rfl rfl rfl ?_
        obtain ⟨x38, g38, h⟩ := h
        refine wp_gR (n := 39) dX0_laysBack_38 rfl (by decide) g38 ?_
        obtain ⟨a39, ea39, h⟩ := h
        rw [ea39]
        obtain ⟨k39, h⟩ := h
        refine wp_ckY (n := 42) dX0_laysBack_39 rfl q659 cok_Holder k39 ?_
        refine wp_iload_n (n := 43) (i := 2) (q := 2) dX0_laysBack_42 rfl rfl rfl ?_
        refine wp_call (n := 46) (K' := KX0_laysOneBack) (rc' := rc) (rs' := rs) (aRun_S (K' := KX0_laysOneBack) (As := [vR (some a14), vR (some a39), vI i2]) (rest := []) dX0_laysBack_43 (aCal_of kf_X0_laysOneBack (Nat.le_of_ble_eq_true rfl)) rfl q1006 q1007 ar_X0_laysOneBack rfl (Nat.le_of_ble_eq_true rfl)) rfl (Nat.le_of_eq (Nat.zero_add _)) (Nat.le_of_eq (Nat.zero_add _)) (fun v43 w43 h => ?_) (fun E43 w43 h => ?_) h
        · obtain ⟨rfl, h⟩ := h
          refine wp_iinc (n := 49) (i := 2) (q := 2) (v := i2 + 1) (ls' := [(2, vI (i2 + 1)), (0, vR (some h0)), (1, vR (some a14))]) dX0_laysBack_46 rfl rfl rfl (Nat.le_of_ble_eq_true rfl) rfl ?_
          refine wp_goto (t := 2) dX0_laysBack_49 (by decide) ?_
          exact wp_sub [1, 2, 0] rfl h
        · exact h.elim
      · obtain ⟨k26, h⟩ := h
        refine wp_ciX (n := 29) dX0_laysBack_26 rfl q659 cno_Holder k26 ?_
        refine wp_if_eq (n := 32) (t := 46) dX0_laysBack_29 rfl (by decide) (fun _ => ?_) (fun z => absurd z (by decide))
        refine wp_iinc (n := 49) (i := 2) (q := 2) (v := i2 + 1) (ls' := [(2, vI (i2 + 1)), (0, vR (some h0)), (1, vR (some a14))]) dX0_laysBack_46 rfl rfl rfl (Nat.le_of_ble_eq_true rfl) rfl ?_
        refine wp_goto (t := 2) dX0_laysBack_49 (by decide) ?_
        exact wp_sub [1, 2, 0] rfl h
set_option maxHeartbeats 1000000 in
theorem sg_X0_laysBack_54 {h0 : Nat} {r1 : Option Nat} {i2 : Int32} {rc rs : Nat} {QR : Option aV → aW → Prop} {QX : String → aW → Prop} {w : aW} (h : (96 ≤ i2 → ∃ a92 : Nat, r1 = some a92 ∧ ∃ x92 : Int32, gf w a92 [2] 9 (vI x92) ∧ pf w h0 [0] 2 (vI x92) (fun w95 => ∃ x100 : Int32, gf w95 a92 [2] 10 (vI x100) ∧ pf w95 h0 [0] 3 (vI x100) (fun w103 => QR none w103))) ∧ (¬ 96 ≤ i2 → ∃ x61 : Nat, gf w h0 [0] 0 (vR (some x61)) ∧ ∃ a66 : Nat, r1 = some a66 ∧ ∃ x66 : Nat, gf w a66 [2] 7 (vR (some x66)) ∧ ∃ x70 : Int32, gI w x66 i2 x70 ∧ pI w x61 i2 x70 (fun w71 => ∃ x73 : Nat, gf w71 h0 [0] 1 (vR (some x73)) ∧ ∃ x78 : Nat, gf w71 a66 [2] 8 (vR (some x78)) ∧ ∃ x82 : Int32, gI w71 x78 i2 x82 ∧ pI w71 x73 i2 x82 (fun w83 => wp (KX0_laysBack) rc rs QR QX 54 [(0, vR (some h0)), (1, vR (some a66)), (2, vI (i2 + 1))] [] w83)))) : wp (KX0_laysBack) rc rs QR QX 54 [(0, vR (some h0)), (1, vR r1), (2, vI i2)] [] w := by
  refine wp_iload_n (n := 55) (i := 2) (q := 2) dX0_laysBack_54 rfl rfl rfl ?_
  refine wp_bipush (n := 57) (v := 96) dX0_laysBack_55 rfl (by decide) ?_
  refine wp_icmp_ge (n := 60) (t := 90) dX0_laysBack_57 rfl (by decide) (fun c57 => ?_) (fun c57 => ?_)
  · replace h := h.1 c57
    refine wp_aload_n (n := 91) (i := 0) (q := 0) dX0_laysBack_90 rfl rfl rfl ?_
    refine wp_aload_n (n := 92) (i := 1) (q := 1) dX0_laysBack_91 rfl rfl rfl ?_
    obtain ⟨a92, ea92, h⟩ := h
    rw [ea92]
    obtain ⟨x92, g92, h⟩ := h
    refine wp_gfn (n := 95) dX0_laysBack_92 rfl fl_X0_487 g92 ?_
    refine wp_pf (n := 98) dX0_laysBack_95 rfl (pt_X0_16 _) rfl rfl (pf_mono h (fun w95 h => ?_))
    refine wp_aload_n (n := 99) (i := 0) (q := 0) dX0_laysBack_98 rfl rfl rfl ?_
    refine wp_aload_n (n := 100) (i := 1) (q := 1) dX0_laysBack_99 rfl rfl rfl ?_
    obtain ⟨x100, g100, h⟩ := h
    refine wp_gfn (n := 103) dX0_laysBack_100 rfl fl_X0_488 g100 ?_
    refine wp_pf (n := 106) dX0_laysBack_103 rfl (pt_X0_50 _) rfl rfl (pf_mono h (fun w103 h => ?_))
    exact wp_return dX0_laysBack_106 rfl h
  · replace h := h.2 c57
    refine wp_aload_n (n := 61) (i := 0) (q := 0) dX0_laysBack_60 rfl rfl rfl ?_
    obtain ⟨x61, g61, h⟩ := h
    refine wp_gf (n := 64) dX0_laysBack_61 rfl fl_X0_9 g61 ?_
    refine wp_iload_n (n := 65) (i := 2) (q := 2) dX0_laysBack_64 rfl rfl rfl ?_
    refine wp_aload_n (n := 66) (i := 1) (q := 1) dX0_laysBack_65 rfl rfl rfl ?_
    obtain ⟨a66, ea66, h⟩ := h
    rw [ea66]
    obtain ⟨x66, g66, h⟩ := h
    refine wp_gfn (n := 69) dX0_laysBack_66 rfl fl_X0_485 g66 ?_
    refine wp_iload_n (n := 70) (i := 2) (q := 2) dX0_laysBack_69 rfl rfl rfl ?_
    obtain ⟨x70, g70, h⟩ := h
    refine wp_gI (n := 71) dX0_laysBack_70 rfl g70 ?_
    refine wp_pI (n := 72) dX0_laysBack_71 rfl (pI_mono h (fun w71 h => ?_))
    refine wp_aload_n (n := 73) (i := 0) (q := 0) dX0_laysBack_72 rfl rfl rfl ?_
    obtain ⟨x73, g73, h⟩ := h
    refine wp_gf (n := 76) dX0_laysBack_73 rfl fl_X0_13 g73 ?_
    refine wp_iload_n (n := 77) (i := 2) (q := 2) dX0_laysBack_76 rfl rfl rfl ?_
    refine wp_aload_n (n := 78) (i := 1) (q := 1) dX0_laysBack_77 rfl rfl rfl ?_
    obtain ⟨x78, g78, h⟩ := h
    refine wp_gfn (n := 81) dX0_laysBack_78 rfl fl_X0_486 g78 ?_
    refine wp_iload_n (n := 82) (i := 2) (q := 2) dX0_laysBack_81 rfl rfl rfl ?_
    obtain ⟨x82, g82, h⟩ := h
    refine wp_gI (n := 83) dX0_laysBack_82 rfl g82 ?_
    refine wp_pI (n := 84) dX0_laysBack_83 rfl (pI_mono h (fun w83 h => ?_))
    refine wp_iinc (n := 87) (i := 2) (q := 2) (v := i2 + 1) (ls' := [(2, vI (i2 + 1)), (0, vR (some h0)), (1, vR (some a66))]) dX0_laysBack_84 rfl rfl rfl (Nat.le_of_ble_eq_true rfl) rfl ?_
    refine wp_goto (t := 54) dX0_laysBack_87 (by decide) ?_
    exact wp_sub [1, 2, 0] rfl h
set_option maxHeartbeats 1000000 in
theorem sg_X0_thingMany_0 {h0 : Nat} {rc rs : Nat} {QR : Option aV → aW → Prop} {QX : String → aW → Prop} {w : aW} (h : wp (KX0_thingMany) rc rs QR QX 4 [(0, vR (some h0)), (1, vI 0), (2, vI 0)] [] w) : wp (KX0_thingMany) rc rs QR QX 0 [(0, vR (some h0))] [] w := by
  refine wp_iconst (n := 1) (v := 0) dX0_thingMany_0 rfl (by decide) ?_
  refine wp_istore_n (n := 2) (i := 1) (ls' := [(1, vI 0), (0, vR (some h0))]) dX0_thingMany_1 rfl rfl (Nat.le_of_ble_eq_true rfl) rfl ?_
  refine wp_iconst (n := 3) (v := 0) dX0_thingMany_2 rfl (by decide) ?_
  refine wp_istore_n (n := 4) (i := 2) (ls' := [(2, vI 0), (1, vI 0), (0, vR (some h0))]) dX0_thingMany_3 rfl rfl (Nat.le_of_ble_eq_true rfl) rfl ?_
  exact wp_sub [2, 1, 0] rfl h
set_option maxHeartbeats 1000000 in
theorem sg_X0_thingMany_4 {h0 : Nat} {i1 : Int32} {i2 : Int32} {rc rs : Nat} {QR : Option aV → aW → Prop} {QX : String → aW → Prop} {w : aW} (h : (20 ≤ i2 → QR (some (vI i1)) w) ∧ (¬ 20 ≤ i2 → ∃ x12 : Nat, gf w h0 [0] 4 (vR (some x12)) ∧ ∃ x16 : Option Nat, gR w x12 2 i2 x16 ∧ (x16 = none → wp (KX0_thingMany) rc rs QR QX 4 [(0, vR (some h0)), (1, vI (i1 + 0)), (2, vI (i2 + 1))] [] w) ∧ (∀ a17 : Nat, x16 = some a17 → wp (KX0_thingMany) rc rs QR QX 4 [(0, vR (some h0)), (1, vI (i1 + 1)), (2, vI (i2 + 1))] [] w))) : wp (KX0_thingMany) rc rs QR QX 4 [(0, vR (some h0)), (1, vI i1), (2, vI i2)] [] w := by
  refine wp_iload_n (n := 5) (i := 2) (q := 2) dX0_thingMany_4 rfl rfl rfl ?_
  refine wp_bipush (n := 7) (v := 20) dX0_thingMany_5 rfl (by decide) ?_
  refine wp_icmp_ge (n := 10) (t := 33) dX0_thingMany_7 rfl (by decide) (fun c7 => ?_) (fun c7 => ?_)
  · replace h := h.1 c7
    refine wp_iload_n (n := 34) (i := 1) (q := 1) dX0_thingMany_33 rfl rfl rfl ?_
    exact wp_ireturn dX0_thingMany_34 rfl h
  · replace h := h.2 c7
    refine wp_iload_n (n := 11) (i := 1) (q := 1) dX0_thingMany_10 rfl rfl rfl ?_
    refine wp_aload_n (n := 12) (i := 0) (q := 0) dX0_thingMany_11 rfl rfl rfl ?_
    obtain ⟨x12, g12, h⟩ := h
    refine wp_gf (n := 15) dX0_thingMany_12 rfl fl_X0_20 g12 ?_
    refine wp_iload_n (n := 16) (i := 2) (q := 2) dX0_thingMany_15 rfl rfl rfl ?_
    obtain ⟨x16, g16, h⟩ := h
    refine wp_gR (n := 17) dX0_thingMany_16 rfl (by decide) g16 ?_
    rcases opt_c x16 with ea17 | ⟨a17, ea17⟩
    · replace h := h.1 ea17
      rw [ea17]
      refine wp_ifnonnull (n := 20) (t := 24) dX0_thingMany_17 rfl (by decide) (fun z zz => nomatch zz) (fun _ => ?_)
      refine wp_iconst (n := 21) (v := 0) dX0_thingMany_20 rfl (by decide) ?_
      refine wp_goto (t := 25) dX0_thingMany_21 (by decide) ?_
      refine wp_iadd (n := 26) dX0_thingMany_25 rfl ?_
      refine wp_istore_n (n := 27) (i := 1) (ls' := [(1, vI (i1 + 0)), (0, vR (some h0)), (2, vI i2)]) dX0_thingMany_26 rfl rfl (Nat.le_of_ble_eq_true rfl) rfl ?_
      refine wp_iinc (n := 30) (i := 2) (q := 2) (v := i2 + 1) (ls' := [(2, vI (i2 + 1)), (1, vI (i1 + 0)), (0, vR (some h0))]) dX0_thingMany_27 rfl rfl rfl (Nat.le_of_ble_eq_true rfl) rfl ?_
      refine wp_goto (t := 4) dX0_thingMany_30 (by decide) ?_
      exact wp_sub [2, 1, 0] rfl h
    · replace h := h.2 a17 ea17
      rw [ea17]
      refine wp_ifnonnull (n := 20) (t := 24) dX0_thingMany_17 rfl (by decide) (fun _ _ => ?_) (fun zz => nomatch zz)
      refine wp_iconst (n := 25) (v := 1) dX0_thingMany_24 rfl (by decide) ?_
      refine wp_iadd (n := 26) dX0_thingMany_25 rfl ?_
      refine wp_istore_n (n := 27) (i := 1) (ls' := [(1, vI (i1 + 1)), (0, vR (some h0)), (2, vI i2)]) dX0_thingMany_26 rfl rfl (Nat.le_of_ble_eq_true rfl) rfl ?_
      refine wp_iinc (n := 30) (i := 2) (q := 2) (v := i2 + 1) (ls' := [(2, vI (i2 + 1)), (1, vI (i1 + 1)), (0, vR (some h0))]) dX0_thingMany_27 rfl rfl rfl (Nat.le_of_ble_eq_true rfl) rfl ?_
      refine wp_goto (t := 4) dX0_thingMany_30 (by decide) ?_
      exact wp_sub [2, 1, 0] rfl h
set_option maxHeartbeats 1000000 in
theorem sg_X0_back_0 {h0 : Nat} {rc rs : Nat} {QR : Option aV → aW → Prop} {QX : String → aW → Prop} {w : aW} (h : ∃ x1 : Int32, gf w h0 [0] 10 (vI x1) ∧ (¬ x1 = 0 → ∃ x12 : Nat, gf w h0 [0] 8 (vR (some x12)) ∧ isO w h0 0 ∧ ct (KX0_laysBack) 0 0 [vR (some h0), vR (some x12)] w (fun v15 w15 => v15 = none ∧ isO w15 h0 0 ∧ ct (KX0_thingMany) 0 0 [vR (some h0)] w15 (fun v19 w19 => ∃ x19 : Int32, v19 = some (vI x19) ∧ QR (some (vI x19)) w19) (fun E19 w19 => False)) (fun E15 w15 => False)) ∧ (x1 = 0 → QR (some (vI (-3))) w)) : wp (KX0_back) rc rs QR QX 0 [(0, vR (some h0))] [] w := by
  refine wp_aload_n (n := 1) (i := 0) (q := 0) dX0_back_0 rfl rfl rfl ?_
  obtain ⟨x1, g1, h⟩ := h
  refine wp_gf (n := 4) dX0_back_1 rfl fl_X0_494 g1 ?_
  refine wp_if_ne (n := 7) (t := 10) dX0_back_4 rfl (by decide) (fun c4 => ?_) (fun c4 => ?_)
  · replace h := h.1 c4
    refine wp_aload_n (n := 11) (i := 0) (q := 0) dX0_back_10 rfl rfl rfl ?_
    refine wp_aload_n (n := 12) (i := 0) (q := 0) dX0_back_11 rfl rfl rfl ?_
    obtain ⟨x12, g12, h⟩ := h
    refine wp_gf (n := 15) dX0_back_12 rfl fl_X0_43 g12 ?_
    obtain ⟨⟨fs15, o15⟩, h⟩ := h
    refine wp_call (n := 18) (K' := KX0_laysBack) (rc' := rc) (rs' := rs) (aRun_V (K' := KX0_laysBack) (As := [vR (some x12)]) (rest := []) (b := h0) (c0 := .inr (0, fs15)) dX0_back_15 (aCal_of kf_X0_laysBack (Nat.le_of_ble_eq_true rfl)) q1002 q1004 qs50 ar_X0_laysBack o15 (by decide : 0 < 9) rfl (Nat.le_of_ble_eq_true rfl)) rfl (Nat.le_of_eq (Nat.zero_add _)) (Nat.le_of_eq (Nat.zero_add _)) (fun v15 w15 h => ?_) (fun E15 w15 h => ?_) h
    · obtain ⟨rfl, h⟩ := h
      refine wp_aload_n (n := 19) (i := 0) (q := 0) dX0_back_18 rfl rfl rfl ?_
      obtain ⟨⟨fs19, o19⟩, h⟩ := h
      refine wp_call (n := 22) (K' := KX0_thingMany) (rc' := rc) (rs' := rs) (aRun_V (K' := KX0_thingMany) (As := []) (rest := []) (b := h0) (c0 := .inr (0, fs19)) dX0_back_19 (aCal_of kf_X0_thingMany (Nat.le_of_ble_eq_true rfl)) q990 q992 qs47 ar_X0_thingMany o19 (by decide : 0 < 9) rfl (Nat.le_of_ble_eq_true rfl)) rfl (Nat.le_of_eq (Nat.zero_add _)) (Nat.le_of_eq (Nat.zero_add _)) (fun v19 w19 h => ?_) (fun E19 w19 h => ?_) h
      · obtain ⟨x19, rfl, h⟩ := h
        exact wp_ireturn dX0_back_22 rfl h
      · exact h.elim
    · exact h.elim
  · replace h := h.2 c4
    refine wp_bipush (n := 9) (v := (-3)) dX0_back_7 rfl (by decide) ?_
    exact wp_ireturn dX0_back_9 rfl h
set_option maxHeartbeats 1000000 in
theorem sg_X0_holdersOf_0 {h0 : Nat} {i1 : Int32} {rc rs : Nat} {QR : Option aV → aW → Prop} {QX : String → aW → Prop} {w : aW} (h : wp (KX0_holdersOf) rc rs QR QX 4 [(0, vR (some h0)), (1, vI i1), (2, vI 0), (3, vI 0)] [] w) : wp (KX0_holdersOf) rc rs QR QX 0 [(0, vR (some h0)), (1, vI i1)] [] w := by
  refine wp_iconst (n := 1) (v := 0) dX0_holdersOf_0 rfl (by decide) ?_
  refine wp_istore_n (n := 2) (i := 2) (ls' := [(2, vI 0), (0, vR (some h0)), (1, vI i1)]) dX0_holdersOf_1 rfl rfl (Nat.le_of_ble_eq_true rfl) rfl ?_
  refine wp_iconst (n := 3) (v := 0) dX0_holdersOf_2 rfl (by decide) ?_
  refine wp_istore_n (n := 4) (i := 3) (ls' := [(3, vI 0), (2, vI 0), (0, vR (some h0)), (1, vI i1)]) dX0_holdersOf_3 rfl rfl (Nat.le_of_ble_eq_true rfl) rfl ?_
  exact wp_sub [2, 3, 1, 0] rfl h
set_option maxHeartbeats 1000000 in
theorem sg_X0_holdersOf_4 {h0 : Nat} {i1 : Int32} {i2 : Int32} {i3 : Int32} {rc rs : Nat} {QR : Option aV → aW → Prop} {QX : String → aW → Prop} {w : aW} (h : (20 ≤ i3 → QR (some (vI i2)) w) ∧ (¬ 20 ≤ i3 → isO w h0 0 ∧ ct (KX0_holderAt) 0 0 [vR (some h0), vI i3] w (fun v13 w13 => ∃ x13 : Option Nat, v13 = some (vR x13) ∧ (x13 = none → wp (KX0_holdersOf) rc rs QR QX 4 [(0, vR (some h0)), (1, vI i1), (2, vI (i2 + 0)), (3, vI (i3 + 1))] [] w13) ∧ (∀ a16 : Nat, x13 = some a16 → isO w13 h0 0 ∧ ct (KX0_holderAt) 0 0 [vR (some h0), vI i3] w13 (fun v21 w21 => ∃ x21 : Option Nat, v21 = some (vR x21) ∧ ∃ a25 : Nat, x21 = some a25 ∧ ck w21 a25 [4, 5, 6, 7] ∧ ct (KX4_holds) 0 0 [vR (some a25), vI i1] w21 (fun v25 w25 => ∃ x25 : Int32, v25 = some (vI x25) ∧ (x25 = 0 → wp (KX0_holdersOf) rc rs QR QX 4 [(0, vR (some h0)), (1, vI i1), (2, vI (i2 + 0)), (3, vI (i3 + 1))] [] w25) ∧ (¬ x25 = 0 → wp (KX0_holdersOf) rc rs QR QX 4 [(0, vR (some h0)), (1, vI i1), (2, vI (i2 + 1)), (3, vI (i3 + 1))] [] w25)) (fun E25 w25 => False)) (fun E21 w21 => False))) (fun E13 w13 => False))) : wp (KX0_holdersOf) rc rs QR QX 4 [(0, vR (some h0)), (1, vI i1), (2, vI i2), (3, vI i3)] [] w := by
  refine wp_iload_n (n := 5) (i := 3) (q := 3) dX0_holdersOf_4 rfl rfl rfl ?_
  refine wp_bipush (n := 7) (v := 20) dX0_holdersOf_5 rfl (by decide) ?_
  refine wp_icmp_ge (n := 10) (t := 44) dX0_holdersOf_7 rfl (by decide) (fun c7 => ?_) (fun c7 => ?_)
  · replace h := h.1 c7
    refine wp_iload_n (n := 45) (i := 2) (q := 2) dX0_holdersOf_44 rfl rfl rfl ?_
    exact wp_ireturn dX0_holdersOf_45 rfl h
  · replace h := h.2 c7
    refine wp_iload_n (n := 11) (i := 2) (q := 2) dX0_holdersOf_10 rfl rfl rfl ?_
    refine wp_aload_n (n := 12) (i := 0) (q := 0) dX0_holdersOf_11 rfl rfl rfl ?_
    refine wp_iload_n (n := 13) (i := 3) (q := 3) dX0_holdersOf_12 rfl rfl rfl ?_
    obtain ⟨⟨fs13, o13⟩, h⟩ := h
    refine wp_call (n := 16) (K' := KX0_holderAt) (rc' := rc) (rs' := rs) (aRun_V (K' := KX0_holderAt) (As := [vI i3]) (rest := [vI i2]) (b := h0) (c0 := .inr (0, fs13)) dX0_holdersOf_13 (aCal_of kf_X0_holderAt (Nat.le_of_ble_eq_true rfl)) q655 q657 qs21 ar_X0_holderAt o13 (by decide : 0 < 9) rfl (Nat.le_of_ble_eq_true rfl)) rfl (Nat.le_of_eq (Nat.zero_add _)) (Nat.le_of_eq (Nat.zero_add _)) (fun v13 w13 h => ?_) (fun E13 w13 h => ?_) h
    · obtain ⟨x13, rfl, h⟩ := h
      rcases opt_c x13 with ea16 | ⟨a16, ea16⟩
      · replace h := h.1 ea16
        rw [ea16]
        refine wp_ifnull (n := 19) (t := 35) dX0_holdersOf_16 rfl (by decide) (fun _ => ?_) (fun z zz => nomatch zz)
        refine wp_iconst (n := 36) (v := 0) dX0_holdersOf_35 rfl (by decide) ?_
        refine wp_iadd (n := 37) dX0_holdersOf_36 rfl ?_
        refine wp_istore_n (n := 38) (i := 2) (ls' := [(2, vI (i2 + 0)), (0, vR (some h0)), (1, vI i1), (3, vI i3)]) dX0_holdersOf_37 rfl rfl (Nat.le_of_ble_eq_true rfl) rfl ?_
        refine wp_iinc (n := 41) (i := 3) (q := 3) (v := i3 + 1) (ls' := [(3, vI (i3 + 1)), (2, vI (i2 + 0)), (0, vR (some h0)), (1, vI i1)]) dX0_holdersOf_38 rfl rfl rfl (Nat.le_of_ble_eq_true rfl) rfl ?_
        refine wp_goto (t := 4) dX0_holdersOf_41 (by decide) ?_
        exact wp_sub [2, 3, 1, 0] rfl h
      · replace h := h.2 a16 ea16
        rw [ea16]
        refine wp_ifnull (n := 19) (t := 35) dX0_holdersOf_16 rfl (by decide) (fun zz => nomatch zz) (fun _ _ => ?_)
        refine wp_aload_n (n := 20) (i := 0) (q := 0) dX0_holdersOf_19 rfl rfl rfl ?_
        refine wp_iload_n (n := 21) (i := 3) (q := 3) dX0_holdersOf_20 rfl rfl rfl ?_
        obtain ⟨⟨fs21, o21⟩, h⟩ := h
        refine wp_call (n := 24) (K' := KX0_holderAt) (rc' := rc) (rs' := rs) (aRun_V (K' := KX0_holderAt) (As := [vI i3]) (rest := [vI i2]) (b := h0) (c0 := .inr (0, fs21)) dX0_holdersOf_21 (aCal_of kf_X0_holderAt (Nat.le_of_ble_eq_true rfl)) q655 q657 qs21 ar_X0_holderAt o21 (by decide : 0 < 9) rfl (Nat.le_of_ble_eq_true rfl)) rfl (Nat.le_of_eq (Nat.zero_add _)) (Nat.le_of_eq (Nat.zero_add _)) (fun v21 w21 h => ?_) (fun E21 w21 h => ?_) h
        · obtain ⟨x21, rfl, h⟩ := h
          refine wp_iload_n (n := 25) (i := 1) (q := 1) dX0_holdersOf_24 rfl rfl rfl ?_
          obtain ⟨a25, ea25, h⟩ := h
          rw [ea25]
          obtain ⟨⟨cc25, o25, kk25⟩, h⟩ := h
          have run25 : aRun (KX0_holdersOf) (KX4_holds) 25 [vR (some a25), vI i1] [vI i1, vR (some a25), vI i2] [vI i2] w21 := by
            simp only [List.mem_cons, List.not_mem_nil, or_false] at kk25
            rcases kk25 with kk25 | kk25 | kk25 | kk25
            · obtain ⟨fs25, rfl⟩ := kd_o kk25 (by decide)
              exact (aRun_U (K' := KX4_holds) (As := [vI i1]) (rest := [vI i2]) (b := a25) (x := ⟨"DeadListPool$Holder", "holds", "(I)Z"⟩) (owner := "DeadListPool$Holder") (c0 := .inr (4, fs25)) dX0_holdersOf_25 (aCal_of kf_X4_holds (Nat.le_of_ble_eq_true rfl)) rfl q770 q772 q774 q771 (Or.inr q828) ⟨by decide, by decide⟩ ar_X4_holds o25 (by decide : 4 < 9) rfl (Nat.le_of_ble_eq_true rfl))
            · obtain ⟨fs25, rfl⟩ := kd_o kk25 (by decide)
              exact (aRun_U (K' := KX4_holds) (As := [vI i1]) (rest := [vI i2]) (b := a25) (x := ⟨"DeadListPool$Holder", "holds", "(I)Z"⟩) (owner := "DeadListPool$Holder") (c0 := .inr (5, fs25)) dX0_holdersOf_25 (aCal_of kf_X4_holds (Nat.le_of_ble_eq_true rfl)) rfl q770 q772 q773 q771 (Or.inr q828) ⟨by decide, by decide⟩ ar_X4_holds o25 (by decide : 5 < 9) rfl (Nat.le_of_ble_eq_true rfl))
            · obtain ⟨fs25, rfl⟩ := kd_o kk25 (by decide)
              exact (aRun_U (K' := KX4_holds) (As := [vI i1]) (rest := [vI i2]) (b := a25) (x := ⟨"DeadListPool$Holder", "holds", "(I)Z"⟩) (owner := "DeadListPool$Holder") (c0 := .inr (6, fs25)) dX0_holdersOf_25 (aCal_of kf_X4_holds (Nat.le_of_ble_eq_true rfl)) rfl q770 q772 q775 q771 (Or.inr q828) ⟨by decide, by decide⟩ ar_X4_holds o25 (by decide : 6 < 9) rfl (Nat.le_of_ble_eq_true rfl))
            · obtain ⟨fs25, rfl⟩ := kd_o kk25 (by decide)
              exact (aRun_U (K' := KX4_holds) (As := [vI i1]) (rest := [vI i2]) (b := a25) (x := ⟨"DeadListPool$Holder", "holds", "(I)Z"⟩) (owner := "DeadListPool$Holder") (c0 := .inr (7, fs25)) dX0_holdersOf_25 (aCal_of kf_X4_holds (Nat.le_of_ble_eq_true rfl)) rfl q770 q772 q776 q771 (Or.inr q828) ⟨by decide, by decide⟩ ar_X4_holds o25 (by decide : 7 < 9) rfl (Nat.le_of_ble_eq_true rfl))
          refine wp_call (n := 28) (K' := KX4_holds) (rc' := rc) (rs' := rs) run25 rfl (Nat.le_of_eq (Nat.zero_add _)) (Nat.le_of_eq (Nat.zero_add _)) (fun v25 w25 h => ?_) (fun E25 w25 h => ?_) h
          · obtain ⟨x25, rfl, h⟩ := h
            refine wp_if_eq (n := 31) (t := 35) dX0_holdersOf_28 rfl (by decide) (fun c28 => ?_) (fun c28 => ?_)
            · replace h := h.1 c28
              refine wp_iconst (n := 36) (v := 0) dX0_holdersOf_35 rfl (by decide) ?_
              refine wp_iadd (n := 37) dX0_holdersOf_36 rfl ?_
              refine wp_istore_n (n := 38) (i := 2) (ls' := [(2, vI (i2 + 0)), (0, vR (some h0)), (1, vI i1), (3, vI i3)]) dX0_holdersOf_37 rfl rfl (Nat.le_of_ble_eq_true rfl) rfl ?_
              refine wp_iinc (n := 41) (i := 3) (q := 3) (v := i3 + 1) (ls' := [(3, vI (i3 + 1)), (2, vI (i2 + 0)), (0, vR (some h0)), (1, vI i1)]) dX0_holdersOf_38 rfl rfl rfl (Nat.le_of_ble_eq_true rfl) rfl ?_
              refine wp_goto (t := 4) dX0_holdersOf_41 (by decide) ?_
              exact wp_sub [2, 3, 1, 0] rfl h
            · replace h := h.2 c28
              refine wp_iconst (n := 32) (v := 1) dX0_holdersOf_31 rfl (by decide) ?_
              refine wp_goto (t := 36) dX0_holdersOf_32 (by decide) ?_
              refine wp_iadd (n := 37) dX0_holdersOf_36 rfl ?_
              refine wp_istore_n (n := 38) (i := 2) (ls' := [(2, vI (i2 + 1)), (0, vR (some h0)), (1, vI i1), (3, vI i3)]) dX0_holdersOf_37 rfl rfl (Nat.le_of_ble_eq_true rfl) rfl ?_
              refine wp_iinc (n := 41) (i := 3) (q := 3) (v := i3 + 1) (ls' := [(3, vI (i3 + 1)), (2, vI (i2 + 1)), (0, vR (some h0)), (1, vI i1)]) dX0_holdersOf_38 rfl rfl rfl (Nat.le_of_ble_eq_true rfl) rfl ?_
              refine wp_goto (t := 4) dX0_holdersOf_41 (by decide) ?_
              exact wp_sub [2, 3, 1, 0] rfl h
          · exact h.elim
        · exact h.elim
    · exact h.elim
set_option maxHeartbeats 1000000 in
theorem sg_X0_block_0 {h0 : Nat} {i1 : Int32} {i2 : Int32} {rc rs : Nat} {QR : Option aV → aW → Prop} {QX : String → aW → Prop} {w : aW} (h : ct (KX0_in) 0 0 [vL (Int32.toInt64 i2), vL 0, vL 2] w (fun v6 w6 => ∃ x6 : Int32, v6 = some (vI x6) ∧ (¬ x6 = 0 → ct (KX0_in) 0 0 [vL (Int32.toInt64 i1), vL 0, vL 95] w6 (fun v21 w21 => ∃ x21 : Int32, v21 = some (vI x21) ∧ (¬ x21 = 0 → ∃ x31 : Nat, gf w21 h0 [0] 0 (vR (some x31)) ∧ ∃ x35 : Int32, gI w21 x31 i1 x35 ∧ (¬ x35 = 0 → (¬ i2 = 0 → (¬ i2 = 1 → isO w21 h0 0 ∧ ct (KX0_holdersOf) 0 0 [vR (some h0), vI i1] w21 (fun v71 w71 => ∃ x71 : Int32, v71 = some (vI x71) ∧ QR (some (vI x71)) w71) (fun E71 w71 => False)) ∧ (i2 = 1 → ∃ x61 : Nat, gf w21 h0 [0] 1 (vR (some x61)) ∧ ∃ x65 : Int32, gI w21 x61 i1 x65 ∧ QR (some (vI x65)) w21)) ∧ (i2 = 0 → ∃ x47 : Nat, gf w21 h0 [0] 0 (vR (some x47)) ∧ ∃ x51 : Int32, gI w21 x47 i1 x51 ∧ QR (some (vI x51)) w21)) ∧ (x35 = 0 → QR (some (vI (-11))) w21)) ∧ (x21 = 0 → QR (some (vI (-12))) w21)) (fun E21 w21 => False)) ∧ (x6 = 0 → QR (some (vI (-2))) w6)) (fun E6 w6 => False)) : wp (KX0_block) rc rs QR QX 0 [(0, vR (some h0)), (1, vI i1), (2, vI i2)] [] w := by
  refine wp_iload_n (n := 1) (i := 2) (q := 2) dX0_block_0 rfl rfl rfl ?_
  refine wp_i2l (n := 2) dX0_block_1 rfl ?_
  refine wp_lconst (n := 3) (v := 0) dX0_block_2 rfl (by decide) ?_
  refine wp_ldc2 (n := 6) dX0_block_3 rfl q764 ?_
  refine wp_call (n := 9) (K' := KX0_in) (rc' := rc) (rs' := rs) (aRun_S (K' := KX0_in) (As := [vL (Int32.toInt64 i2), vL 0, vL 2]) (rest := []) dX0_block_6 (aCal_of kf_X0_in (Nat.le_of_ble_eq_true rfl)) rfl q228 q229 ar_X0_in rfl (Nat.le_of_ble_eq_true rfl)) rfl (Nat.le_of_eq (Nat.zero_add _)) (Nat.le_of_eq (Nat.zero_add _)) (fun v6 w6 h => ?_) (fun E6 w6 h => ?_) h
  · obtain ⟨x6, rfl, h⟩ := h
    refine wp_if_ne (n := 12) (t := 15) dX0_block_9 rfl (by decide) (fun c9 => ?_) (fun c9 => ?_)
    · replace h := h.1 c9
      refine wp_iload_n (n := 16) (i := 1) (q := 1) dX0_block_15 rfl rfl rfl ?_
      refine wp_i2l (n := 17) dX0_block_16 rfl ?_
      refine wp_lconst (n := 18) (v := 0) dX0_block_17 rfl (by decide) ?_
      refine wp_ldc2 (n := 21) dX0_block_18 rfl q765 ?_
      refine wp_call (n := 24) (K' := KX0_in) (rc' := rc) (rs' := rs) (aRun_S (K' := KX0_in) (As := [vL (Int32.toInt64 i1), vL 0, vL 95]) (rest := []) dX0_block_21 (aCal_of kf_X0_in (Nat.le_of_ble_eq_true rfl)) rfl q228 q229 ar_X0_in rfl (Nat.le_of_ble_eq_true rfl)) rfl (Nat.le_of_eq (Nat.zero_add _)) (Nat.le_of_eq (Nat.zero_add _)) (fun v21 w21 h => ?_) (fun E21 w21 h => ?_) h
      · obtain ⟨x21, rfl, h⟩ := h
        refine wp_if_ne (n := 27) (t := 30) dX0_block_24 rfl (by decide) (fun c24 => ?_) (fun c24 => ?_)
        · replace h := h.1 c24
          refine wp_aload_n (n := 31) (i := 0) (q := 0) dX0_block_30 rfl rfl rfl ?_
          obtain ⟨x31, g31, h⟩ := h
          refine wp_gf (n := 34) dX0_block_31 rfl fl_X0_9 g31 ?_
          refine wp_iload_n (n := 35) (i := 1) (q := 1) dX0_block_34 rfl rfl rfl ?_
          obtain ⟨x35, g35, h⟩ := h
          refine wp_gI (n := 36) dX0_block_35 rfl g35 ?_
          refine wp_if_ne (n := 39) (t := 42) dX0_block_36 rfl (by decide) (fun c36 => ?_) (fun c36 => ?_)
          · replace h := h.1 c36
            refine wp_iload_n (n := 43) (i := 2) (q := 2) dX0_block_42 rfl rfl rfl ?_
            refine wp_if_ne (n := 46) (t := 55) dX0_block_43 rfl (by decide) (fun c43 => ?_) (fun c43 => ?_)
            · replace h := h.1 c43
              refine wp_iload_n (n := 56) (i := 2) (q := 2) dX0_block_55 rfl rfl rfl ?_
              refine wp_iconst (n := 57) (v := 1) dX0_block_56 rfl (by decide) ?_
              refine wp_icmp_ne (n := 60) (t := 69) dX0_block_57 rfl (by decide) (fun c57 => ?_) (fun c57 => ?_)
              · replace h := h.1 c57
                refine wp_aload_n (n := 70) (i := 0) (q := 0) dX0_block_69 rfl rfl rfl ?_
                refine wp_iload_n (n := 71) (i := 1) (q := 1) dX0_block_70 rfl rfl rfl ?_
                obtain ⟨⟨fs71, o71⟩, h⟩ := h
                refine wp_call (n := 74) (K' := KX0_holdersOf) (rc' := rc) (rs' := rs) (aRun_V (K' := KX0_holdersOf) (As := [vI i1]) (rest := []) (b := h0) (c0 := .inr (0, fs71)) dX0_block_71 (aCal_of kf_X0_holdersOf (Nat.le_of_ble_eq_true rfl)) q766 q768 qs28 ar_X0_holdersOf o71 (by decide : 0 < 9) rfl (Nat.le_of_ble_eq_true rfl)) rfl (Nat.le_of_eq (Nat.zero_add _)) (Nat.le_of_eq (Nat.zero_add _)) (fun v71 w71 h => ?_) (fun E71 w71 h => ?_) h
                · obtain ⟨x71, rfl, h⟩ := h
                  exact wp_ireturn dX0_block_74 rfl h
                · exact h.elim
              · replace h := h.2 c57
                refine wp_aload_n (n := 61) (i := 0) (q := 0) dX0_block_60 rfl rfl rfl ?_
                obtain ⟨x61, g61, h⟩ := h
                refine wp_gf (n := 64) dX0_block_61 rfl fl_X0_13 g61 ?_
                refine wp_iload_n (n := 65) (i := 1) (q := 1) dX0_block_64 rfl rfl rfl ?_
                obtain ⟨x65, g65, h⟩ := h
                refine wp_gI (n := 66) dX0_block_65 rfl g65 ?_
                refine wp_goto (t := 74) dX0_block_66 (by decide) ?_
                exact wp_ireturn dX0_block_74 rfl h
            · replace h := h.2 c43
              refine wp_aload_n (n := 47) (i := 0) (q := 0) dX0_block_46 rfl rfl rfl ?_
              obtain ⟨x47, g47, h⟩ := h
              refine wp_gf (n := 50) dX0_block_47 rfl fl_X0_9 g47 ?_
              refine wp_iload_n (n := 51) (i := 1) (q := 1) dX0_block_50 rfl rfl rfl ?_
              obtain ⟨x51, g51, h⟩ := h
              refine wp_gI (n := 52) dX0_block_51 rfl g51 ?_
              refine wp_goto (t := 74) dX0_block_52 (by decide) ?_
              exact wp_ireturn dX0_block_74 rfl h
          · replace h := h.2 c36
            refine wp_bipush (n := 41) (v := (-11)) dX0_block_39 rfl (by decide) ?_
            exact wp_ireturn dX0_block_41 rfl h
        · replace h := h.2 c24
          refine wp_bipush (n := 29) (v := (-12)) dX0_block_27 rfl (by decide) ?_
          exact wp_ireturn dX0_block_29 rfl h
      · exact h.elim
    · replace h := h.2 c9
      refine wp_bipush (n := 14) (v := (-2)) dX0_block_12 rfl (by decide) ?_
      exact wp_ireturn dX0_block_14 rfl h
  · exact h.elim
set_option maxHeartbeats 1000000 in
theorem sg_X0_blockMany_0 {h0 : Nat} {rc rs : Nat} {QR : Option aV → aW → Prop} {QX : String → aW → Prop} {w : aW} (h : wp (KX0_blockMany) rc rs QR QX 4 [(0, vR (some h0)), (1, vI 0), (2, vI 0)] [] w) : wp (KX0_blockMany) rc rs QR QX 0 [(0, vR (some h0))] [] w := by
  refine wp_iconst (n := 1) (v := 0) dX0_blockMany_0 rfl (by decide) ?_
  refine wp_istore_n (n := 2) (i := 1) (ls' := [(1, vI 0), (0, vR (some h0))]) dX0_blockMany_1 rfl rfl (Nat.le_of_ble_eq_true rfl) rfl ?_
  refine wp_iconst (n := 3) (v := 0) dX0_blockMany_2 rfl (by decide) ?_
  refine wp_istore_n (n := 4) (i := 2) (ls' := [(2, vI 0), (1, vI 0), (0, vR (some h0))]) dX0_blockMany_3 rfl rfl (Nat.le_of_ble_eq_true rfl) rfl ?_
  exact wp_sub [2, 1, 0] rfl h
set_option maxHeartbeats 1000000 in
theorem sg_X0_blockMany_4 {h0 : Nat} {i1 : Int32} {i2 : Int32} {rc rs : Nat} {QR : Option aV → aW → Prop} {QX : String → aW → Prop} {w : aW} (h : (96 ≤ i2 → QR (some (vI i1)) w) ∧ (¬ 96 ≤ i2 → ∃ x12 : Nat, gf w h0 [0] 0 (vR (some x12)) ∧ ∃ x16 : Int32, gI w x12 i2 x16 ∧ (¬ x16 = 0 → wp (KX0_blockMany) rc rs QR QX 4 [(0, vR (some h0)), (1, vI (i1 + 1)), (2, vI (i2 + 1))] [] w) ∧ (x16 = 0 → wp (KX0_blockMany) rc rs QR QX 4 [(0, vR (some h0)), (1, vI (i1 + 0)), (2, vI (i2 + 1))] [] w))) : wp (KX0_blockMany) rc rs QR QX 4 [(0, vR (some h0)), (1, vI i1), (2, vI i2)] [] w := by
  refine wp_iload_n (n := 5) (i := 2) (q := 2) dX0_blockMany_4 rfl rfl rfl ?_
  refine wp_bipush (n := 7) (v := 96) dX0_blockMany_5 rfl (by decide) ?_
  refine wp_icmp_ge (n := 10) (t := 33) dX0_blockMany_7 rfl (by decide) (fun c7 => ?_) (fun c7 => ?_)
  · replace h := h.1 c7
    refine wp_iload_n (n := 34) (i := 1) (q := 1) dX0_blockMany_33 rfl rfl rfl ?_
    exact wp_ireturn dX0_blockMany_34 rfl h
  · replace h := h.2 c7
    refine wp_iload_n (n := 11) (i := 1) (q := 1) dX0_blockMany_10 rfl rfl rfl ?_
    refine wp_aload_n (n := 12) (i := 0) (q := 0) dX0_blockMany_11 rfl rfl rfl ?_
    obtain ⟨x12, g12, h⟩ := h
    refine wp_gf (n := 15) dX0_blockMany_12 rfl fl_X0_9 g12 ?_
    refine wp_iload_n (n := 16) (i := 2) (q := 2) dX0_blockMany_15 rfl rfl rfl ?_
    obtain ⟨x16, g16, h⟩ := h
    refine wp_gI (n := 17) dX0_blockMany_16 rfl g16 ?_
    refine wp_if_ne (n := 20) (t := 24) dX0_blockMany_17 rfl (by decide) (fun c17 => ?_) (fun c17 => ?_)
    · replace h := h.1 c17
      refine wp_iconst (n := 25) (v := 1) dX0_blockMany_24 rfl (by decide) ?_
      refine wp_iadd (n := 26) dX0_blockMany_25 rfl ?_
      refine wp_istore_n (n := 27) (i := 1) (ls' := [(1, vI (i1 + 1)), (0, vR (some h0)), (2, vI i2)]) dX0_blockMany_26 rfl rfl (Nat.le_of_ble_eq_true rfl) rfl ?_
      refine wp_iinc (n := 30) (i := 2) (q := 2) (v := i2 + 1) (ls' := [(2, vI (i2 + 1)), (1, vI (i1 + 1)), (0, vR (some h0))]) dX0_blockMany_27 rfl rfl rfl (Nat.le_of_ble_eq_true rfl) rfl ?_
      refine wp_goto (t := 4) dX0_blockMany_30 (by decide) ?_
      exact wp_sub [2, 1, 0] rfl h
    · replace h := h.2 c17
      refine wp_iconst (n := 21) (v := 0) dX0_blockMany_20 rfl (by decide) ?_
      refine wp_goto (t := 25) dX0_blockMany_21 (by decide) ?_
      refine wp_iadd (n := 26) dX0_blockMany_25 rfl ?_
      refine wp_istore_n (n := 27) (i := 1) (ls' := [(1, vI (i1 + 0)), (0, vR (some h0)), (2, vI i2)]) dX0_blockMany_26 rfl rfl (Nat.le_of_ble_eq_true rfl) rfl ?_
      refine wp_iinc (n := 30) (i := 2) (q := 2) (v := i2 + 1) (ls' := [(2, vI (i2 + 1)), (1, vI (i1 + 0)), (0, vR (some h0))]) dX0_blockMany_27 rfl rfl rfl (Nat.le_of_ble_eq_true rfl) rfl ?_
      refine wp_goto (t := 4) dX0_blockMany_30 (by decide) ?_
      exact wp_sub [2, 1, 0] rfl h
set_option maxHeartbeats 1000000 in
theorem sg_X0_put_0 {r0 : Option Nat} {i1 : Int32} {l2 : Int64} {rc rs : Nat} {QR : Option aV → aW → Prop} {QX : String → aW → Prop} {w : aW} (h : (r0 = none → 1 ≤ rc ∧ 8 ≤ rs ∧ QX "java/lang/NullPointerException" w) ∧ (∀ a1 : Nat, r0 = some a1 → ((ckr w a1 0 ∧ ckr w a1 0 ∧ ∃ n12 : Int32, gA w a1 n12 ∧ 1 ≤ rc ∧ 6 ≤ rs ∧ ct (KX0_asksPlace) 1 6 [vI i1, vI n12] w (fun v13 w13 => v13 = none ∧ ckr w13 a1 0 ∧ pI w13 a1 i1 (Int64.toInt32 l2) (fun w23 => QR (some (vI 1)) w23)) (fun E13 w13 => (E13 = "java/lang/IndexOutOfBoundsException" ∧ QX "java/lang/IndexOutOfBoundsException" w13))) ∨ (ckr w a1 1 ∧ ckr w a1 1 ∧ ∃ n32 : Int32, gA w a1 n32 ∧ 1 ≤ rc ∧ 6 ≤ rs ∧ ct (KX0_asksPlace) 1 6 [vI i1, vI n32] w (fun v33 w33 => v33 = none ∧ ckr w33 a1 1 ∧ pL w33 a1 i1 l2 (fun w42 => QR (some (vI 1)) w42)) (fun E33 w33 => (E33 = "java/lang/IndexOutOfBoundsException" ∧ QX "java/lang/IndexOutOfBoundsException" w33)))))) : wp (KX0_put) rc rs QR QX 0 [(0, vR r0), (1, vI i1), (2, vL l2)] [] w := by
  refine wp_aload_n (n := 1) (i := 0) (q := 0) dX0_put_0 rfl rfl rfl ?_
  rcases opt_c r0 with ea1 | ⟨a1, ea1⟩
  · replace h := h.1 ea1
    rw [ea1]
    refine wp_instN (n := 4) dX0_put_1 rfl ?_
    refine wp_if_eq (n := 7) (t := 27) dX0_put_4 rfl (by decide) (fun _ => ?_) (fun z => absurd z (by decide))
    refine wp_iload_n (n := 28) (i := 1) (q := 1) dX0_put_27 rfl rfl rfl ?_
    refine wp_aload_n (n := 29) (i := 0) (q := 0) dX0_put_28 rfl rfl rfl ?_
    refine wp_castN (n := 32) dX0_put_29 rfl ?_
    obtain ⟨b1, b2, h⟩ := h
    refine wp_alenNull (rc' := 0) (rs' := 0) dX0_put_32 (by omega) (by omega) (Nat.le_of_ble_eq_true rfl) ?_
    exact wpx_out (fun z hz => absurd hz List.not_mem_nil) h
  · replace h := h.2 a1 ea1
    rw [ea1]
    rcases h with h | h
    · obtain ⟨k1, h⟩ := h
      refine wp_cirY (n := 4) dX0_put_1 rfl q929 cok_I1 k1 ?_
      refine wp_if_eq (n := 7) (t := 27) dX0_put_4 rfl (by decide) (fun z => absurd z (by decide)) (fun _ => ?_)
      refine wp_iload_n (n := 8) (i := 1) (q := 1) dX0_put_7 rfl rfl rfl ?_
      refine wp_aload_n (n := 9) (i := 0) (q := 0) dX0_put_8 rfl rfl rfl ?_
      obtain ⟨k9, h⟩ := h
      refine wp_ckrY (n := 12) dX0_put_9 rfl q929 cok_I1 k9 ?_
      obtain ⟨n12, g12, h⟩ := h
      refine wp_gA (n := 13) dX0_put_12 rfl g12 ?_
      obtain ⟨b13, bb13, h⟩ := h
      refine wp_call (n := 16) (K' := KX0_asksPlace) (rc' := rc - 1) (rs' := rs - 6) (aRun_S (K' := KX0_asksPlace) (As := [vI i1, vI n12]) (rest := []) dX0_put_13 (aCal_of kf_X0_asksPlace (Nat.le_of_ble_eq_true rfl)) rfl q455 q456 ar_X0_asksPlace rfl (Nat.le_of_ble_eq_true rfl)) rfl (by omega) (by omega) (fun v13 w13 h => ?_) (fun E13 w13 h => ?_) h
      · obtain ⟨rfl, h⟩ := h
        refine wp_aload_n (n := 17) (i := 0) (q := 0) dX0_put_16 rfl rfl rfl ?_
        obtain ⟨k17, h⟩ := h
        refine wp_ckrY (n := 20) dX0_put_17 rfl q929 cok_I1 k17 ?_
        refine wp_iload_n (n := 21) (i := 1) (q := 1) dX0_put_20 rfl rfl rfl ?_
        refine wp_lload_n (n := 22) (i := 2) (q := 2) dX0_put_21 rfl rfl rfl ?_
        refine wp_l2i (n := 23) dX0_put_22 rfl ?_
        refine wp_pI (n := 24) dX0_put_23 rfl (pI_mono h (fun w23 h => ?_))
        refine wp_goto (t := 43) dX0_put_24 (by decide) ?_
        refine wp_iconst (n := 44) (v := 1) dX0_put_43 rfl (by decide) ?_
        exact wp_ireturn dX0_put_44 rfl h
      · obtain ⟨rfl, h⟩ := h
        exact wpx_out (fun z hz => absurd hz List.not_mem_nil) h
    · obtain ⟨k1, h⟩ := h
      refine wp_cirX (n := 4) dX0_put_1 rfl q929 cno_I1 k1 ?_
      refine wp_if_eq (n := 7) (t := 27) dX0_put_4 rfl (by decide) (fun _ => ?_) (fun z => absurd z (by decide))
      refine wp_iload_n (n := 28) (i := 1) (q := 1) dX0_put_27 rfl rfl rfl ?_
      refine wp_aload_n (n := 29) (i := 0) (q := 0) dX0_put_28 rfl rfl rfl ?_
      obtain ⟨k29, h⟩ := h
      refine wp_ckrY (n := 32) dX0_put_29 rfl q930 cok_J1 k29 ?_
      obtain ⟨n32, g32, h⟩ := h
      refine wp_gA (n := 33) dX0_put_32 rfl g32 ?_
      obtain ⟨b33, bb33, h⟩ := h
      refine wp_call (n := 36) (K' := KX0_asksPlace) (rc' := rc - 1) (rs' := rs - 6) (aRun_S (K' := KX0_asksPlace) (As := [vI i1, vI n32]) (rest := []) dX0_put_33 (aCal_of kf_X0_asksPlace (Nat.le_of_ble_eq_true rfl)) rfl q455 q456 ar_X0_asksPlace rfl (Nat.le_of_ble_eq_true rfl)) rfl (by omega) (by omega) (fun v33 w33 h => ?_) (fun E33 w33 h => ?_) h
      · obtain ⟨rfl, h⟩ := h
        refine wp_aload_n (n := 37) (i := 0) (q := 0) dX0_put_36 rfl rfl rfl ?_
        obtain ⟨k37, h⟩ := h
        refine wp_ckrY (n := 40) dX0_put_37 rfl q930 cok_J1 k37 ?_
        refine wp_iload_n (n := 41) (i := 1) (q := 1) dX0_put_40 rfl rfl rfl ?_
        refine wp_lload_n (n := 42) (i := 2) (q := 2) dX0_put_41 rfl rfl rfl ?_
        refine wp_pL (n := 43) dX0_put_42 rfl (pL_mono h (fun w42 h => ?_))
        refine wp_iconst (n := 44) (v := 1) dX0_put_43 rfl (by decide) ?_
        exact wp_ireturn dX0_put_44 rfl h
      · obtain ⟨rfl, h⟩ := h
        exact wpx_out (fun z hz => absurd hz List.not_mem_nil) h
set_option maxHeartbeats 1000000 in
theorem sg_X0_cell_0 {h0 : Nat} {i1 : Int32} {i2 : Int32} {l3 : Int64} {rc rs : Nat} {QR : Option aV → aW → Prop} {QX : String → aW → Prop} {w : aW} (h : ct (KX0_isSheet) 0 0 [vI i1] w (fun v1 w1 => ∃ x1 : Int32, v1 = some (vI x1) ∧ (¬ x1 = 0 → ∃ x11 : Nat, gf w1 h0 [0] 7 (vR (some x11)) ∧ ∃ x15 : Nat, gR w1 x11 4 i1 (some x15) ∧ ∃ x16 : Option Nat, gf w1 x15 [1] 0 (vR x16) ∧ 1 ≤ rc ∧ 8 ≤ rs ∧ ct (KX0_put) 1 8 [vR x16, vI i2, vL l3] w1 (fun v21 w21 => ∃ x21 : Int32, v21 = some (vI x21) ∧ QR (some (vI x21)) w21) (fun E21 w21 => (E21 = "java/lang/IndexOutOfBoundsException" ∧ QR (some (vI (-12))) w21) ∨ (E21 = "java/lang/NullPointerException" ∧ QR (some (vI (-11))) w21))) ∧ (x1 = 0 → QR (some (vI (-2))) w1)) (fun E1 w1 => False)) : wp (KX0_cell) rc rs QR QX 0 [(0, vR (some h0)), (1, vI i1), (2, vI i2), (3, vL l3)] [] w := by
  refine wp_iload_n (n := 1) (i := 1) (q := 1) dX0_cell_0 rfl rfl rfl ?_
  refine wp_call (n := 4) (K' := KX0_isSheet) (rc' := rc) (rs' := rs) (aRun_S (K' := KX0_isSheet) (As := [vI i1]) (rest := []) dX0_cell_1 (aCal_of kf_X0_isSheet (Nat.le_of_ble_eq_true rfl)) rfl q914 q915 ar_X0_isSheet rfl (Nat.le_of_ble_eq_true rfl)) rfl (Nat.le_of_eq (Nat.zero_add _)) (Nat.le_of_eq (Nat.zero_add _)) (fun v1 w1 h => ?_) (fun E1 w1 h => ?_) h
  · obtain ⟨x1, rfl, h⟩ := h
    refine wp_if_ne (n := 7) (t := 10) dX0_cell_4 rfl (by decide) (fun c4 => ?_) (fun c4 => ?_)
    · replace h := h.1 c4
      refine wp_aload_n (n := 11) (i := 0) (q := 0) dX0_cell_10 rfl rfl rfl ?_
      obtain ⟨x11, g11, h⟩ := h
      refine wp_gf (n := 14) dX0_cell_11 rfl fl_X0_36 g11 ?_
      refine wp_iload_n (n := 15) (i := 1) (q := 1) dX0_cell_14 rfl rfl rfl ?_
      obtain ⟨x15, g15, h⟩ := h
      refine wp_gR (n := 16) dX0_cell_15 rfl (by decide) g15 ?_
      obtain ⟨x16, g16, h⟩ := h
      refine wp_gfn (n := 19) dX0_cell_16 rfl fl_X0_376 g16 ?_
      refine wp_iload_n (n := 20) (i := 2) (q := 2) dX0_cell_19 rfl rfl rfl ?_
      refine wp_lload_n (n := 21) (i := 3) (q := 3) dX0_cell_20 rfl rfl rfl ?_
      obtain ⟨b21, bb21, h⟩ := h
      refine wp_call (n := 24) (K' := KX0_put) (rc' := rc - 1) (rs' := rs - 8) (aRun_S (K' := KX0_put) (As := [vR x16, vI i2, vL l3]) (rest := []) dX0_cell_21 (aCal_of kf_X0_put (Nat.le_of_ble_eq_true rfl)) rfl q926 q927 ar_X0_put rfl (Nat.le_of_ble_eq_true rfl)) rfl (by omega) (by omega) (fun v21 w21 h => ?_) (fun E21 w21 h => ?_) h
      · obtain ⟨x21, rfl, h⟩ := h
        exact wp_ireturn dX0_cell_24 rfl h
      · rcases h with h | h
        · obtain ⟨rfl, h⟩ := h
          refine wpx_catch (nm := "java/lang/IndexOutOfBoundsException") [(10, 24, 25, 169)] (10, 24, 30, 53) [] rfl (fun z hz => by have hz : z ∈ ([(10, 24, 25, 169)] : List (Nat × Nat × Nat × Nat)) := hz; simp only [List.mem_cons, List.not_mem_nil, or_false] at hz; subst hz; exact Or.inr ⟨by decide, "java/lang/NullPointerException", q411, nc_IndexOutOfBoundsException_NullPointerException⟩) (by decide) (by decide) q320 q459 (fun q9 => ?_)
          refine wp_astore (n := 32) (i := 5) (ls' := [(5, vR (some q9)), (0, vR (some h0)), (1, vI i1), (2, vI i2), (3, vL l3)]) dX0_cell_30 rfl (Nat.le_of_ble_eq_true rfl) rfl ?_
          refine wp_bipush (n := 34) (v := (-12)) dX0_cell_32 rfl (by decide) ?_
          exact wp_ireturn dX0_cell_34 rfl h
        · obtain ⟨rfl, h⟩ := h
          refine wpx_catch (nm := "java/lang/NullPointerException") [] (10, 24, 25, 169) [(10, 24, 30, 53)] rfl (fun z hz => absurd hz List.not_mem_nil) (by decide) (by decide) q411 q433 (fun q9 => ?_)
          refine wp_astore (n := 27) (i := 5) (ls' := [(5, vR (some q9)), (0, vR (some h0)), (1, vI i1), (2, vI i2), (3, vL l3)]) dX0_cell_25 rfl (Nat.le_of_ble_eq_true rfl) rfl ?_
          refine wp_bipush (n := 29) (v := (-11)) dX0_cell_27 rfl (by decide) ?_
          exact wp_ireturn dX0_cell_29 rfl h
    · replace h := h.2 c4
      refine wp_bipush (n := 9) (v := (-2)) dX0_cell_7 rfl (by decide) ?_
      exact wp_ireturn dX0_cell_9 rfl h
  · exact h.elim
set_option maxHeartbeats 1000000 in
theorem sg_X0_common_0 {h0 : Nat} {i1 : Int32} {i2 : Int32} {rc rs : Nat} {QR : Option aV → aW → Prop} {QX : String → aW → Prop} {w : aW} (h : isO w h0 0 ∧ ct (KX0_holderAt) 0 0 [vR (some h0), vI i1] w (fun v2 w2 => ∃ x2 : Option Nat, v2 = some (vR x2) ∧ isO w2 h0 0 ∧ ct (KX0_holderAt) 0 0 [vR (some h0), vI i2] w2 (fun v8 w8 => ∃ x8 : Option Nat, v8 = some (vR x8) ∧ (x2 = none → QR (some (vL (-4611686018427387904))) w8) ∧ (∀ a14 : Nat, x2 = some a14 → (x8 = none → QR (some (vL (-4611686018427387904))) w8) ∧ (∀ a19 : Nat, x8 = some a19 → wp (KX0_common) rc rs QR QX 32 [(0, vR (some h0)), (1, vI i1), (2, vI i2), (3, vR (some a14)), (4, vR (some a19)), (5, vL 0), (7, vI 0)] [] w8))) (fun E8 w8 => False)) (fun E2 w2 => False)) : wp (KX0_common) rc rs QR QX 0 [(0, vR (some h0)), (1, vI i1), (2, vI i2)] [] w := by
  refine wp_aload_n (n := 1) (i := 0) (q := 0) dX0_common_0 rfl rfl rfl ?_
  refine wp_iload_n (n := 2) (i := 1) (q := 1) dX0_common_1 rfl rfl rfl ?_
  obtain ⟨⟨fs2, o2⟩, h⟩ := h
  refine wp_call (n := 5) (K' := KX0_holderAt) (rc' := rc) (rs' := rs) (aRun_V (K' := KX0_holderAt) (As := [vI i1]) (rest := []) (b := h0) (c0 := .inr (0, fs2)) dX0_common_2 (aCal_of kf_X0_holderAt (Nat.le_of_ble_eq_true rfl)) q655 q657 qs21 ar_X0_holderAt o2 (by decide : 0 < 9) rfl (Nat.le_of_ble_eq_true rfl)) rfl (Nat.le_of_eq (Nat.zero_add _)) (Nat.le_of_eq (Nat.zero_add _)) (fun v2 w2 h => ?_) (fun E2 w2 h => ?_) h
  · obtain ⟨x2, rfl, h⟩ := h
    refine wp_astore_n (n := 6) (i := 3) (ls' := [(3, vR x2), (0, vR (some h0)), (1, vI i1), (2, vI i2)]) dX0_common_5 rfl rfl (Nat.le_of_ble_eq_true rfl) rfl ?_
    refine wp_aload_n (n := 7) (i := 0) (q := 1) dX0_common_6 rfl rfl rfl ?_
    refine wp_iload_n (n := 8) (i := 2) (q := 3) dX0_common_7 rfl rfl rfl ?_
    obtain ⟨⟨fs8, o8⟩, h⟩ := h
    refine wp_call (n := 11) (K' := KX0_holderAt) (rc' := rc) (rs' := rs) (aRun_V (K' := KX0_holderAt) (As := [vI i2]) (rest := []) (b := h0) (c0 := .inr (0, fs8)) dX0_common_8 (aCal_of kf_X0_holderAt (Nat.le_of_ble_eq_true rfl)) q655 q657 qs21 ar_X0_holderAt o8 (by decide : 0 < 9) rfl (Nat.le_of_ble_eq_true rfl)) rfl (Nat.le_of_eq (Nat.zero_add _)) (Nat.le_of_eq (Nat.zero_add _)) (fun v8 w8 h => ?_) (fun E8 w8 h => ?_) h
    · obtain ⟨x8, rfl, h⟩ := h
      refine wp_astore (n := 13) (i := 4) (ls' := [(4, vR x8), (3, vR x2), (0, vR (some h0)), (1, vI i1), (2, vI i2)]) dX0_common_11 rfl (Nat.le_of_ble_eq_true rfl) rfl ?_
      refine wp_aload_n (n := 14) (i := 3) (q := 1) dX0_common_13 rfl rfl rfl ?_
      rcases opt_c x2 with ea14 | ⟨a14, ea14⟩
      · replace h := h.1 ea14
        rw [ea14]
        refine wp_ifnull (n := 17) (t := 22) dX0_common_14 rfl (by decide) (fun _ => ?_) (fun z zz => nomatch zz)
        refine wp_ldc2 (n := 25) dX0_common_22 rfl q797 ?_
        exact wp_lreturn dX0_common_25 rfl h
      · replace h := h.2 a14 ea14
        rw [ea14]
        refine wp_ifnull (n := 17) (t := 22) dX0_common_14 rfl (by decide) (fun zz => nomatch zz) (fun _ _ => ?_)
        refine wp_aload (n := 19) (i := 4) (q := 0) dX0_common_17 rfl rfl ?_
        rcases opt_c x8 with ea19 | ⟨a19, ea19⟩
        · replace h := h.1 ea19
          rw [ea19]
          refine wp_ifnonnull (n := 22) (t := 26) dX0_common_19 rfl (by decide) (fun z zz => nomatch zz) (fun _ => ?_)
          refine wp_ldc2 (n := 25) dX0_common_22 rfl q797 ?_
          exact wp_lreturn dX0_common_25 rfl h
        · replace h := h.2 a19 ea19
          rw [ea19]
          refine wp_ifnonnull (n := 22) (t := 26) dX0_common_19 rfl (by decide) (fun _ _ => ?_) (fun zz => nomatch zz)
          refine wp_lconst (n := 27) (v := 0) dX0_common_26 rfl (by decide) ?_
          refine wp_lstore (n := 29) (i := 5) (ls' := [(5, vL 0), (4, vR (some a19)), (3, vR (some a14)), (0, vR (some h0)), (1, vI i1), (2, vI i2)]) dX0_common_27 rfl (Nat.le_of_ble_eq_true rfl) rfl ?_
          refine wp_iconst (n := 30) (v := 0) dX0_common_29 rfl (by decide) ?_
          refine wp_istore (n := 32) (i := 7) (ls' := [(7, vI 0), (5, vL 0), (4, vR (some a19)), (3, vR (some a14)), (0, vR (some h0)), (1, vI i1), (2, vI i2)]) dX0_common_30 rfl (Nat.le_of_ble_eq_true rfl) rfl ?_
          exact wp_sub [4, 5, 6, 3, 2, 1, 0] rfl h
    · exact h.elim
  · exact h.elim
set_option maxHeartbeats 1000000 in
theorem sg_X0_common_32 {h0 : Nat} {i1 : Int32} {i2 : Int32} {r3 : Option Nat} {r4 : Option Nat} {l5 : Int64} {i7 : Int32} {rc rs : Nat} {QR : Option aV → aW → Prop} {QX : String → aW → Prop} {w : aW} (h : (12 ≤ i7 → QR (some (vL l5)) w) ∧ (¬ 12 ≤ i7 → ∃ a40 : Nat, r3 = some a40 ∧ ∃ x40 : Nat, gf w a40 [4, 5, 6, 7] 1 (vR (some x40)) ∧ ∃ x45 : Int32, gI w x40 i7 x45 ∧ (x45 = (-1) → wp (KX0_common) rc rs QR QX 32 [(0, vR (some h0)), (1, vI i1), (2, vI i2), (3, vR (some a40)), (4, vR r4), (5, vL (l5 + 0)), (7, vI (i7 + 1))] [] w) ∧ (¬ x45 = (-1) → ∃ a60 : Nat, r4 = some a60 ∧ ck w a60 [4, 5, 6, 7] ∧ ct (KX4_holds) 0 0 [vR (some a60), vI x45] w (fun v60 w60 => ∃ x60 : Int32, v60 = some (vI x60) ∧ (x60 = 0 → wp (KX0_common) rc rs QR QX 32 [(0, vR (some h0)), (1, vI i1), (2, vI i2), (3, vR (some a40)), (4, vR (some a60)), (5, vL (l5 + 0)), (7, vI (i7 + 1))] [] w60) ∧ (¬ x60 = 0 → ∃ x67 : Nat, gf w60 h0 [0] 0 (vR (some x67)) ∧ ∃ x72 : Int32, gI w60 x67 x45 x72 ∧ wp (KX0_common) rc rs QR QX 32 [(0, vR (some h0)), (1, vI i1), (2, vI i2), (3, vR (some a40)), (4, vR (some a60)), (5, vL (l5 + (Int32.toInt64 x72))), (7, vI (i7 + 1))] [] w60)) (fun E60 w60 => False)))) : wp (KX0_common) rc rs QR QX 32 [(0, vR (some h0)), (1, vI i1), (2, vI i2), (3, vR r3), (4, vR r4), (5, vL l5), (7, vI i7)] [] w := by
  refine wp_iload (n := 34) (i := 7) (q := 6) dX0_common_32 rfl rfl ?_
  refine wp_bipush (n := 36) (v := 12) dX0_common_34 rfl (by decide) ?_
  refine wp_icmp_ge (n := 39) (t := 87) dX0_common_36 rfl (by decide) (fun c36 => ?_) (fun c36 => ?_)
  · replace h := h.1 c36
    refine wp_lload (n := 89) (i := 5) (q := 5) dX0_common_87 rfl rfl ?_
    exact wp_lreturn dX0_common_89 rfl h
  · replace h := h.2 c36
    refine wp_aload_n (n := 40) (i := 3) (q := 3) dX0_common_39 rfl rfl rfl ?_
    obtain ⟨a40, ea40, h⟩ := h
    rw [ea40]
    obtain ⟨x40, g40, h⟩ := h
    refine wp_gf (n := 43) dX0_common_40 rfl fl_X0_119 g40 ?_
    refine wp_iload (n := 45) (i := 7) (q := 6) dX0_common_43 rfl rfl ?_
    obtain ⟨x45, g45, h⟩ := h
    refine wp_gI (n := 46) dX0_common_45 rfl g45 ?_
    refine wp_istore (n := 48) (i := 8) (ls' := [(8, vI x45), (0, vR (some h0)), (1, vI i1), (2, vI i2), (3, vR (some a40)), (4, vR r4), (5, vL l5), (7, vI i7)]) dX0_common_46 rfl (Nat.le_of_ble_eq_true rfl) rfl ?_
    refine wp_lload (n := 50) (i := 5) (q := 6) dX0_common_48 rfl rfl ?_
    refine wp_iload (n := 52) (i := 8) (q := 0) dX0_common_50 rfl rfl ?_
    refine wp_iconst (n := 53) (v := (-1)) dX0_common_52 rfl (by decide) ?_
    refine wp_icmp_eq (n := 56) (t := 77) dX0_common_53 rfl (by decide) (fun c53 => ?_) (fun c53 => ?_)
    · replace h := h.1 c53
      refine wp_lconst (n := 78) (v := 0) dX0_common_77 rfl (by decide) ?_
      refine wp_ladd (n := 79) dX0_common_78 rfl ?_
      refine wp_lstore (n := 81) (i := 5) (ls' := [(5, vL (l5 + 0)), (8, vI x45), (0, vR (some h0)), (1, vI i1), (2, vI i2), (3, vR (some a40)), (4, vR r4), (7, vI i7)]) dX0_common_79 rfl (Nat.le_of_ble_eq_true rfl) rfl ?_
      refine wp_iinc (n := 84) (i := 7) (q := 7) (v := i7 + 1) (ls' := [(7, vI (i7 + 1)), (5, vL (l5 + 0)), (8, vI x45), (0, vR (some h0)), (1, vI i1), (2, vI i2), (3, vR (some a40)), (4, vR r4)]) dX0_common_81 rfl rfl rfl (Nat.le_of_ble_eq_true rfl) rfl ?_
      refine wp_goto (t := 32) dX0_common_84 (by decide) ?_
      exact wp_sub [3, 4, 5, 6, 7, 1, 0] rfl h
    · replace h := h.2 c53
      refine wp_aload (n := 58) (i := 4) (q := 5) dX0_common_56 rfl rfl ?_
      refine wp_iload (n := 60) (i := 8) (q := 0) dX0_common_58 rfl rfl ?_
      obtain ⟨a60, ea60, h⟩ := h
      rw [ea60]
      obtain ⟨⟨cc60, o60, kk60⟩, h⟩ := h
      have run60 : aRun (KX0_common) (KX4_holds) 60 [vR (some a60), vI x45] [vI x45, vR (some a60), vL l5] [vL l5] w := by
        simp only [List.mem_cons, List.not_mem_nil, or_false] at kk60
        rcases kk60 with kk60 | kk60 | kk60 | kk60
        · obtain ⟨fs60, rfl⟩ := kd_o kk60 (by decide)
          exact (aRun_U (K' := KX4_holds) (As := [vI x45]) (rest := [vL l5]) (b := a60) (x := ⟨"DeadListPool$Holder", "holds", "(I)Z"⟩) (owner := "DeadListPool$Holder") (c0 := .inr (4, fs60)) dX0_common_60 (aCal_of kf_X4_holds (Nat.le_of_ble_eq_true rfl)) rfl q770 q772 q774 q771 (Or.inr q828) ⟨by decide, by decide⟩ ar_X4_holds o60 (by decide : 4 < 9) rfl (Nat.le_of_ble_eq_true rfl))
        · obtain ⟨fs60, rfl⟩ := kd_o kk60 (by decide)
          exact (aRun_U (K' := KX4_holds) (As := [vI x45]) (rest := [vL l5]) (b := a60) (x := ⟨"DeadListPool$Holder", "holds", "(I)Z"⟩) (owner := "DeadListPool$Holder") (c0 := .inr (5, fs60)) dX0_common_60 (aCal_of kf_X4_holds (Nat.le_of_ble_eq_true rfl)) rfl q770 q772 q773 q771 (Or.inr q828) ⟨by decide, by decide⟩ ar_X4_holds o60 (by decide : 5 < 9) rfl (Nat.le_of_ble_eq_true rfl))
        · obtain ⟨fs60, rfl⟩ := kd_o kk60 (by decide)
          exact (aRun_U (K' := KX4_holds) (As := [vI x45]) (rest := [vL l5]) (b := a60) (x := ⟨"DeadListPool$Holder", "holds", "(I)Z"⟩) (owner := "DeadListPool$Holder") (c0 := .inr (6, fs60)) dX0_common_60 (aCal_of kf_X4_holds (Nat.le_of_ble_eq_true rfl)) rfl q770 q772 q775 q771 (Or.inr q828) ⟨by decide, by decide⟩ ar_X4_holds o60 (by decide : 6 < 9) rfl (Nat.le_of_ble_eq_true rfl))
        · obtain ⟨fs60, rfl⟩ := kd_o kk60 (by decide)
          exact (aRun_U (K' := KX4_holds) (As := [vI x45]) (rest := [vL l5]) (b := a60) (x := ⟨"DeadListPool$Holder", "holds", "(I)Z"⟩) (owner := "DeadListPool$Holder") (c0 := .inr (7, fs60)) dX0_common_60 (aCal_of kf_X4_holds (Nat.le_of_ble_eq_true rfl)) rfl q770 q772 q776 q771 (Or.inr q828) ⟨by decide, by decide⟩ ar_X4_holds o60 (by decide : 7 < 9) rfl (Nat.le_of_ble_eq_true rfl))
      refine wp_call (n := 63) (K' := KX4_holds) (rc' := rc) (rs' := rs) run60 rfl (Nat.le_of_eq (Nat.zero_add _)) (Nat.le_of_eq (Nat.zero_add _)) (fun v60 w60 h => ?_) (fun E60 w60 h => ?_) h
      · obtain ⟨x60, rfl, h⟩ := h
        refine wp_if_eq (n := 66) (t := 77) dX0_common_63 rfl (by decide) (fun c63 => ?_) (fun c63 => ?_)
        · replace h := h.1 c63
          refine wp_lconst (n := 78) (v := 0) dX0_common_77 rfl (by decide) ?_
          refine wp_ladd (n := 79) dX0_common_78 rfl ?_
          refine wp_lstore (n := 81) (i := 5) (ls' := [(5, vL (l5 + 0)), (8, vI x45), (0, vR (some h0)), (1, vI i1), (2, vI i2), (3, vR (some a40)), (4, vR (some a60)), (7, vI i7)]) dX0_common_79 rfl (Nat.le_of_ble_eq_true rfl) rfl ?_
          refine wp_iinc (n := 84) (i := 7) (q := 7) (v := i7 + 1) (ls' := [(7, vI (i7 + 1)), (5, vL (l5 + 0)), (8, vI x45), (0, vR (some h0)), (1, vI i1), (2, vI i2), (3, vR (some a40)), (4, vR (some a60))]) dX0_common_81 rfl rfl rfl (Nat.le_of_ble_eq_true rfl) rfl ?_
          refine wp_goto (t := 32) dX0_common_84 (by decide) ?_
          exact wp_sub [3, 4, 5, 6, 7, 1, 0] rfl h
        · replace h := h.2 c63
          refine wp_aload_n (n := 67) (i := 0) (q := 1) dX0_common_66 rfl rfl rfl ?_
          obtain ⟨x67, g67, h⟩ := h
          refine wp_gf (n := 70) dX0_common_67 rfl fl_X0_9 g67 ?_
          refine wp_iload (n := 72) (i := 8) (q := 0) dX0_common_70 rfl rfl ?_
          obtain ⟨x72, g72, h⟩ := h
          refine wp_gI (n := 73) dX0_common_72 rfl g72 ?_
          refine wp_i2l (n := 74) dX0_common_73 rfl ?_
          refine wp_goto (t := 78) dX0_common_74 (by decide) ?_
          refine wp_ladd (n := 79) dX0_common_78 rfl ?_
          refine wp_lstore (n := 81) (i := 5) (ls' := [(5, vL (l5 + (Int32.toInt64 x72))), (8, vI x45), (0, vR (some h0)), (1, vI i1), (2, vI i2), (3, vR (some a40)), (4, vR (some a60)), (7, vI i7)]) dX0_common_79 rfl (Nat.le_of_ble_eq_true rfl) rfl ?_
          refine wp_iinc (n := 84) (i := 7) (q := 7) (v := i7 + 1) (ls' := [(7, vI (i7 + 1)), (5, vL (l5 + (Int32.toInt64 x72))), (8, vI x45), (0, vR (some h0)), (1, vI i1), (2, vI i2), (3, vR (some a40)), (4, vR (some a60))]) dX0_common_81 rfl rfl rfl (Nat.le_of_ble_eq_true rfl) rfl ?_
          refine wp_goto (t := 32) dX0_common_84 (by decide) ?_
          exact wp_sub [3, 4, 5, 6, 7, 1, 0] rfl h
      · exact h.elim
set_option maxHeartbeats 1000000 in
theorem sg_X0_count_0 {h0 : Nat} {i1 : Int32} {rc rs : Nat} {QR : Option aV → aW → Prop} {QX : String → aW → Prop} {w : aW} (h : (i1 = 0 → isO w h0 0 ∧ ct (KX0_thingMany) 0 0 [vR (some h0)] w (fun v33 w33 => ∃ x33 : Int32, v33 = some (vI x33) ∧ QR (some (vI x33)) w33) (fun E33 w33 => False)) ∧ (i1 = 1 → isO w h0 0 ∧ ct (KX0_blockMany) 0 0 [vR (some h0)] w (fun v38 w38 => ∃ x38 : Int32, v38 = some (vI x38) ∧ QR (some (vI x38)) w38) (fun E38 w38 => False)) ∧ (i1 = 2 → ∃ x43 : Int32, gf w h0 [0] 2 (vI x43) ∧ QR (some (vI x43)) w) ∧ (i1 = 3 → ∃ x48 : Int32, gf w h0 [0] 3 (vI x48) ∧ QR (some (vI x48)) w) ∧ (¬ i1 = 0 → ¬ i1 = 1 → ¬ i1 = 2 → ¬ i1 = 3 → QR (some (vI (-2))) w)) : wp (KX0_count) rc rs QR QX 0 [(0, vR (some h0)), (1, vI i1)] [] w := by
  refine wp_iload_n (n := 1) (i := 1) (q := 1) dX0_count_0 rfl rfl rfl ?_
  by_cases e1_0 : i1 = 0
  · replace h := h.1 e1_0
    refine wp_tableIn (t := 32) dX0_count_1 (by rw [e1_0]; decide) (by rw [e1_0]; decide) (off := 31) (by rw [e1_0]; decide) (by decide) ?_
    refine wp_aload_n (n := 33) (i := 0) (q := 0) dX0_count_32 rfl rfl rfl ?_
    obtain ⟨⟨fs33, o33⟩, h⟩ := h
    refine wp_call (n := 36) (K' := KX0_thingMany) (rc' := rc) (rs' := rs) (aRun_V (K' := KX0_thingMany) (As := []) (rest := []) (b := h0) (c0 := .inr (0, fs33)) dX0_count_33 (aCal_of kf_X0_thingMany (Nat.le_of_ble_eq_true rfl)) q990 q992 qs47 ar_X0_thingMany o33 (by decide : 0 < 9) rfl (Nat.le_of_ble_eq_true rfl)) rfl (Nat.le_of_eq (Nat.zero_add _)) (Nat.le_of_eq (Nat.zero_add _)) (fun v33 w33 h => ?_) (fun E33 w33 h => ?_) h
    · obtain ⟨x33, rfl, h⟩ := h
      exact wp_ireturn dX0_count_36 rfl h
    · exact h.elim
  by_cases e1_1 : i1 = 1
  · replace h := h.2.1 e1_1
    refine wp_tableIn (t := 37) dX0_count_1 (by rw [e1_1]; decide) (by rw [e1_1]; decide) (off := 36) (by rw [e1_1]; decide) (by decide) ?_
    refine wp_aload_n (n := 38) (i := 0) (q := 0) dX0_count_37 rfl rfl rfl ?_
    obtain ⟨⟨fs38, o38⟩, h⟩ := h
    refine wp_call (n := 41) (K' := KX0_blockMany) (rc' := rc) (rs' := rs) (aRun_V (K' := KX0_blockMany) (As := []) (rest := []) (b := h0) (c0 := .inr (0, fs38)) dX0_count_38 (aCal_of kf_X0_blockMany (Nat.le_of_ble_eq_true rfl)) q994 q996 qs48 ar_X0_blockMany o38 (by decide : 0 < 9) rfl (Nat.le_of_ble_eq_true rfl)) rfl (Nat.le_of_eq (Nat.zero_add _)) (Nat.le_of_eq (Nat.zero_add _)) (fun v38 w38 h => ?_) (fun E38 w38 h => ?_) h
    · obtain ⟨x38, rfl, h⟩ := h
      exact wp_ireturn dX0_count_41 rfl h
    · exact h.elim
  by_cases e1_2 : i1 = 2
  · replace h := h.2.2.1 e1_2
    refine wp_tableIn (t := 42) dX0_count_1 (by rw [e1_2]; decide) (by rw [e1_2]; decide) (off := 41) (by rw [e1_2]; decide) (by decide) ?_
    refine wp_aload_n (n := 43) (i := 0) (q := 0) dX0_count_42 rfl rfl rfl ?_
    obtain ⟨x43, g43, h⟩ := h
    refine wp_gf (n := 46) dX0_count_43 rfl fl_X0_16 g43 ?_
    exact wp_ireturn dX0_count_46 rfl h
  by_cases e1_3 : i1 = 3
  · replace h := h.2.2.2.1 e1_3
    refine wp_tableIn (t := 47) dX0_count_1 (by rw [e1_3]; decide) (by rw [e1_3]; decide) (off := 46) (by rw [e1_3]; decide) (by decide) ?_
    refine wp_aload_n (n := 48) (i := 0) (q := 0) dX0_count_47 rfl rfl rfl ?_
    obtain ⟨x48, g48, h⟩ := h
    refine wp_gf (n := 51) dX0_count_48 rfl fl_X0_50 g48 ?_
    exact wp_ireturn dX0_count_51 rfl h
  replace h := h.2.2.2.2 e1_0 e1_1 e1_2 e1_3
  have f1 : i1.toInt < 0 ∨ 3 < i1.toInt := by
    by_cases q1 : i1.toInt < 0
    · exact Or.inl q1
    · by_cases q2 : 3 < i1.toInt
      · exact Or.inr q2
      · exfalso
        have q3 : i1.toInt = 0 ∨ i1.toInt = 1 ∨ i1.toInt = 2 ∨ i1.toInt = 3 := by omega
        rcases q3 with q3 | q3 | q3 | q3
        · exact e1_0 (Int32.toInt_inj.mp (q3.trans (by decide)))
        · exact e1_1 (Int32.toInt_inj.mp (q3.trans (by decide)))
        · exact e1_2 (Int32.toInt_inj.mp (q3.trans (by decide)))
        · exact e1_3 (Int32.toInt_inj.mp (q3.trans (by decide)))
  refine wp_tableOut (t := 52) dX0_count_1 f1 (by decide) ?_
  refine wp_bipush (n := 54) (v := (-2)) dX0_count_52 rfl (by decide) ?_
  exact wp_ireturn dX0_count_54 rfl h
set_option maxHeartbeats 1000000 in
theorem sg_X0_deadOf_0 {r0 : Option Nat} {i1 : Int32} {rc rs : Nat} {QR : Option aV → aW → Prop} {QX : String → aW → Prop} {w : aW} (h : (¬ i1 = 0 → (r0 = none → 1 ≤ rc ∧ 8 ≤ rs ∧ QX "java/lang/NullPointerException" w) ∧ (∀ a10 : Nat, r0 = some a10 → ∃ x10 : Int32, gf w a10 [4, 5, 6, 7] 3 (vI x10) ∧ (¬ x10 = 0 → (¬ i1 = 1 → ∃ x33 : Nat, gf w a10 [4, 5, 6, 7] 2 (vR (some x33)) ∧ ∃ x37 : Int32, gf w a10 [4, 5, 6, 7] 3 (vI x37) ∧ ∃ x42 : Int32, gI w x33 (x37 - 1) x42 ∧ QR (some (vI x42)) w) ∧ (i1 = 1 → ∃ x24 : Nat, gf w a10 [4, 5, 6, 7] 2 (vR (some x24)) ∧ ∃ x28 : Int32, gI w x24 0 x28 ∧ QR (some (vI x28)) w)) ∧ (x10 = 0 → QR (some (vI (-1))) w))) ∧ (i1 = 0 → (r0 = none → 1 ≤ rc ∧ 8 ≤ rs ∧ QX "java/lang/NullPointerException" w) ∧ (∀ a5 : Nat, r0 = some a5 → ∃ x5 : Int32, gf w a5 [4, 5, 6, 7] 3 (vI x5) ∧ QR (some (vI x5)) w))) : wp (KX0_deadOf) rc rs QR QX 0 [(0, vR r0), (1, vI i1)] [] w := by
  refine wp_iload_n (n := 1) (i := 1) (q := 1) dX0_deadOf_0 rfl rfl rfl ?_
  refine wp_if_ne (n := 4) (t := 9) dX0_deadOf_1 rfl (by decide) (fun c1 => ?_) (fun c1 => ?_)
  · replace h := h.1 c1
    refine wp_aload_n (n := 10) (i := 0) (q := 0) dX0_deadOf_9 rfl rfl rfl ?_
    rcases opt_c r0 with ea10 | ⟨a10, ea10⟩
    · obtain ⟨b1, b2, h⟩ := h.1 ea10
      rw [ea10]
      refine wp_getfNull (rc' := 0) (rs' := 0) dX0_deadOf_10 (fl_X0_122 4 (by decide)) (by omega) (by omega) (Nat.le_of_ble_eq_true rfl) ?_
      exact wpx_out (fun z hz => absurd hz List.not_mem_nil) h
    · replace h := h.2 a10 ea10
      rw [ea10]
      obtain ⟨x10, g10, h⟩ := h
      refine wp_gf (n := 13) dX0_deadOf_10 rfl fl_X0_122 g10 ?_
      refine wp_if_ne (n := 16) (t := 18) dX0_deadOf_13 rfl (by decide) (fun c13 => ?_) (fun c13 => ?_)
      · replace h := h.1 c13
        refine wp_iload_n (n := 19) (i := 1) (q := 1) dX0_deadOf_18 rfl rfl rfl ?_
        refine wp_iconst (n := 20) (v := 1) dX0_deadOf_19 rfl (by decide) ?_
        refine wp_icmp_ne (n := 23) (t := 32) dX0_deadOf_20 rfl (by decide) (fun c20 => ?_) (fun c20 => ?_)
        · replace h := h.1 c20
          refine wp_aload_n (n := 33) (i := 0) (q := 0) dX0_deadOf_32 rfl rfl rfl ?_
          obtain ⟨x33, g33, h⟩ := h
          refine wp_gf (n := 36) dX0_deadOf_33 rfl fl_X0_125 g33 ?_
          refine wp_aload_n (n := 37) (i := 0) (q := 0) dX0_deadOf_36 rfl rfl rfl ?_
          obtain ⟨x37, g37, h⟩ := h
          refine wp_gf (n := 40) dX0_deadOf_37 rfl fl_X0_122 g37 ?_
          refine wp_iconst (n := 41) (v := 1) dX0_deadOf_40 rfl (by decide) ?_
          refine wp_isub (n := 42) dX0_deadOf_41 rfl ?_
          obtain ⟨x42, g42, h⟩ := h
          refine wp_gI (n := 43) dX0_deadOf_42 rfl g42 ?_
          exact wp_ireturn dX0_deadOf_43 rfl h
        · replace h := h.2 c20
          refine wp_aload_n (n := 24) (i := 0) (q := 0) dX0_deadOf_23 rfl rfl rfl ?_
          obtain ⟨x24, g24, h⟩ := h
          refine wp_gf (n := 27) dX0_deadOf_24 rfl fl_X0_125 g24 ?_
          refine wp_iconst (n := 28) (v := 0) dX0_deadOf_27 rfl (by decide) ?_
          obtain ⟨x28, g28, h⟩ := h
          refine wp_gI (n := 29) dX0_deadOf_28 rfl g28 ?_
          refine wp_goto (t := 43) dX0_deadOf_29 (by decide) ?_
          exact wp_ireturn dX0_deadOf_43 rfl h
      · replace h := h.2 c13
        refine wp_iconst (n := 17) (v := (-1)) dX0_deadOf_16 rfl (by decide) ?_
        exact wp_ireturn dX0_deadOf_17 rfl h
  · replace h := h.2 c1
    refine wp_aload_n (n := 5) (i := 0) (q := 0) dX0_deadOf_4 rfl rfl rfl ?_
    rcases opt_c r0 with ea5 | ⟨a5, ea5⟩
    · obtain ⟨b1, b2, h⟩ := h.1 ea5
      rw [ea5]
      refine wp_getfNull (rc' := 0) (rs' := 0) dX0_deadOf_5 (fl_X0_122 4 (by decide)) (by omega) (by omega) (Nat.le_of_ble_eq_true rfl) ?_
      exact wpx_out (fun z hz => absurd hz List.not_mem_nil) h
    · replace h := h.2 a5 ea5
      rw [ea5]
      obtain ⟨x5, g5, h⟩ := h
      refine wp_gf (n := 8) dX0_deadOf_5 rfl fl_X0_122 g5 ?_
      exact wp_ireturn dX0_deadOf_8 rfl h
set_option maxHeartbeats 1000000 in
theorem sg_X0_dead_0 {h0 : Nat} {i1 : Int32} {i2 : Int32} {rc rs : Nat} {QR : Option aV → aW → Prop} {QX : String → aW → Prop} {w : aW} (h : ct (KX0_in) 0 0 [vL (Int32.toInt64 i2), vL 0, vL 2] w (fun v6 w6 => ∃ x6 : Int32, v6 = some (vI x6) ∧ (¬ x6 = 0 → 1 ≤ rc ∧ 6 ≤ rs ∧ isO w6 h0 0 ∧ ct (KX0_thingAt) 1 6 [vR (some h0), vI i1] w6 (fun v17 w17 => ∃ x17 : Option Nat, v17 = some (vR x17) ∧ (x17 = none → 1 ≤ (rc - 1) ∧ 8 ≤ (rs - 6) ∧ ct (KX0_deadOf) 1 8 [vR none, vI i2] w17 (fun v24 w24 => ∃ x24 : Int32, v24 = some (vI x24) ∧ QR (some (vI x24)) w24) (fun E24 w24 => (E24 = "java/lang/NullPointerException" ∧ QR (some (vI (-11))) w24))) ∧ (∀ a20 : Nat, x17 = some a20 → ((ck w17 a20 [4, 5, 6, 7] ∧ 1 ≤ (rc - 1) ∧ 8 ≤ (rs - 6) ∧ ct (KX0_deadOf) 1 8 [vR (some a20), vI i2] w17 (fun v24 w24 => ∃ x24 : Int32, v24 = some (vI x24) ∧ QR (some (vI x24)) w24) (fun E24 w24 => (E24 = "java/lang/NullPointerException" ∧ QR (some (vI (-11))) w24))) ∨ (ck w17 a20 [8] ∧ 3 ≤ (rc - 1) ∧ 950 ≤ (rs - 6) ∧ QR (some (vI (-13))) w17)))) (fun E17 w17 => (E17 = "java/lang/IndexOutOfBoundsException" ∧ QR (some (vI (-12))) w17))) ∧ (x6 = 0 → QR (some (vI (-2))) w6)) (fun E6 w6 => False)) : wp (KX0_dead) rc rs QR QX 0 [(0, vR (some h0)), (1, vI i1), (2, vI i2)] [] w := by
  refine wp_iload_n (n := 1) (i := 2) (q := 2) dX0_dead_0 rfl rfl rfl ?_
  refine wp_i2l (n := 2) dX0_dead_1 rfl ?_
  refine wp_lconst (n := 3) (v := 0) dX0_dead_2 rfl (by decide) ?_
  refine wp_ldc2 (n := 6) dX0_dead_3 rfl q764 ?_
  refine wp_call (n := 9) (K' := KX0_in) (rc' := rc) (rs' := rs) (aRun_S (K' := KX0_in) (As := [vL (Int32.toInt64 i2), vL 0, vL 2]) (rest := []) dX0_dead_6 (aCal_of kf_X0_in (Nat.le_of_ble_eq_true rfl)) rfl q228 q229 ar_X0_in rfl (Nat.le_of_ble_eq_true rfl)) rfl (Nat.le_of_eq (Nat.zero_add _)) (Nat.le_of_eq (Nat.zero_add _)) (fun v6 w6 h => ?_) (fun E6 w6 h => ?_) h
  · obtain ⟨x6, rfl, h⟩ := h
    refine wp_if_ne (n := 12) (t := 15) dX0_dead_9 rfl (by decide) (fun c9 => ?_) (fun c9 => ?_)
    · replace h := h.1 c9
      refine wp_aload_n (n := 16) (i := 0) (q := 0) dX0_dead_15 rfl rfl rfl ?_
      refine wp_iload_n (n := 17) (i := 1) (q := 1) dX0_dead_16 rfl rfl rfl ?_
      obtain ⟨b17, bb17, h⟩ := h
      obtain ⟨⟨fs17, o17⟩, h⟩ := h
      refine wp_call (n := 20) (K' := KX0_thingAt) (rc' := rc - 1) (rs' := rs - 6) (aRun_V (K' := KX0_thingAt) (As := [vI i1]) (rest := []) (b := h0) (c0 := .inr (0, fs17)) dX0_dead_17 (aCal_of kf_X0_thingAt (Nat.le_of_ble_eq_true rfl)) q451 q453 qs4 ar_X0_thingAt o17 (by decide : 0 < 9) rfl (Nat.le_of_ble_eq_true rfl)) rfl (by omega) (by omega) (fun v17 w17 h => ?_) (fun E17 w17 h => ?_) h
      · obtain ⟨x17, rfl, h⟩ := h
        rcases opt_c x17 with ea20 | ⟨a20, ea20⟩
        · replace h := h.1 ea20
          rw [ea20]
          refine wp_castN (n := 23) dX0_dead_20 rfl ?_
          refine wp_iload_n (n := 24) (i := 2) (q := 2) dX0_dead_23 rfl rfl rfl ?_
          obtain ⟨b24, bb24, h⟩ := h
          refine wp_call (n := 27) (K' := KX0_deadOf) (rc' := rc - 1 - 1) (rs' := rs - 6 - 8) (aRun_S (K' := KX0_deadOf) (As := [vR none, vI i2]) (rest := []) dX0_dead_24 (aCal_of kf_X0_deadOf (Nat.le_of_ble_eq_true rfl)) rfl q790 q791 ar_X0_deadOf rfl (Nat.le_of_ble_eq_true rfl)) rfl (by omega) (by omega) (fun v24 w24 h => ?_) (fun E24 w24 h => ?_) h
          · obtain ⟨x24, rfl, h⟩ := h
            exact wp_ireturn dX0_dead_27 rfl h
          · obtain ⟨rfl, h⟩ := h
            refine wpx_catch (nm := "java/lang/NullPointerException") [(15, 27, 28, 53)] (15, 27, 32, 169) [(15, 27, 36, 171)] rfl (fun z hz => by have hz : z ∈ ([(15, 27, 28, 53)] : List (Nat × Nat × Nat × Nat)) := hz; simp only [List.mem_cons, List.not_mem_nil, or_false] at hz; subst hz; exact Or.inr ⟨by decide, "java/lang/IndexOutOfBoundsException", q320, nc_NullPointerException_IndexOutOfBoundsException⟩) (by decide) (by decide) q411 q433 (fun q9 => ?_)
            refine wp_astore_n (n := 33) (i := 3) (ls' := [(3, vR (some q9)), (0, vR (some h0)), (1, vI i1), (2, vI i2)]) dX0_dead_32 rfl rfl (Nat.le_of_ble_eq_true rfl) rfl ?_
            refine wp_bipush (n := 35) (v := (-11)) dX0_dead_33 rfl (by decide) ?_
            exact wp_ireturn dX0_dead_35 rfl h
        · replace h := h.2 a20 ea20
          rw [ea20]
          rcases h with h | h
          · obtain ⟨k20, h⟩ := h
            refine wp_ckY (n := 23) dX0_dead_20 rfl q659 cok_Holder k20 ?_
            refine wp_iload_n (n := 24) (i := 2) (q := 2) dX0_dead_23 rfl rfl rfl ?_
            obtain ⟨b24, bb24, h⟩ := h
            refine wp_call (n := 27) (K' := KX0_deadOf) (rc' := rc - 1 - 1) (rs' := rs - 6 - 8) (aRun_S (K' := KX0_deadOf) (As := [vR (some a20), vI i2]) (rest := []) dX0_dead_24 (aCal_of kf_X0_deadOf (Nat.le_of_ble_eq_true rfl)) rfl q790 q791 ar_X0_deadOf rfl (Nat.le_of_ble_eq_true rfl)) rfl (by omega) (by omega) (fun v24 w24 h => ?_) (fun E24 w24 h => ?_) h
            · obtain ⟨x24, rfl, h⟩ := h
              exact wp_ireturn dX0_dead_27 rfl h
            · obtain ⟨rfl, h⟩ := h
              refine wpx_catch (nm := "java/lang/NullPointerException") [(15, 27, 28, 53)] (15, 27, 32, 169) [(15, 27, 36, 171)] rfl (fun z hz => by have hz : z ∈ ([(15, 27, 28, 53)] : List (Nat × Nat × Nat × Nat)) := hz; simp only [List.mem_cons, List.not_mem_nil, or_false] at hz; subst hz; exact Or.inr ⟨by decide, "java/lang/IndexOutOfBoundsException", q320, nc_NullPointerException_IndexOutOfBoundsException⟩) (by decide) (by decide) q411 q433 (fun q9 => ?_)
              refine wp_astore_n (n := 33) (i := 3) (ls' := [(3, vR (some q9)), (0, vR (some h0)), (1, vI i1), (2, vI i2)]) dX0_dead_32 rfl rfl (Nat.le_of_ble_eq_true rfl) rfl ?_
              refine wp_bipush (n := 35) (v := (-11)) dX0_dead_33 rfl (by decide) ?_
              exact wp_ireturn dX0_dead_35 rfl h
          · obtain ⟨k20, b1, b2, h⟩ := h
            refine wp_ckX (rc' := 0) (rs' := 0) dX0_dead_20 q659 cno_Holder sn_Holder k20 (by omega) (by omega) (Nat.le_of_ble_eq_true rfl) ?_
            refine wpx_catch (nm := "java/lang/ClassCastException") [(15, 27, 28, 53), (15, 27, 32, 169)] (15, 27, 36, 171) [] rfl (fun z hz => by have hz : z ∈ ([(15, 27, 28, 53), (15, 27, 32, 169)] : List (Nat × Nat × Nat × Nat)) := hz; simp only [List.mem_cons, List.not_mem_nil, or_false] at hz; rcases hz with rfl | rfl; exact Or.inr ⟨by decide, "java/lang/IndexOutOfBoundsException", q320, nc_ClassCastException_IndexOutOfBoundsException⟩; exact Or.inr ⟨by decide, "java/lang/NullPointerException", q411, nc_ClassCastException_NullPointerException⟩) (by decide) (by decide) q436 q448 (fun q9 => ?_)
            refine wp_astore_n (n := 37) (i := 3) (ls' := [(3, vR (some q9)), (0, vR (some h0)), (1, vI i1), (2, vI i2)]) dX0_dead_36 rfl rfl (Nat.le_of_ble_eq_true rfl) rfl ?_
            refine wp_bipush (n := 39) (v := (-13)) dX0_dead_37 rfl (by decide) ?_
            exact wp_ireturn dX0_dead_39 rfl h
      · obtain ⟨rfl, h⟩ := h
        refine wpx_catch (nm := "java/lang/IndexOutOfBoundsException") [] (15, 27, 28, 53) [(15, 27, 32, 169), (15, 27, 36, 171)] rfl (fun z hz => absurd hz List.not_mem_nil) (by decide) (by decide) q320 q459 (fun q9 => ?_)
        refine wp_astore_n (n := 29) (i := 3) (ls' := [(3, vR (some q9)), (0, vR (some h0)), (1, vI i1), (2, vI i2)]) dX0_dead_28 rfl rfl (Nat.le_of_ble_eq_true rfl) rfl ?_
        refine wp_bipush (n := 31) (v := (-12)) dX0_dead_29 rfl (by decide) ?_
        exact wp_ireturn dX0_dead_31 rfl h
    · replace h := h.2 c9
      refine wp_bipush (n := 14) (v := (-2)) dX0_dead_12 rfl (by decide) ?_
      exact wp_ireturn dX0_dead_14 rfl h
  · exact h.elim
set_option maxHeartbeats 1000000 in
theorem sg_X0_deadList_0 {h0 : Nat} {i1 : Int32} {i2 : Int32} {rc rs : Nat} {QR : Option aV → aW → Prop} {QX : String → aW → Prop} {w : aW} (h : isO w h0 0 ∧ ct (KX0_holderAt) 0 0 [vR (some h0), vI i1] w (fun v2 w2 => ∃ x2 : Option Nat, v2 = some (vR x2) ∧ (x2 = none → QR (some (vL (-4611686018427387904))) w2) ∧ (∀ a7 : Nat, x2 = some a7 → (0 ≤ i2 → ∃ x19 : Option Nat, gf w2 a7 [4, 5, 6, 7] 5 (vR x19) ∧ wp (KX0_deadList) rc rs QR QX 27 [(0, vR (some h0)), (1, vI i1), (2, vI i2), (3, vR (some a7)), (4, vR x19), (5, vI 0)] [] w2) ∧ (¬ 0 ≤ i2 → QR (some (vL (-4611686018427387904))) w2))) (fun E2 w2 => False)) : wp (KX0_deadList) rc rs QR QX 0 [(0, vR (some h0)), (1, vI i1), (2, vI i2)] [] w := by
  refine wp_aload_n (n := 1) (i := 0) (q := 0) dX0_deadList_0 rfl rfl rfl ?_
  refine wp_iload_n (n := 2) (i := 1) (q := 1) dX0_deadList_1 rfl rfl rfl ?_
  obtain ⟨⟨fs2, o2⟩, h⟩ := h
  refine wp_call (n := 5) (K' := KX0_holderAt) (rc' := rc) (rs' := rs) (aRun_V (K' := KX0_holderAt) (As := [vI i1]) (rest := []) (b := h0) (c0 := .inr (0, fs2)) dX0_deadList_2 (aCal_of kf_X0_holderAt (Nat.le_of_ble_eq_true rfl)) q655 q657 qs21 ar_X0_holderAt o2 (by decide : 0 < 9) rfl (Nat.le_of_ble_eq_true rfl)) rfl (Nat.le_of_eq (Nat.zero_add _)) (Nat.le_of_eq (Nat.zero_add _)) (fun v2 w2 h => ?_) (fun E2 w2 h => ?_) h
  · obtain ⟨x2, rfl, h⟩ := h
    refine wp_astore_n (n := 6) (i := 3) (ls' := [(3, vR x2), (0, vR (some h0)), (1, vI i1), (2, vI i2)]) dX0_deadList_5 rfl rfl (Nat.le_of_ble_eq_true rfl) rfl ?_
    refine wp_aload_n (n := 7) (i := 3) (q := 0) dX0_deadList_6 rfl rfl rfl ?_
    rcases opt_c x2 with ea7 | ⟨a7, ea7⟩
    · replace h := h.1 ea7
      rw [ea7]
      refine wp_ifnull (n := 10) (t := 14) dX0_deadList_7 rfl (by decide) (fun _ => ?_) (fun z zz => nomatch zz)
      refine wp_ldc2 (n := 17) dX0_deadList_14 rfl q797 ?_
      exact wp_lreturn dX0_deadList_17 rfl h
    · replace h := h.2 a7 ea7
      rw [ea7]
      refine wp_ifnull (n := 10) (t := 14) dX0_deadList_7 rfl (by decide) (fun zz => nomatch zz) (fun _ _ => ?_)
      refine wp_iload_n (n := 11) (i := 2) (q := 3) dX0_deadList_10 rfl rfl rfl ?_
      refine wp_if_ge (n := 14) (t := 18) dX0_deadList_11 rfl (by decide) (fun c11 => ?_) (fun c11 => ?_)
      · replace h := h.1 c11
        refine wp_aload_n (n := 19) (i := 3) (q := 0) dX0_deadList_18 rfl rfl rfl ?_
        obtain ⟨x19, g19, h⟩ := h
        refine wp_gf (n := 22) dX0_deadList_19 rfl fl_X0_88 g19 ?_
        refine wp_astore (n := 24) (i := 4) (ls' := [(4, vR x19), (3, vR (some a7)), (0, vR (some h0)), (1, vI i1), (2, vI i2)]) dX0_deadList_22 rfl (Nat.le_of_ble_eq_true rfl) rfl ?_
        refine wp_iconst (n := 25) (v := 0) dX0_deadList_24 rfl (by decide) ?_
        refine wp_istore (n := 27) (i := 5) (ls' := [(5, vI 0), (4, vR x19), (3, vR (some a7)), (0, vR (some h0)), (1, vI i1), (2, vI i2)]) dX0_deadList_25 rfl (Nat.le_of_ble_eq_true rfl) rfl ?_
        exact wp_sub [3, 4, 5, 2, 1, 0] rfl h
      · replace h := h.2 c11
        refine wp_ldc2 (n := 17) dX0_deadList_14 rfl q797 ?_
        exact wp_lreturn dX0_deadList_17 rfl h
  · exact h.elim
set_option maxHeartbeats 1000000 in
theorem sg_X0_deadList_27 {h0 : Nat} {i1 : Int32} {i2 : Int32} {r3 : Option Nat} {r4 : Option Nat} {i5 : Int32} {rc rs : Nat} {QR : Option aV → aW → Prop} {QX : String → aW → Prop} {w : aW} (h : (i2 ≤ i5 → (r4 = none → QR (some (vL (-4611686018427387904))) w) ∧ (∀ a53 : Nat, r4 = some a53 → ck w a53 [6, 7] ∧ ct (KX4_prevMade) 0 0 [vR (some a53)] w (fun v66 w66 => ∃ x66 : Int32, v66 = some (vI x66) ∧ ∃ x71 : Int32, gf w66 a53 [6, 7] 0 (vI x71) ∧ isO w66 h0 0 ∧ ct (KX0_deadBetween) 0 0 [vR (some h0), vR r3, vI x66, vI x71] w66 (fun v74 w74 => ∃ x74 : Int64, v74 = some (vL x74) ∧ QR (some (vL x74)) w74) (fun E74 w74 => False)) (fun E66 w66 => False))) ∧ (¬ i2 ≤ i5 → (r4 = none → QR (some (vL (-4611686018427387904))) w) ∧ (∀ a35 : Nat, r4 = some a35 → ∃ x40 : Option Nat, gf w a35 [6, 7] 5 (vR x40) ∧ wp (KX0_deadList) rc rs QR QX 27 [(0, vR (some h0)), (1, vI i1), (2, vI i2), (3, vR r3), (4, vR x40), (5, vI (i5 + 1))] [] w))) : wp (KX0_deadList) rc rs QR QX 27 [(0, vR (some h0)), (1, vI i1), (2, vI i2), (3, vR r3), (4, vR r4), (5, vI i5)] [] w := by
  refine wp_iload (n := 29) (i := 5) (q := 5) dX0_deadList_27 rfl rfl ?_
  refine wp_iload_n (n := 30) (i := 2) (q := 2) dX0_deadList_29 rfl rfl rfl ?_
  refine wp_icmp_ge (n := 33) (t := 51) dX0_deadList_30 rfl (by decide) (fun c30 => ?_) (fun c30 => ?_)
  · replace h := h.1 c30
    refine wp_aload (n := 53) (i := 4) (q := 4) dX0_deadList_51 rfl rfl ?_
    rcases opt_c r4 with ea53 | ⟨a53, ea53⟩
    · replace h := h.1 ea53
      rw [ea53]
      refine wp_ifnonnull (n := 56) (t := 62) dX0_deadList_53 rfl (by decide) (fun z zz => nomatch zz) (fun _ => ?_)
      refine wp_ldc2 (n := 59) dX0_deadList_56 rfl q797 ?_
      refine wp_goto (t := 77) dX0_deadList_59 (by decide) ?_
      exact wp_lreturn dX0_deadList_77 rfl h
    · replace h := h.2 a53 ea53
      rw [ea53]
      refine wp_ifnonnull (n := 56) (t := 62) dX0_deadList_53 rfl (by decide) (fun _ _ => ?_) (fun zz => nomatch zz)
      refine wp_aload_n (n := 63) (i := 0) (q := 0) dX0_deadList_62 rfl rfl rfl ?_
      refine wp_aload_n (n := 64) (i := 3) (q := 3) dX0_deadList_63 rfl rfl rfl ?_
      refine wp_aload (n := 66) (i := 4) (q := 4) dX0_deadList_64 rfl rfl ?_
      obtain ⟨⟨cc66, o66, kk66⟩, h⟩ := h
      have run66 : aRun (KX0_deadList) (KX4_prevMade) 66 [vR (some a53)] [vR (some a53), vR r3, vR (some h0)] [vR r3, vR (some h0)] w := by
        simp only [List.mem_cons, List.not_mem_nil, or_false] at kk66
        rcases kk66 with kk66 | kk66
        · obtain ⟨fs66, rfl⟩ := kd_o kk66 (by decide)
          exact (aRun_U (K' := KX4_prevMade) (As := []) (rest := [vR r3, vR (some h0)]) (b := a53) (x := ⟨"DeadListPool$Snapshot", "prevMade", "()I"⟩) (owner := "DeadListPool$Holder") (c0 := .inr (6, fs66)) dX0_deadList_66 (aCal_of kf_X4_prevMade (Nat.le_of_ble_eq_true rfl)) rfl q668 q669 q670 q502 (Or.inr q499) ⟨by decide, by decide⟩ ar_X4_prevMade o66 (by decide : 6 < 9) rfl (Nat.le_of_ble_eq_true rfl))
        · obtain ⟨fs66, rfl⟩ := kd_o kk66 (by decide)
          exact (aRun_U (K' := KX4_prevMade) (As := []) (rest := [vR r3, vR (some h0)]) (b := a53) (x := ⟨"DeadListPool$Snapshot", "prevMade", "()I"⟩) (owner := "DeadListPool$Holder") (c0 := .inr (7, fs66)) dX0_deadList_66 (aCal_of kf_X4_prevMade (Nat.le_of_ble_eq_true rfl)) rfl q668 q669 q671 q502 (Or.inr q499) ⟨by decide, by decide⟩ ar_X4_prevMade o66 (by decide : 7 < 9) rfl (Nat.le_of_ble_eq_true rfl))
      refine wp_call (n := 69) (K' := KX4_prevMade) (rc' := rc) (rs' := rs) run66 rfl (Nat.le_of_eq (Nat.zero_add _)) (Nat.le_of_eq (Nat.zero_add _)) (fun v66 w66 h => ?_) (fun E66 w66 h => ?_) h
      · obtain ⟨x66, rfl, h⟩ := h
        refine wp_aload (n := 71) (i := 4) (q := 4) dX0_deadList_69 rfl rfl ?_
        obtain ⟨x71, g71, h⟩ := h
        refine wp_gf (n := 74) dX0_deadList_71 rfl fl_X0_197 g71 ?_
        obtain ⟨⟨fs74, o74⟩, h⟩ := h
        refine wp_call (n := 77) (K' := KX0_deadBetween) (rc' := rc) (rs' := rs) (aRun_V (K' := KX0_deadBetween) (As := [vR r3, vI x66, vI x71]) (rest := []) (b := h0) (c0 := .inr (0, fs74)) dX0_deadList_74 (aCal_of kf_X0_deadBetween (Nat.le_of_ble_eq_true rfl)) q798 q800 qs29 ar_X0_deadBetween o74 (by decide : 0 < 9) rfl (Nat.le_of_ble_eq_true rfl)) rfl (Nat.le_of_eq (Nat.zero_add _)) (Nat.le_of_eq (Nat.zero_add _)) (fun v74 w74 h => ?_) (fun E74 w74 h => ?_) h
        · obtain ⟨x74, rfl, h⟩ := h
          exact wp_lreturn dX0_deadList_77 rfl h
        · exact h.elim
      · exact h.elim
  · replace h := h.2 c30
    refine wp_aload (n := 35) (i := 4) (q := 4) dX0_deadList_33 rfl rfl ?_
    rcases opt_c r4 with ea35 | ⟨a35, ea35⟩
    · replace h := h.1 ea35
      rw [ea35]
      refine wp_ifnull (n := 38) (t := 51) dX0_deadList_35 rfl (by decide) (fun _ => ?_) (fun z zz => nomatch zz)
      refine wp_aload (n := 53) (i := 4) (q := 4) dX0_deadList_51 rfl rfl ?_
      refine wp_ifnonnull (n := 56) (t := 62) dX0_deadList_53 rfl (by decide) (fun z zz => nomatch zz) (fun _ => ?_)
      refine wp_ldc2 (n := 59) dX0_deadList_56 rfl q797 ?_
      refine wp_goto (t := 77) dX0_deadList_59 (by decide) ?_
      exact wp_lreturn dX0_deadList_77 rfl h
    · replace h := h.2 a35 ea35
      rw [ea35]
      refine wp_ifnull (n := 38) (t := 51) dX0_deadList_35 rfl (by decide) (fun zz => nomatch zz) (fun _ _ => ?_)
      refine wp_aload (n := 40) (i := 4) (q := 4) dX0_deadList_38 rfl rfl ?_
      obtain ⟨x40, g40, h⟩ := h
      refine wp_gf (n := 43) dX0_deadList_40 rfl fl_X0_99 g40 ?_
      refine wp_astore (n := 45) (i := 4) (ls' := [(4, vR x40), (0, vR (some h0)), (1, vI i1), (2, vI i2), (3, vR r3), (5, vI i5)]) dX0_deadList_43 rfl (Nat.le_of_ble_eq_true rfl) rfl ?_
      refine wp_iinc (n := 48) (i := 5) (q := 5) (v := i5 + 1) (ls' := [(5, vI (i5 + 1)), (4, vR x40), (0, vR (some h0)), (1, vI i1), (2, vI i2), (3, vR r3)]) dX0_deadList_45 rfl rfl rfl (Nat.le_of_ble_eq_true rfl) rfl ?_
      refine wp_goto (t := 27) dX0_deadList_48 (by decide) ?_
      exact wp_sub [2, 3, 4, 5, 1, 0] rfl h
set_option maxHeartbeats 1000000 in
theorem sg_X0_holderAsked_0 {h0 : Nat} {i1 : Int32} {rc rs : Nat} {QR : Option aV → aW → Prop} {QX : String → aW → Prop} {w : aW} (h : 1 ≤ rc ∧ 6 ≤ rs ∧ isO w h0 0 ∧ ct (KX0_thingAt) 1 6 [vR (some h0), vI i1] w (fun v2 w2 => ∃ x2 : Option Nat, v2 = some (vR x2) ∧ (x2 = none → 1 ≤ (rc - 1) ∧ 8 ≤ (rs - 6) ∧ QX "java/lang/NullPointerException" w2) ∧ (∀ a5 : Nat, x2 = some a5 → ((ck w2 a5 [4, 5, 6, 7] ∧ ∃ x10 : Int32, gf w2 a5 [4, 5, 6, 7] 4 (vI x10) ∧ QR (some (vR (some a5))) w2) ∨ (ck w2 a5 [8] ∧ 3 ≤ (rc - 1) ∧ 950 ≤ (rs - 6) ∧ QX "java/lang/ClassCastException" w2)))) (fun E2 w2 => (E2 = "java/lang/IndexOutOfBoundsException" ∧ QX "java/lang/IndexOutOfBoundsException" w2))) : wp (KX0_holderAsked) rc rs QR QX 0 [(0, vR (some h0)), (1, vI i1)] [] w := by
  refine wp_aload_n (n := 1) (i := 0) (q := 0) dX0_holderAsked_0 rfl rfl rfl ?_
  refine wp_iload_n (n := 2) (i := 1) (q := 1) dX0_holderAsked_1 rfl rfl rfl ?_
  obtain ⟨b2, bb2, h⟩ := h
  obtain ⟨⟨fs2, o2⟩, h⟩ := h
  refine wp_call (n := 5) (K' := KX0_thingAt) (rc' := rc - 1) (rs' := rs - 6) (aRun_V (K' := KX0_thingAt) (As := [vI i1]) (rest := []) (b := h0) (c0 := .inr (0, fs2)) dX0_holderAsked_2 (aCal_of kf_X0_thingAt (Nat.le_of_ble_eq_true rfl)) q451 q453 qs4 ar_X0_thingAt o2 (by decide : 0 < 9) rfl (Nat.le_of_ble_eq_true rfl)) rfl (by omega) (by omega) (fun v2 w2 h => ?_) (fun E2 w2 h => ?_) h
  · obtain ⟨x2, rfl, h⟩ := h
    rcases opt_c x2 with ea5 | ⟨a5, ea5⟩
    · replace h := h.1 ea5
      rw [ea5]
      refine wp_castN (n := 8) dX0_holderAsked_5 rfl ?_
      refine wp_astore_n (n := 9) (i := 2) (ls' := [(2, vR none), (0, vR (some h0)), (1, vI i1)]) dX0_holderAsked_8 rfl rfl (Nat.le_of_ble_eq_true rfl) rfl ?_
      refine wp_aload_n (n := 10) (i := 2) (q := 0) dX0_holderAsked_9 rfl rfl rfl ?_
      obtain ⟨b1, b2, h⟩ := h
      refine wp_getfNull (rc' := 0) (rs' := 0) dX0_holderAsked_10 (fl_X0_78 4 (by decide)) (by omega) (by omega) (Nat.le_of_ble_eq_true rfl) ?_
      exact wpx_out (fun z hz => absurd hz List.not_mem_nil) h
    · replace h := h.2 a5 ea5
      rw [ea5]
      rcases h with h | h
      · obtain ⟨k5, h⟩ := h
        refine wp_ckY (n := 8) dX0_holderAsked_5 rfl q659 cok_Holder k5 ?_
        refine wp_astore_n (n := 9) (i := 2) (ls' := [(2, vR (some a5)), (0, vR (some h0)), (1, vI i1)]) dX0_holderAsked_8 rfl rfl (Nat.le_of_ble_eq_true rfl) rfl ?_
        refine wp_aload_n (n := 10) (i := 2) (q := 0) dX0_holderAsked_9 rfl rfl rfl ?_
        obtain ⟨x10, g10, h⟩ := h
        refine wp_gf (n := 13) dX0_holderAsked_10 rfl fl_X0_78 g10 ?_
        refine wp_istore_n (n := 14) (i := 3) (ls' := [(3, vI x10), (2, vR (some a5)), (0, vR (some h0)), (1, vI i1)]) dX0_holderAsked_13 rfl rfl (Nat.le_of_ble_eq_true rfl) rfl ?_
        refine wp_aload_n (n := 15) (i := 2) (q := 1) dX0_holderAsked_14 rfl rfl rfl ?_
        exact wp_areturn dX0_holderAsked_15 rfl (Or.inl ⟨_, rfl⟩) h
      · obtain ⟨k5, b1, b2, h⟩ := h
        refine wp_ckX (rc' := 0) (rs' := 0) dX0_holderAsked_5 q659 cno_Holder sn_Holder k5 (by omega) (by omega) (Nat.le_of_ble_eq_true rfl) ?_
        exact wpx_out (fun z hz => absurd hz List.not_mem_nil) h
  · obtain ⟨rfl, h⟩ := h
    exact wpx_out (fun z hz => absurd hz List.not_mem_nil) h
set_option maxHeartbeats 1000000 in
theorem sg_X0_differs_0 {h0 : Nat} {i1 : Int32} {r2 : Option Nat} {r3 : Option Nat} {rc rs : Nat} {QR : Option aV → aW → Prop} {QX : String → aW → Prop} {w : aW} (h : wp (KX0_differs) rc rs QR QX 6 [(0, vR (some h0)), (1, vI i1), (2, vR r2), (3, vR r3), (4, vI 0), (5, vI 0)] [] w) : wp (KX0_differs) rc rs QR QX 0 [(0, vR (some h0)), (1, vI i1), (2, vR r2), (3, vR r3)] [] w := by
  refine wp_iconst (n := 1) (v := 0) dX0_differs_0 rfl (by decide) ?_
  refine wp_istore (n := 3) (i := 4) (ls' := [(4, vI 0), (0, vR (some h0)), (1, vI i1), (2, vR r2), (3, vR r3)]) dX0_differs_1 rfl (Nat.le_of_ble_eq_true rfl) rfl ?_
  refine wp_iconst (n := 4) (v := 0) dX0_differs_3 rfl (by decide) ?_
  refine wp_istore (n := 6) (i := 5) (ls' := [(5, vI 0), (4, vI 0), (0, vR (some h0)), (1, vI i1), (2, vR r2), (3, vR r3)]) dX0_differs_4 rfl (Nat.le_of_ble_eq_true rfl) rfl ?_
  exact wp_sub [2, 3, 4, 5, 1, 0] rfl h
set_option maxHeartbeats 1000000 in
theorem sg_X0_differs_6 {h0 : Nat} {i1 : Int32} {r2 : Option Nat} {r3 : Option Nat} {i4 : Int32} {i5 : Int32} {rc rs : Nat} {QR : Option aV → aW → Prop} {QX : String → aW → Prop} {w : aW} (h : (12 ≤ i5 → ¬ i4 < 0 ∧ i4.toNatClampNeg ≤ 1000 ∧ 1 ≤ rc ∧ i4.toNatClampNeg ≤ rs ∧ ∀ (a48 : Nat) (w48 : aW), w a48 = none → w48 = aup w a48 (.inl (1, (i4.toNatClampNeg), .inr (.inl (fun _ => 0)))) → wp (KX0_differs) (rc - 1) (rs - i4.toNatClampNeg) QR QX 58 [(0, vR (some h0)), (1, vI i1), (2, vR r2), (3, vR r3), (4, vI i4), (5, vR (some a48)), (6, vI 0), (7, vI 0)] [] w48) ∧ (¬ 12 ≤ i5 → ∃ a16 : Nat, r2 = some a16 ∧ ∃ x16 : Nat, gf w a16 [4, 5, 6, 7] 1 (vR (some x16)) ∧ ∃ x21 : Int32, gI w x16 i5 x21 ∧ ∃ a23 : Nat, r3 = some a23 ∧ ∃ x23 : Nat, gf w a23 [4, 5, 6, 7] 1 (vR (some x23)) ∧ ∃ x28 : Int32, gI w x23 i5 x28 ∧ (¬ x21 = x28 → wp (KX0_differs) rc rs QR QX 6 [(0, vR (some h0)), (1, vI i1), (2, vR (some a16)), (3, vR (some a23)), (4, vI (i4 + 2)), (5, vI (i5 + 1))] [] w) ∧ (x21 = x28 → wp (KX0_differs) rc rs QR QX 6 [(0, vR (some h0)), (1, vI i1), (2, vR (some a16)), (3, vR (some a23)), (4, vI (i4 + 0)), (5, vI (i5 + 1))] [] w))) : wp (KX0_differs) rc rs QR QX 6 [(0, vR (some h0)), (1, vI i1), (2, vR r2), (3, vR r3), (4, vI i4), (5, vI i5)] [] w := by
  refine wp_iload (n := 8) (i := 5) (q := 5) dX0_differs_6 rfl rfl ?_
  refine wp_bipush (n := 10) (v := 12) dX0_differs_8 rfl (by decide) ?_
  refine wp_icmp_ge (n := 13) (t := 46) dX0_differs_10 rfl (by decide) (fun c10 => ?_) (fun c10 => ?_)
  · replace h := h.1 c10
    refine wp_iload (n := 48) (i := 4) (q := 4) dX0_differs_46 rfl rfl ?_
    obtain ⟨c48, h⟩ := h
    obtain ⟨b0, b1, b2, h⟩ := h
    refine wp_newl (n := 50) (N := i4.toNatClampNeg) (rc' := rc - 1) (rs' := rs - i4.toNatClampNeg) dX0_differs_48 rfl c48 rfl b0 (by omega) (by omega) q921 (fun a48 f48 => ?_)
    obtain ⟨w48, ew48⟩ : ∃ z, z = aup w a48 (.inl (1, (i4.toNatClampNeg), .inr (.inl (fun _ => 0)))) := ⟨_, rfl⟩
    rw [← ew48]
    replace h := h a48 w48 f48 ew48
    refine wp_astore (n := 52) (i := 5) (ls' := [(5, vR (some a48)), (0, vR (some h0)), (1, vI i1), (2, vR r2), (3, vR r3), (4, vI i4)]) dX0_differs_50 rfl (Nat.le_of_ble_eq_true rfl) rfl ?_
    refine wp_iconst (n := 53) (v := 0) dX0_differs_52 rfl (by decide) ?_
    refine wp_istore (n := 55) (i := 6) (ls' := [(6, vI 0), (5, vR (some a48)), (0, vR (some h0)), (1, vI i1), (2, vR r2), (3, vR r3), (4, vI i4)]) dX0_differs_53 rfl (Nat.le_of_ble_eq_true rfl) rfl ?_
    refine wp_iconst (n := 56) (v := 0) dX0_differs_55 rfl (by decide) ?_
    refine wp_istore (n := 58) (i := 7) (ls' := [(7, vI 0), (6, vI 0), (5, vR (some a48)), (0, vR (some h0)), (1, vI i1), (2, vR r2), (3, vR r3), (4, vI i4)]) dX0_differs_56 rfl (Nat.le_of_ble_eq_true rfl) rfl ?_
    exact wp_sub [3, 4, 5, 6, 7, 2, 1, 0] rfl h
  · replace h := h.2 c10
    refine wp_iload (n := 15) (i := 4) (q := 4) dX0_differs_13 rfl rfl ?_
    refine wp_aload_n (n := 16) (i := 2) (q := 2) dX0_differs_15 rfl rfl rfl ?_
    obtain ⟨a16, ea16, h⟩ := h
    rw [ea16]
    obtain ⟨x16, g16, h⟩ := h
    refine wp_gf (n := 19) dX0_differs_16 rfl fl_X0_119 g16 ?_
    refine wp_iload (n := 21) (i := 5) (q := 5) dX0_differs_19 rfl rfl ?_
    obtain ⟨x21, g21, h⟩ := h
    refine wp_gI (n := 22) dX0_differs_21 rfl g21 ?_
    refine wp_aload_n (n := 23) (i := 3) (q := 3) dX0_differs_22 rfl rfl rfl ?_
    obtain ⟨a23, ea23, h⟩ := h
    rw [ea23]
    obtain ⟨x23, g23, h⟩ := h
    refine wp_gf (n := 26) dX0_differs_23 rfl fl_X0_119 g23 ?_
    refine wp_iload (n := 28) (i := 5) (q := 5) dX0_differs_26 rfl rfl ?_
    obtain ⟨x28, g28, h⟩ := h
    refine wp_gI (n := 29) dX0_differs_28 rfl g28 ?_
    refine wp_icmp_ne (n := 32) (t := 36) dX0_differs_29 rfl (by decide) (fun c29 => ?_) (fun c29 => ?_)
    · replace h := h.1 c29
      refine wp_iconst (n := 37) (v := 2) dX0_differs_36 rfl (by decide) ?_
      refine wp_iadd (n := 38) dX0_differs_37 rfl ?_
      refine wp_istore (n := 40) (i := 4) (ls' := [(4, vI (i4 + 2)), (0, vR (some h0)), (1, vI i1), (2, vR (some a16)), (3, vR (some a23)), (5, vI i5)]) dX0_differs_38 rfl (Nat.le_of_ble_eq_true rfl) rfl ?_
      refine wp_iinc (n := 43) (i := 5) (q := 5) (v := i5 + 1) (ls' := [(5, vI (i5 + 1)), (4, vI (i4 + 2)), (0, vR (some h0)), (1, vI i1), (2, vR (some a16)), (3, vR (some a23))]) dX0_differs_40 rfl rfl rfl (Nat.le_of_ble_eq_true rfl) rfl ?_
      refine wp_goto (t := 6) dX0_differs_43 (by decide) ?_
      exact wp_sub [2, 3, 4, 5, 1, 0] rfl h
    · replace h := h.2 c29
      refine wp_iconst (n := 33) (v := 0) dX0_differs_32 rfl (by decide) ?_
      refine wp_goto (t := 37) dX0_differs_33 (by decide) ?_
      refine wp_iadd (n := 38) dX0_differs_37 rfl ?_
      refine wp_istore (n := 40) (i := 4) (ls' := [(4, vI (i4 + 0)), (0, vR (some h0)), (1, vI i1), (2, vR (some a16)), (3, vR (some a23)), (5, vI i5)]) dX0_differs_38 rfl (Nat.le_of_ble_eq_true rfl) rfl ?_
      refine wp_iinc (n := 43) (i := 5) (q := 5) (v := i5 + 1) (ls' := [(5, vI (i5 + 1)), (4, vI (i4 + 0)), (0, vR (some h0)), (1, vI i1), (2, vR (some a16)), (3, vR (some a23))]) dX0_differs_40 rfl rfl rfl (Nat.le_of_ble_eq_true rfl) rfl ?_
      refine wp_goto (t := 6) dX0_differs_43 (by decide) ?_
      exact wp_sub [2, 3, 4, 5, 1, 0] rfl h
set_option maxHeartbeats 1000000 in
theorem sg_X0_differs_58 {h0 : Nat} {i1 : Int32} {r2 : Option Nat} {r3 : Option Nat} {i4 : Int32} {r5 : Option Nat} {i6 : Int32} {i7 : Int32} {rc rs : Nat} {QR : Option aV → aW → Prop} {QX : String → aW → Prop} {w : aW} (h : (12 ≤ i7 → ∃ x138 : Nat, gf w h0 [0] 7 (vR (some x138)) ∧ ∃ x142 : Nat, gR w x138 4 i1 (some x142) ∧ pf w x142 [1] 0 (vR r5) (fun w145 => QR (some (vI i4)) w145)) ∧ (¬ 12 ≤ i7 → ∃ a66 : Nat, r2 = some a66 ∧ ∃ x66 : Nat, gf w a66 [4, 5, 6, 7] 1 (vR (some x66)) ∧ ∃ x71 : Int32, gI w x66 i7 x71 ∧ ∃ a73 : Nat, r3 = some a73 ∧ ∃ x73 : Nat, gf w a73 [4, 5, 6, 7] 1 (vR (some x73)) ∧ ∃ x78 : Int32, gI w x73 i7 x78 ∧ (¬ x71 = x78 → ∃ a92 : Nat, r5 = some a92 ∧ pL w a92 i6 (Int32.toInt64 i7) (fun w92 => ∃ x100 : Nat, gf w92 a73 [4, 5, 6, 7] 1 (vR (some x100)) ∧ ∃ x105 : Int32, gI w92 x100 i7 x105 ∧ (¬ x105 = (-1) → ∃ x115 : Nat, gf w92 h0 [0] 0 (vR (some x115)) ∧ ∃ x119 : Nat, gf w92 a73 [4, 5, 6, 7] 1 (vR (some x119)) ∧ ∃ x124 : Int32, gI w92 x119 i7 x124 ∧ ∃ x125 : Int32, gI w92 x115 x124 x125 ∧ pL w92 a92 (i6 + 1) (Int32.toInt64 x125) (fun w127 => wp (KX0_differs) rc rs QR QX 58 [(0, vR (some h0)), (1, vI i1), (2, vR (some a66)), (3, vR (some a73)), (4, vI i4), (5, vR (some a92)), (6, vI (i6 + 2)), (7, vI (i7 + 1))] [] w127)) ∧ (x105 = (-1) → pL w92 a92 (i6 + 1) 0 (fun w127 => wp (KX0_differs) rc rs QR QX 58 [(0, vR (some h0)), (1, vI i1), (2, vR (some a66)), (3, vR (some a73)), (4, vI i4), (5, vR (some a92)), (6, vI (i6 + 2)), (7, vI (i7 + 1))] [] w127)))) ∧ (x71 = x78 → wp (KX0_differs) rc rs QR QX 58 [(0, vR (some h0)), (1, vI i1), (2, vR (some a66)), (3, vR (some a73)), (4, vI i4), (5, vR r5), (6, vI i6), (7, vI (i7 + 1))] [] w))) : wp (KX0_differs) rc rs QR QX 58 [(0, vR (some h0)), (1, vI i1), (2, vR r2), (3, vR r3), (4, vI i4), (5, vR r5), (6, vI i6), (7, vI i7)] [] w := by
  refine wp_iload (n := 60) (i := 7) (q := 7) dX0_differs_58 rfl rfl ?_
  refine wp_bipush (n := 62) (v := 12) dX0_differs_60 rfl (by decide) ?_
  refine wp_icmp_ge (n := 65) (t := 137) dX0_differs_62 rfl (by decide) (fun c62 => ?_) (fun c62 => ?_)
  · replace h := h.1 c62
    refine wp_aload_n (n := 138) (i := 0) (q := 0) dX0_differs_137 rfl rfl rfl ?_
    obtain ⟨x138, g138, h⟩ := h
    refine wp_gf (n := 141) dX0_differs_138 rfl fl_X0_36 g138 ?_
    refine wp_iload_n (n := 142) (i := 1) (q := 1) dX0_differs_141 rfl rfl rfl ?_
    obtain ⟨x142, g142, h⟩ := h
    refine wp_gR (n := 143) dX0_differs_142 rfl (by decide) g142 ?_
    refine wp_aload (n := 145) (i := 5) (q := 5) dX0_differs_143 rfl rfl ?_
    refine wp_pfn (n := 148) dX0_differs_145 rfl pt_X0_376 (nar_o _ _) (fit_o _ _) (pf_mono h (fun w145 h => ?_))
    refine wp_iload (n := 150) (i := 4) (q := 4) dX0_differs_148 rfl rfl ?_
    exact wp_ireturn dX0_differs_150 rfl h
  · replace h := h.2 c62
    refine wp_aload_n (n := 66) (i := 2) (q := 2) dX0_differs_65 rfl rfl rfl ?_
    obtain ⟨a66, ea66, h⟩ := h
    rw [ea66]
    obtain ⟨x66, g66, h⟩ := h
    refine wp_gf (n := 69) dX0_differs_66 rfl fl_X0_119 g66 ?_
    refine wp_iload (n := 71) (i := 7) (q := 7) dX0_differs_69 rfl rfl ?_
    obtain ⟨x71, g71, h⟩ := h
    refine wp_gI (n := 72) dX0_differs_71 rfl g71 ?_
    refine wp_aload_n (n := 73) (i := 3) (q := 3) dX0_differs_72 rfl rfl rfl ?_
    obtain ⟨a73, ea73, h⟩ := h
    rw [ea73]
    obtain ⟨x73, g73, h⟩ := h
    refine wp_gf (n := 76) dX0_differs_73 rfl fl_X0_119 g73 ?_
    refine wp_iload (n := 78) (i := 7) (q := 7) dX0_differs_76 rfl rfl ?_
    obtain ⟨x78, g78, h⟩ := h
    refine wp_gI (n := 79) dX0_differs_78 rfl g78 ?_
    refine wp_icmp_ne (n := 82) (t := 85) dX0_differs_79 rfl (by decide) (fun c79 => ?_) (fun c79 => ?_)
    · replace h := h.1 c79
      refine wp_aload (n := 87) (i := 5) (q := 5) dX0_differs_85 rfl rfl ?_
      refine wp_iload (n := 89) (i := 6) (q := 6) dX0_differs_87 rfl rfl ?_
      refine wp_iload (n := 91) (i := 7) (q := 7) dX0_differs_89 rfl rfl ?_
      refine wp_i2l (n := 92) dX0_differs_91 rfl ?_
      obtain ⟨a92, ea92, h⟩ := h
      rw [ea92]
      refine wp_pL (n := 93) dX0_differs_92 rfl (pL_mono h (fun w92 h => ?_))
      refine wp_aload (n := 95) (i := 5) (q := 5) dX0_differs_93 rfl rfl ?_
      refine wp_iload (n := 97) (i := 6) (q := 6) dX0_differs_95 rfl rfl ?_
      refine wp_iconst (n := 98) (v := 1) dX0_differs_97 rfl (by decide) ?_
      refine wp_iadd (n := 99) dX0_differs_98 rfl ?_
      refine wp_aload_n (n := 100) (i := 3) (q := 3) dX0_differs_99 rfl rfl rfl ?_
      obtain ⟨x100, g100, h⟩ := h
      refine wp_gf (n := 103) dX0_differs_100 rfl fl_X0_119 g100 ?_
      refine wp_iload (n := 105) (i := 7) (q := 7) dX0_differs_103 rfl rfl ?_
      obtain ⟨x105, g105, h⟩ := h
      refine wp_gI (n := 106) dX0_differs_105 rfl g105 ?_
      refine wp_iconst (n := 107) (v := (-1)) dX0_differs_106 rfl (by decide) ?_
      refine wp_icmp_ne (n := 110) (t := 114) dX0_differs_107 rfl (by decide) (fun c107 => ?_) (fun c107 => ?_)
      · replace h := h.1 c107
        refine wp_aload_n (n := 115) (i := 0) (q := 0) dX0_differs_114 rfl rfl rfl ?_
        obtain ⟨x115, g115, h⟩ := h
        refine wp_gf (n := 118) dX0_differs_115 rfl fl_X0_9 g115 ?_
        refine wp_aload_n (n := 119) (i := 3) (q := 3) dX0_differs_118 rfl rfl rfl ?_
        obtain ⟨x119, g119, h⟩ := h
        refine wp_gf (n := 122) dX0_differs_119 rfl fl_X0_119 g119 ?_
        refine wp_iload (n := 124) (i := 7) (q := 7) dX0_differs_122 rfl rfl ?_
        obtain ⟨x124, g124, h⟩ := h
        refine wp_gI (n := 125) dX0_differs_124 rfl g124 ?_
        obtain ⟨x125, g125, h⟩ := h
        refine wp_gI (n := 126) dX0_differs_125 rfl g125 ?_
        refine wp_i2l (n := 127) dX0_differs_126 rfl ?_
        refine wp_pL (n := 128) dX0_differs_127 rfl (pL_mono h (fun w127 h => ?_))
        refine wp_iinc (n := 131) (i := 6) (q := 6) (v := i6 + 2) (ls' := [(6, vI (i6 + 2)), (0, vR (some h0)), (1, vI i1), (2, vR (some a66)), (3, vR (some a73)), (4, vI i4), (5, vR (some a92)), (7, vI i7)]) dX0_differs_128 rfl rfl rfl (Nat.le_of_ble_eq_true rfl) rfl ?_
        refine wp_iinc (n := 134) (i := 7) (q := 7) (v := i7 + 1) (ls' := [(7, vI (i7 + 1)), (6, vI (i6 + 2)), (0, vR (some h0)), (1, vI i1), (2, vR (some a66)), (3, vR (some a73)), (4, vI i4), (5, vR (some a92))]) dX0_differs_131 rfl rfl rfl (Nat.le_of_ble_eq_true rfl) rfl ?_
        refine wp_goto (t := 58) dX0_differs_134 (by decide) ?_
        exact wp_sub [2, 3, 4, 5, 6, 7, 1, 0] rfl h
      · replace h := h.2 c107
        refine wp_lconst (n := 111) (v := 0) dX0_differs_110 rfl (by decide) ?_
        refine wp_goto (t := 127) dX0_differs_111 (by decide) ?_
        refine wp_pL (n := 128) dX0_differs_127 rfl (pL_mono h (fun w127 h => ?_))
        refine wp_iinc (n := 131) (i := 6) (q := 6) (v := i6 + 2) (ls' := [(6, vI (i6 + 2)), (0, vR (some h0)), (1, vI i1), (2, vR (some a66)), (3, vR (some a73)), (4, vI i4), (5, vR (some a92)), (7, vI i7)]) dX0_differs_128 rfl rfl rfl (Nat.le_of_ble_eq_true rfl) rfl ?_
        refine wp_iinc (n := 134) (i := 7) (q := 7) (v := i7 + 1) (ls' := [(7, vI (i7 + 1)), (6, vI (i6 + 2)), (0, vR (some h0)), (1, vI i1), (2, vR (some a66)), (3, vR (some a73)), (4, vI i4), (5, vR (some a92))]) dX0_differs_131 rfl rfl rfl (Nat.le_of_ble_eq_true rfl) rfl ?_
        refine wp_goto (t := 58) dX0_differs_134 (by decide) ?_
        exact wp_sub [2, 3, 4, 5, 6, 7, 1, 0] rfl h
    · replace h := h.2 c79
      refine wp_goto (t := 131) dX0_differs_82 (by decide) ?_
      refine wp_iinc (n := 134) (i := 7) (q := 7) (v := i7 + 1) (ls' := [(7, vI (i7 + 1)), (0, vR (some h0)), (1, vI i1), (2, vR (some a66)), (3, vR (some a73)), (4, vI i4), (5, vR r5), (6, vI i6)]) dX0_differs_131 rfl rfl rfl (Nat.le_of_ble_eq_true rfl) rfl ?_
      refine wp_goto (t := 58) dX0_differs_134 (by decide) ?_
      exact wp_sub [1, 2, 3, 4, 5, 6, 7, 0] rfl h
set_option maxHeartbeats 1000000 in
theorem sg_X0_differ_0 {h0 : Nat} {i1 : Int32} {i2 : Int32} {i3 : Int32} {rc rs : Nat} {QR : Option aV → aW → Prop} {QX : String → aW → Prop} {w : aW} (h : ct (KX0_isSheet) 0 0 [vI i1] w (fun v1 w1 => ∃ x1 : Int32, v1 = some (vI x1) ∧ (¬ x1 = 0 → 4 ≤ rc ∧ 956 ≤ rs ∧ isO w1 h0 0 ∧ ct (KX0_holderAsked) 4 956 [vR (some h0), vI i2] w1 (fun v12 w12 => ∃ x12 : Option Nat, v12 = some (vR x12) ∧ 4 ≤ (rc - 4) ∧ 956 ≤ (rs - 956) ∧ isO w12 h0 0 ∧ ct (KX0_holderAsked) 4 956 [vR (some h0), vI i3] w12 (fun v23 w23 => ∃ x23 : Option Nat, v23 = some (vR x23) ∧ 1 ≤ (rc - 4 - 4) ∧ 24 ≤ (rs - 956 - 956) ∧ isO w23 h0 0 ∧ ct (KX0_differs) 1 24 [vR (some h0), vI i1, vR x12, vR x23] w23 (fun v26 w26 => ∃ x26 : Int32, v26 = some (vI x26) ∧ QR (some (vI x26)) w26) (fun E26 w26 => False)) (fun E23 w23 => (E23 = "java/lang/IndexOutOfBoundsException" ∧ QR (some (vI (-12))) w23) ∨ (E23 = "java/lang/NullPointerException" ∧ QR (some (vI (-11))) w23) ∨ (E23 = "java/lang/ClassCastException" ∧ QR (some (vI (-13))) w23))) (fun E12 w12 => (E12 = "java/lang/IndexOutOfBoundsException" ∧ QR (some (vI (-12))) w12) ∨ (E12 = "java/lang/NullPointerException" ∧ QR (some (vI (-11))) w12) ∨ (E12 = "java/lang/ClassCastException" ∧ QR (some (vI (-13))) w12))) ∧ (x1 = 0 → QR (some (vI (-2))) w1)) (fun E1 w1 => False)) : wp (KX0_differ) rc rs QR QX 0 [(0, vR (some h0)), (1, vI i1), (2, vI i2), (3, vI i3)] [] w := by
  refine wp_iload_n (n := 1) (i := 1) (q := 1) dX0_differ_0 rfl rfl rfl ?_
  refine wp_call (n := 4) (K' := KX0_isSheet) (rc' := rc) (rs' := rs) (aRun_S (K' := KX0_isSheet) (As := [vI i1]) (rest := []) dX0_differ_1 (aCal_of kf_X0_isSheet (Nat.le_of_ble_eq_true rfl)) rfl q914 q915 ar_X0_isSheet rfl (Nat.le_of_ble_eq_true rfl)) rfl (Nat.le_of_eq (Nat.zero_add _)) (Nat.le_of_eq (Nat.zero_add _)) (fun v1 w1 h => ?_) (fun E1 w1 h => ?_) h
  · obtain ⟨x1, rfl, h⟩ := h
    refine wp_if_ne (n := 7) (t := 10) dX0_differ_4 rfl (by decide) (fun c4 => ?_) (fun c4 => ?_)
    · replace h := h.1 c4
      refine wp_aload_n (n := 11) (i := 0) (q := 0) dX0_differ_10 rfl rfl rfl ?_
      refine wp_iload_n (n := 12) (i := 2) (q := 2) dX0_differ_11 rfl rfl rfl ?_
      obtain ⟨b12, bb12, h⟩ := h
      obtain ⟨⟨fs12, o12⟩, h⟩ := h
      refine wp_call (n := 15) (K' := KX0_holderAsked) (rc' := rc - 4) (rs' := rs - 956) (aRun_V (K' := KX0_holderAsked) (As := [vI i2]) (rest := []) (b := h0) (c0 := .inr (0, fs12)) dX0_differ_12 (aCal_of kf_X0_holderAsked (Nat.le_of_ble_eq_true rfl)) q945 q947 qs41 ar_X0_holderAsked o12 (by decide : 0 < 9) rfl (Nat.le_of_ble_eq_true rfl)) rfl (by omega) (by omega) (fun v12 w12 h => ?_) (fun E12 w12 h => ?_) h
      · obtain ⟨x12, rfl, h⟩ := h
        refine wp_astore (n := 17) (i := 4) (ls' := [(4, vR x12), (0, vR (some h0)), (1, vI i1), (2, vI i2), (3, vI i3)]) dX0_differ_15 rfl (Nat.le_of_ble_eq_true rfl) rfl ?_
        refine wp_aload_n (n := 18) (i := 0) (q := 1) dX0_differ_17 rfl rfl rfl ?_
        refine wp_iload_n (n := 19) (i := 1) (q := 2) dX0_differ_18 rfl rfl rfl ?_
        refine wp_aload (n := 21) (i := 4) (q := 0) dX0_differ_19 rfl rfl ?_
        refine wp_aload_n (n := 22) (i := 0) (q := 1) dX0_differ_21 rfl rfl rfl ?_
        refine wp_iload_n (n := 23) (i := 3) (q := 4) dX0_differ_22 rfl rfl rfl ?_
        obtain ⟨b23, bb23, h⟩ := h
        obtain ⟨⟨fs23, o23⟩, h⟩ := h
        refine wp_call (n := 26) (K' := KX0_holderAsked) (rc' := rc - 4 - 4) (rs' := rs - 956 - 956) (aRun_V (K' := KX0_holderAsked) (As := [vI i3]) (rest := [vR x12, vI i1, vR (some h0)]) (b := h0) (c0 := .inr (0, fs23)) dX0_differ_23 (aCal_of kf_X0_holderAsked (Nat.le_of_ble_eq_true rfl)) q945 q947 qs41 ar_X0_holderAsked o23 (by decide : 0 < 9) rfl (Nat.le_of_ble_eq_true rfl)) rfl (by omega) (by omega) (fun v23 w23 h => ?_) (fun E23 w23 h => ?_) h
        · obtain ⟨x23, rfl, h⟩ := h
          obtain ⟨b26, bb26, h⟩ := h
          obtain ⟨⟨fs26, o26⟩, h⟩ := h
          refine wp_call (n := 29) (K' := KX0_differs) (rc' := rc - 4 - 4 - 1) (rs' := rs - 956 - 956 - 24) (aRun_V (K' := KX0_differs) (As := [vI i1, vR x12, vR x23]) (rest := []) (b := h0) (c0 := .inr (0, fs26)) dX0_differ_26 (aCal_of kf_X0_differs (Nat.le_of_ble_eq_true rfl)) q949 q951 qs42 ar_X0_differs o26 (by decide : 0 < 9) rfl (Nat.le_of_ble_eq_true rfl)) rfl (by omega) (by omega) (fun v26 w26 h => ?_) (fun E26 w26 h => ?_) h
          · obtain ⟨x26, rfl, h⟩ := h
            exact wp_ireturn dX0_differ_29 rfl h
          · exact h.elim
        · rcases h with h | h | h
          · obtain ⟨rfl, h⟩ := h
            refine wpx_catch (nm := "java/lang/IndexOutOfBoundsException") [] (10, 29, 30, 53) [(10, 29, 35, 169), (10, 29, 40, 171)] rfl (fun z hz => absurd hz List.not_mem_nil) (by decide) (by decide) q320 q459 (fun q9 => ?_)
            refine wp_astore (n := 32) (i := 4) (ls' := [(4, vR (some q9)), (0, vR (some h0)), (1, vI i1), (2, vI i2), (3, vI i3)]) dX0_differ_30 rfl (Nat.le_of_ble_eq_true rfl) rfl ?_
            refine wp_bipush (n := 34) (v := (-12)) dX0_differ_32 rfl (by decide) ?_
            exact wp_ireturn dX0_differ_34 rfl h
          · obtain ⟨rfl, h⟩ := h
            refine wpx_catch (nm := "java/lang/NullPointerException") [(10, 29, 30, 53)] (10, 29, 35, 169) [(10, 29, 40, 171)] rfl (fun z hz => by have hz : z ∈ ([(10, 29, 30, 53)] : List (Nat × Nat × Nat × Nat)) := hz; simp only [List.mem_cons, List.not_mem_nil, or_false] at hz; subst hz; exact Or.inr ⟨by decide, "java/lang/IndexOutOfBoundsException", q320, nc_NullPointerException_IndexOutOfBoundsException⟩) (by decide) (by decide) q411 q433 (fun q9 => ?_)
            refine wp_astore (n := 37) (i := 4) (ls' := [(4, vR (some q9)), (0, vR (some h0)), (1, vI i1), (2, vI i2), (3, vI i3)]) dX0_differ_35 rfl (Nat.le_of_ble_eq_true rfl) rfl ?_
            refine wp_bipush (n := 39) (v := (-11)) dX0_differ_37 rfl (by decide) ?_
            exact wp_ireturn dX0_differ_39 rfl h
          · obtain ⟨rfl, h⟩ := h
            refine wpx_catch (nm := "java/lang/ClassCastException") [(10, 29, 30, 53), (10, 29, 35, 169)] (10, 29, 40, 171) [] rfl (fun z hz => by have hz : z ∈ ([(10, 29, 30, 53), (10, 29, 35, 169)] : List (Nat × Nat × Nat × Nat)) := hz; simp only [List.mem_cons, List.not_mem_nil, or_false] at hz; rcases hz with rfl | rfl; exact Or.inr ⟨by decide, "java/lang/IndexOutOfBoundsException", q320, nc_ClassCastException_IndexOutOfBoundsException⟩; exact Or.inr ⟨by decide, "java/lang/NullPointerException", q411, nc_ClassCastException_NullPointerException⟩) (by decide) (by decide) q436 q448 (fun q9 => ?_)
            refine wp_astore (n := 42) (i := 4) (ls' := [(4, vR (some q9)), (0, vR (some h0)), (1, vI i1), (2, vI i2), (3, vI i3)]) dX0_differ_40 rfl (Nat.le_of_ble_eq_true rfl) rfl ?_
            refine wp_bipush (n := 44) (v := (-13)) dX0_differ_42 rfl (by decide) ?_
            exact wp_ireturn dX0_differ_44 rfl h
      · rcases h with h | h | h
        · obtain ⟨rfl, h⟩ := h
          refine wpx_catch (nm := "java/lang/IndexOutOfBoundsException") [] (10, 29, 30, 53) [(10, 29, 35, 169), (10, 29, 40, 171)] rfl (fun z hz => absurd hz List.not_mem_nil) (by decide) (by decide) q320 q459 (fun q9 => ?_)
          refine wp_astore (n := 32) (i := 4) (ls' := [(4, vR (some q9)), (0, vR (some h0)), (1, vI i1), (2, vI i2), (3, vI i3)]) dX0_differ_30 rfl (Nat.le_of_ble_eq_true rfl) rfl ?_
          refine wp_bipush (n := 34) (v := (-12)) dX0_differ_32 rfl (by decide) ?_
          exact wp_ireturn dX0_differ_34 rfl h
        · obtain ⟨rfl, h⟩ := h
          refine wpx_catch (nm := "java/lang/NullPointerException") [(10, 29, 30, 53)] (10, 29, 35, 169) [(10, 29, 40, 171)] rfl (fun z hz => by have hz : z ∈ ([(10, 29, 30, 53)] : List (Nat × Nat × Nat × Nat)) := hz; simp only [List.mem_cons, List.not_mem_nil, or_false] at hz; subst hz; exact Or.inr ⟨by decide, "java/lang/IndexOutOfBoundsException", q320, nc_NullPointerException_IndexOutOfBoundsException⟩) (by decide) (by decide) q411 q433 (fun q9 => ?_)
          refine wp_astore (n := 37) (i := 4) (ls' := [(4, vR (some q9)), (0, vR (some h0)), (1, vI i1), (2, vI i2), (3, vI i3)]) dX0_differ_35 rfl (Nat.le_of_ble_eq_true rfl) rfl ?_
          refine wp_bipush (n := 39) (v := (-11)) dX0_differ_37 rfl (by decide) ?_
          exact wp_ireturn dX0_differ_39 rfl h
        · obtain ⟨rfl, h⟩ := h
          refine wpx_catch (nm := "java/lang/ClassCastException") [(10, 29, 30, 53), (10, 29, 35, 169)] (10, 29, 40, 171) [] rfl (fun z hz => by have hz : z ∈ ([(10, 29, 30, 53), (10, 29, 35, 169)] : List (Nat × Nat × Nat × Nat)) := hz; simp only [List.mem_cons, List.not_mem_nil, or_false] at hz; rcases hz with rfl | rfl; exact Or.inr ⟨by decide, "java/lang/IndexOutOfBoundsException", q320, nc_ClassCastException_IndexOutOfBoundsException⟩; exact Or.inr ⟨by decide, "java/lang/NullPointerException", q411, nc_ClassCastException_NullPointerException⟩) (by decide) (by decide) q436 q448 (fun q9 => ?_)
          refine wp_astore (n := 42) (i := 4) (ls' := [(4, vR (some q9)), (0, vR (some h0)), (1, vI i1), (2, vI i2), (3, vI i3)]) dX0_differ_40 rfl (Nat.le_of_ble_eq_true rfl) rfl ?_
          refine wp_bipush (n := 44) (v := (-13)) dX0_differ_42 rfl (by decide) ?_
          exact wp_ireturn dX0_differ_44 rfl h
    · replace h := h.2 c4
      refine wp_bipush (n := 9) (v := (-2)) dX0_differ_7 rfl (by decide) ?_
      exact wp_ireturn dX0_differ_9 rfl h
  · exact h.elim
set_option maxHeartbeats 1000000 in
theorem sg_X0_keepsOne_0 {r0 : Option Nat} {r1 : Option Nat} {i2 : Int32} {rc rs : Nat} {QR : Option aV → aW → Prop} {QX : String → aW → Prop} {w : aW} (h : wp (KX0_keepsOne) rc rs QR QX 2 [(0, vR r0), (1, vR r1), (2, vI i2), (3, vI 0)] [] w) : wp (KX0_keepsOne) rc rs QR QX 0 [(0, vR r0), (1, vR r1), (2, vI i2)] [] w := by
  refine wp_iconst (n := 1) (v := 0) dX0_keepsOne_0 rfl (by decide) ?_
  refine wp_istore_n (n := 2) (i := 3) (ls' := [(3, vI 0), (0, vR r0), (1, vR r1), (2, vI i2)]) dX0_keepsOne_1 rfl rfl (Nat.le_of_ble_eq_true rfl) rfl ?_
  exact wp_sub [1, 2, 3, 0] rfl h
set_option maxHeartbeats 1000000 in
theorem sg_X0_keepsOne_2 {r0 : Option Nat} {r1 : Option Nat} {i2 : Int32} {i3 : Int32} {rc rs : Nat} {QR : Option aV → aW → Prop} {QX : String → aW → Prop} {w : aW} (h : (12 ≤ i3 → ∃ a43 : Nat, r0 = some a43 ∧ ∃ x43 : Nat, gf w a43 [2] 3 (vR (some x43)) ∧ ∃ a48 : Nat, r1 = some a48 ∧ ∃ x48 : Int32, gf w a48 [4, 5, 6, 7] 3 (vI x48) ∧ pI w x43 i2 x48 (fun w51 => ∃ x53 : Nat, gf w51 a43 [2] 4 (vR (some x53)) ∧ ∃ x58 : Option Nat, gf w51 a48 [4, 5, 6, 7] 5 (vR x58) ∧ (x58 = none ∨ ∃ v, x58 = some v ∧ ck w51 v [6, 7]) ∧ pR w51 x53 3 i2 x58 (fun w61 => ∃ x63 : Nat, gf w61 a43 [2] 5 (vR (some x63)) ∧ ((ck w61 a48 [6, 7] ∧ ck w61 a48 [6, 7] ∧ ∃ x78 : Nat, gf w61 a48 [6, 7] 6 (vR (some x78)) ∧ ck w61 x78 [4, 5] ∧ pR w61 x63 5 i2 (some x78) (fun w85 => ∃ x87 : Nat, gf w85 a43 [2] 6 (vR (some x87)) ∧ ((ck w85 a48 [4, 5, 6] ∧ ct (KX4_tags) 0 0 [vR (some a48)] w85 (fun v92 w92 => ∃ x92 : Int32, v92 = some (vI x92) ∧ pI w92 x87 i2 x92 (fun w95 => QR none w95)) (fun E92 w92 => False)) ∨ (isO w85 a48 7 ∧ ct (KX8_tags) 0 0 [vR (some a48)] w85 (fun v92 w92 => ∃ x92 : Int32, v92 = some (vI x92) ∧ pI w92 x87 i2 x92 (fun w95 => QR none w95)) (fun E92 w92 => False))))) ∨ (ck w61 a48 [4, 5, 8] ∧ pR w61 x63 5 i2 none (fun w85 => ∃ x87 : Nat, gf w85 a43 [2] 6 (vR (some x87)) ∧ ((ck w85 a48 [4, 5, 6] ∧ ct (KX4_tags) 0 0 [vR (some a48)] w85 (fun v92 w92 => ∃ x92 : Int32, v92 = some (vI x92) ∧ pI w92 x87 i2 x92 (fun w95 => QR none w95)) (fun E92 w92 => False)) ∨ (isO w85 a48 7 ∧ ct (KX8_tags) 0 0 [vR (some a48)] w85 (fun v92 w92 => ∃ x92 : Int32, v92 = some (vI x92) ∧ pI w92 x87 i2 x92 (fun w95 => QR none w95)) (fun E92 w92 => False))))))))) ∧ (¬ 12 ≤ i3 → ∃ a9 : Nat, r0 = some a9 ∧ ∃ x9 : Nat, gf w a9 [2] 1 (vR (some x9)) ∧ ∃ x13 : Nat, gR w x9 6 i2 (some x13) ∧ ∃ a16 : Nat, r1 = some a16 ∧ ∃ x16 : Nat, gf w a16 [4, 5, 6, 7] 1 (vR (some x16)) ∧ ∃ x20 : Int32, gI w x16 i3 x20 ∧ pI w x13 i3 x20 (fun w21 => ∃ x23 : Nat, gf w21 a9 [2] 2 (vR (some x23)) ∧ ∃ x27 : Nat, gR w21 x23 6 i2 (some x27) ∧ ∃ x30 : Nat, gf w21 a16 [4, 5, 6, 7] 2 (vR (some x30)) ∧ ∃ x34 : Int32, gI w21 x30 i3 x34 ∧ pI w21 x27 i3 x34 (fun w35 => wp (KX0_keepsOne) rc rs QR QX 2 [(0, vR (some a9)), (1, vR (some a16)), (2, vI i2), (3, vI (i3 + 1))] [] w35)))) : wp (KX0_keepsOne) rc rs QR QX 2 [(0, vR r0), (1, vR r1), (2, vI i2), (3, vI i3)] [] w := by
  refine wp_iload_n (n := 3) (i := 3) (q := 3) dX0_keepsOne_2 rfl rfl rfl ?_
  refine wp_bipush (n := 5) (v := 12) dX0_keepsOne_3 rfl (by decide) ?_
  refine wp_icmp_ge (n := 8) (t := 42) dX0_keepsOne_5 rfl (by decide) (fun c5 => ?_) (fun c5 => ?_)
  · replace h := h.1 c5
    refine wp_aload_n (n := 43) (i := 0) (q := 0) dX0_keepsOne_42 rfl rfl rfl ?_
    obtain ⟨a43, ea43, h⟩ := h
    rw [ea43]
    obtain ⟨x43, g43, h⟩ := h
    refine wp_gfn (n := 46) dX0_keepsOne_43 rfl fl_X0_468 g43 ?_
    refine wp_iload_n (n := 47) (i := 2) (q := 2) dX0_keepsOne_46 rfl rfl rfl ?_
    refine wp_aload_n (n := 48) (i := 1) (q := 1) dX0_keepsOne_47 rfl rfl rfl ?_
    obtain ⟨a48, ea48, h⟩ := h
    rw [ea48]
    obtain ⟨x48, g48, h⟩ := h
    refine wp_gf (n := 51) dX0_keepsOne_48 rfl fl_X0_122 g48 ?_
    refine wp_pI (n := 52) dX0_keepsOne_51 rfl (pI_mono h (fun w51 h => ?_))
    refine wp_aload_n (n := 53) (i := 0) (q := 0) dX0_keepsOne_52 rfl rfl rfl ?_
    obtain ⟨x53, g53, h⟩ := h
    refine wp_gfn (n := 56) dX0_keepsOne_53 rfl fl_X0_470 g53 ?_
    refine wp_iload_n (n := 57) (i := 2) (q := 2) dX0_keepsOne_56 rfl rfl rfl ?_
    refine wp_aload_n (n := 58) (i := 1) (q := 1) dX0_keepsOne_57 rfl rfl rfl ?_
    obtain ⟨x58, g58, h⟩ := h
    refine wp_gf (n := 61) dX0_keepsOne_58 rfl fl_X0_88 g58 ?_
    obtain ⟨k61, h⟩ := h
    refine wp_pR (n := 62) dX0_keepsOne_61 rfl (by decide) rfl cok_Snapshot k61 (pR_mono h (fun w61 h => ?_))
    refine wp_aload_n (n := 63) (i := 0) (q := 0) dX0_keepsOne_62 rfl rfl rfl ?_
    obtain ⟨x63, g63, h⟩ := h
    refine wp_gfn (n := 66) dX0_keepsOne_63 rfl fl_X0_473 g63 ?_
    refine wp_iload_n (n := 67) (i := 2) (q := 2) dX0_keepsOne_66 rfl rfl rfl ?_
    refine wp_aload_n (n := 68) (i := 1) (q := 1) dX0_keepsOne_67 rfl rfl rfl ?_
    rcases h with h | h
    · obtain ⟨k68, h⟩ := h
      refine wp_ciY (n := 71) dX0_keepsOne_68 rfl q119 cok_Snapshot k68 ?_
      refine wp_if_eq (n := 74) (t := 84) dX0_keepsOne_71 rfl (by decide) (fun z => absurd z (by decide)) (fun _ => ?_)
      refine wp_aload_n (n := 75) (i := 1) (q := 1) dX0_keepsOne_74 rfl rfl rfl ?_
      obtain ⟨k75, h⟩ := h
      refine wp_ckY (n := 78) dX0_keepsOne_75 rfl q119 cok_Snapshot k75 ?_
      obtain ⟨x78, g78, h⟩ := h
      refine wp_gf (n := 81) dX0_keepsOne_78 rfl fl_X0_95 g78 ?_
      refine wp_goto (t := 85) dX0_keepsOne_81 (by decide) ?_
      obtain ⟨k85, h⟩ := h
      refine wp_pR (n := 86) dX0_keepsOne_85 rfl (by decide) rfl cok_Folder (Or.inr ⟨_, rfl, k85⟩) (pR_mono h (fun w85 h => ?_))
      refine wp_aload_n (n := 87) (i := 0) (q := 0) dX0_keepsOne_86 rfl rfl rfl ?_
      obtain ⟨x87, g87, h⟩ := h
      refine wp_gfn (n := 90) dX0_keepsOne_87 rfl fl_X0_477 g87 ?_
      refine wp_iload_n (n := 91) (i := 2) (q := 2) dX0_keepsOne_90 rfl rfl rfl ?_
      refine wp_aload_n (n := 92) (i := 1) (q := 1) dX0_keepsOne_91 rfl rfl rfl ?_
      rcases h with h | h
      · obtain ⟨⟨cc92, o92, kk92⟩, h⟩ := h
        have run92 : aRun (KX0_keepsOne) (KX4_tags) 92 [vR (some a48)] [vR (some a48), vI i2, vR (some x87)] [vI i2, vR (some x87)] w85 := by
          simp only [List.mem_cons, List.not_mem_nil, or_false] at kk92
          rcases kk92 with kk92 | kk92 | kk92
          · obtain ⟨fs92, rfl⟩ := kd_o kk92 (by decide)
            exact (aRun_U (K' := KX4_tags) (As := []) (rest := [vI i2, vR (some x87)]) (b := a48) (x := ⟨"DeadListPool$Holder", "tags", "()I"⟩) (owner := "DeadListPool$Holder") (c0 := .inr (4, fs92)) dX0_keepsOne_92 (aCal_of kf_X4_tags (Nat.le_of_ble_eq_true rfl)) rfl q745 q1383 q1385 q649 (Or.inr q646) ⟨by decide, by decide⟩ ar_X4_tags o92 (by decide : 4 < 9) rfl (Nat.le_of_ble_eq_true rfl))
          · obtain ⟨fs92, rfl⟩ := kd_o kk92 (by decide)
            exact (aRun_U (K' := KX4_tags) (As := []) (rest := [vI i2, vR (some x87)]) (b := a48) (x := ⟨"DeadListPool$Holder", "tags", "()I"⟩) (owner := "DeadListPool$Holder") (c0 := .inr (5, fs92)) dX0_keepsOne_92 (aCal_of kf_X4_tags (Nat.le_of_ble_eq_true rfl)) rfl q745 q1383 q1384 q649 (Or.inr q646) ⟨by decide, by decide⟩ ar_X4_tags o92 (by decide : 5 < 9) rfl (Nat.le_of_ble_eq_true rfl))
          · obtain ⟨fs92, rfl⟩ := kd_o kk92 (by decide)
            exact (aRun_U (K' := KX4_tags) (As := []) (rest := [vI i2, vR (some x87)]) (b := a48) (x := ⟨"DeadListPool$Holder", "tags", "()I"⟩) (owner := "DeadListPool$Holder") (c0 := .inr (6, fs92)) dX0_keepsOne_92 (aCal_of kf_X4_tags (Nat.le_of_ble_eq_true rfl)) rfl q745 q1383 q1386 q649 (Or.inr q646) ⟨by decide, by decide⟩ ar_X4_tags o92 (by decide : 6 < 9) rfl (Nat.le_of_ble_eq_true rfl))
        refine wp_call (n := 95) (K' := KX4_tags) (rc' := rc) (rs' := rs) run92 rfl (Nat.le_of_eq (Nat.zero_add _)) (Nat.le_of_eq (Nat.zero_add _)) (fun v92 w92 h => ?_) (fun E92 w92 h => ?_) h
        · obtain ⟨x92, rfl, h⟩ := h
          refine wp_pI (n := 96) dX0_keepsOne_95 rfl (pI_mono h (fun w95 h => ?_))
          exact wp_return dX0_keepsOne_96 rfl h
        · exact h.elim
      · obtain ⟨⟨fs92, o92⟩, h⟩ := h
        refine wp_call (n := 95) (K' := KX8_tags) (rc' := rc) (rs' := rs) (aRun_U (K' := KX8_tags) (As := []) (rest := [vI i2, vR (some x87)]) (b := a48) (x := ⟨"DeadListPool$Holder", "tags", "()I"⟩) (owner := "DeadListPool$Holder") (c0 := .inr (7, fs92)) dX0_keepsOne_92 (aCal_of kf_X8_tags (Nat.le_of_ble_eq_true rfl)) rfl q745 q1383 q1387 q585 (Or.inr q646) ⟨by decide, by decide⟩ ar_X8_tags o92 (by decide : 7 < 9) rfl (Nat.le_of_ble_eq_true rfl)) rfl (Nat.le_of_eq (Nat.zero_add _)) (Nat.le_of_eq (Nat.zero_add _)) (fun v92 w92 h => ?_) (fun E92 w92 h => ?_) h
        · obtain ⟨x92, rfl, h⟩ := h
          refine wp_pI (n := 96) dX0_keepsOne_95 rfl (pI_mono h (fun w95 h => ?_))
          exact wp_return dX0_keepsOne_96 rfl h
        · exact h.elim
    · obtain ⟨k68, h⟩ := h
      refine wp_ciX (n := 71) dX0_keepsOne_68 rfl q119 cno_Snapshot k68 ?_
      refine wp_if_eq (n := 74) (t := 84) dX0_keepsOne_71 rfl (by decide) (fun _ => ?_) (fun z => absurd z (by decide))
      refine wp_null (n := 85) dX0_keepsOne_84 rfl ?_
      refine wp_pR (n := 86) dX0_keepsOne_85 rfl (by decide) rfl cok_Folder (Or.inl rfl) (pR_mono h (fun w85 h => ?_))
      refine wp_aload_n (n := 87) (i := 0) (q := 0) dX0_keepsOne_86 rfl rfl rfl ?_
      obtain ⟨x87, g87, h⟩ := h
      refine wp_gfn (n := 90) dX0_keepsOne_87 rfl fl_X0_477 g87 ?_
      refine wp_iload_n (n := 91) (i := 2) (q := 2) dX0_keepsOne_90 rfl rfl rfl ?_
      refine wp_aload_n (n := 92) (i := 1) (q := 1) dX0_keepsOne_91 rfl rfl rfl ?_
      rcases h with h | h
      · obtain ⟨⟨cc92, o92, kk92⟩, h⟩ := h
        have run92 : aRun (KX0_keepsOne) (KX4_tags) 92 [vR (some a48)] [vR (some a48), vI i2, vR (some x87)] [vI i2, vR (some x87)] w85 := by
          simp only [List.mem_cons, List.not_mem_nil, or_false] at kk92
          rcases kk92 with kk92 | kk92 | kk92
          · obtain ⟨fs92, rfl⟩ := kd_o kk92 (by decide)
            exact (aRun_U (K' := KX4_tags) (As := []) (rest := [vI i2, vR (some x87)]) (b := a48) (x := ⟨"DeadListPool$Holder", "tags", "()I"⟩) (owner := "DeadListPool$Holder") (c0 := .inr (4, fs92)) dX0_keepsOne_92 (aCal_of kf_X4_tags (Nat.le_of_ble_eq_true rfl)) rfl q745 q1383 q1385 q649 (Or.inr q646) ⟨by decide, by decide⟩ ar_X4_tags o92 (by decide : 4 < 9) rfl (Nat.le_of_ble_eq_true rfl))
          · obtain ⟨fs92, rfl⟩ := kd_o kk92 (by decide)
            exact (aRun_U (K' := KX4_tags) (As := []) (rest := [vI i2, vR (some x87)]) (b := a48) (x := ⟨"DeadListPool$Holder", "tags", "()I"⟩) (owner := "DeadListPool$Holder") (c0 := .inr (5, fs92)) dX0_keepsOne_92 (aCal_of kf_X4_tags (Nat.le_of_ble_eq_true rfl)) rfl q745 q1383 q1384 q649 (Or.inr q646) ⟨by decide, by decide⟩ ar_X4_tags o92 (by decide : 5 < 9) rfl (Nat.le_of_ble_eq_true rfl))
          · obtain ⟨fs92, rfl⟩ := kd_o kk92 (by decide)
            exact (aRun_U (K' := KX4_tags) (As := []) (rest := [vI i2, vR (some x87)]) (b := a48) (x := ⟨"DeadListPool$Holder", "tags", "()I"⟩) (owner := "DeadListPool$Holder") (c0 := .inr (6, fs92)) dX0_keepsOne_92 (aCal_of kf_X4_tags (Nat.le_of_ble_eq_true rfl)) rfl q745 q1383 q1386 q649 (Or.inr q646) ⟨by decide, by decide⟩ ar_X4_tags o92 (by decide : 6 < 9) rfl (Nat.le_of_ble_eq_true rfl))
        refine wp_call (n := 95) (K' := KX4_tags) (rc' := rc) (rs' := rs) run92 rfl (Nat.le_of_eq (Nat.zero_add _)) (Nat.le_of_eq (Nat.zero_add _)) (fun v92 w92 h => ?_) (fun E92 w92 h => ?_) h
        · obtain ⟨x92, rfl, h⟩ := h
          refine wp_pI (n := 96) dX0_keepsOne_95 rfl (pI_mono h (fun w95 h => ?_))
          exact wp_return dX0_keepsOne_96 rfl h
        · exact h.elim
      · obtain ⟨⟨fs92, o92⟩, h⟩ := h
        refine wp_call (n := 95) (K' := KX8_tags) (rc' := rc) (rs' := rs) (aRun_U (K' := KX8_tags) (As := []) (rest := [vI i2, vR (some x87)]) (b := a48) (x := ⟨"DeadListPool$Holder", "tags", "()I"⟩) (owner := "DeadListPool$Holder") (c0 := .inr (7, fs92)) dX0_keepsOne_92 (aCal_of kf_X8_tags (Nat.le_of_ble_eq_true rfl)) rfl q745 q1383 q1387 q585 (Or.inr q646) ⟨by decide, by decide⟩ ar_X8_tags o92 (by decide : 7 < 9) rfl (Nat.le_of_ble_eq_true rfl)) rfl (Nat.le_of_eq (Nat.zero_add _)) (Nat.le_of_eq (Nat.zero_add _)) (fun v92 w92 h => ?_) (fun E92 w92 h => ?_) h
        · obtain ⟨x92, rfl, h⟩ := h
          refine wp_pI (n := 96) dX0_keepsOne_95 rfl (pI_mono h (fun w95 h => ?_))
          exact wp_return dX0_keepsOne_96 rfl h
        · exact h.elim
  · replace h := h.2 c5
    refine wp_aload_n (n := 9) (i := 0) (q := 0) dX0_keepsOne_8 rfl rfl rfl ?_
    obtain ⟨a9, ea9, h⟩ := h
    rw [ea9]
    obtain ⟨x9, g9, h⟩ := h
    refine wp_gfn (n := 12) dX0_keepsOne_9 rfl fl_X0_463 g9 ?_
    refine wp_iload_n (n := 13) (i := 2) (q := 2) dX0_keepsOne_12 rfl rfl rfl ?_
    obtain ⟨x13, g13, h⟩ := h
    refine wp_gR (n := 14) dX0_keepsOne_13 rfl (by decide) g13 ?_
    refine wp_iload_n (n := 15) (i := 3) (q := 3) dX0_keepsOne_14 rfl rfl rfl ?_
    refine wp_aload_n (n := 16) (i := 1) (q := 1) dX0_keepsOne_15 rfl rfl rfl ?_
    obtain ⟨a16, ea16, h⟩ := h
    rw [ea16]
    obtain ⟨x16, g16, h⟩ := h
    refine wp_gf (n := 19) dX0_keepsOne_16 rfl fl_X0_119 g16 ?_
    refine wp_iload_n (n := 20) (i := 3) (q := 3) dX0_keepsOne_19 rfl rfl rfl ?_
    obtain ⟨x20, g20, h⟩ := h
    refine wp_gI (n := 21) dX0_keepsOne_20 rfl g20 ?_
    refine wp_pI (n := 22) dX0_keepsOne_21 rfl (pI_mono h (fun w21 h => ?_))
    refine wp_aload_n (n := 23) (i := 0) (q := 0) dX0_keepsOne_22 rfl rfl rfl ?_
    obtain ⟨x23, g23, h⟩ := h
    refine wp_gfn (n := 26) dX0_keepsOne_23 rfl fl_X0_466 g23 ?_
    refine wp_iload_n (n := 27) (i := 2) (q := 2) dX0_keepsOne_26 rfl rfl rfl ?_
    obtain ⟨x27, g27, h⟩ := h
    refine wp_gR (n := 28) dX0_keepsOne_27 rfl (by decide) g27 ?_
    refine wp_iload_n (n := 29) (i := 3) (q := 3) dX0_keepsOne_28 rfl rfl rfl ?_
    refine wp_aload_n (n := 30) (i := 1) (q := 1) dX0_keepsOne_29 rfl rfl rfl ?_
    obtain ⟨x30, g30, h⟩ := h
    refine wp_gf (n := 33) dX0_keepsOne_30 rfl fl_X0_125 g30 ?_
    refine wp_iload_n (n := 34) (i := 3) (q := 3) dX0_keepsOne_33 rfl rfl rfl ?_
    obtain ⟨x34, g34, h⟩ := h
    refine wp_gI (n := 35) dX0_keepsOne_34 rfl g34 ?_
    refine wp_pI (n := 36) dX0_keepsOne_35 rfl (pI_mono h (fun w35 h => ?_))
    refine wp_iinc (n := 39) (i := 3) (q := 3) (v := i3 + 1) (ls' := [(3, vI (i3 + 1)), (0, vR (some a9)), (1, vR (some a16)), (2, vI i2)]) dX0_keepsOne_36 rfl rfl rfl (Nat.le_of_ble_eq_true rfl) rfl ?_
    refine wp_goto (t := 2) dX0_keepsOne_39 (by decide) ?_
    exact wp_sub [1, 2, 3, 0] rfl h
set_option maxHeartbeats 1000000 in
theorem sg_X0_keeps_0 {h0 : Nat} {r1 : Option Nat} {rc rs : Nat} {QR : Option aV → aW → Prop} {QX : String → aW → Prop} {w : aW} (h : wp (KX0_keeps) rc rs QR QX 2 [(0, vR (some h0)), (1, vR r1), (2, vI 0)] [] w) : wp (KX0_keeps) rc rs QR QX 0 [(0, vR (some h0)), (1, vR r1)] [] w := by
  refine wp_iconst (n := 1) (v := 0) dX0_keeps_0 rfl (by decide) ?_
  refine wp_istore_n (n := 2) (i := 2) (ls' := [(2, vI 0), (0, vR (some h0)), (1, vR r1)]) dX0_keeps_1 rfl rfl (Nat.le_of_ble_eq_true rfl) rfl ?_
  exact wp_sub [1, 2, 0] rfl h
set_option maxHeartbeats 1000000 in
theorem sg_X0_keeps_2 {h0 : Nat} {r1 : Option Nat} {i2 : Int32} {rc rs : Nat} {QR : Option aV → aW → Prop} {QX : String → aW → Prop} {w : aW} (h : (20 ≤ i2 → wp (KX0_keeps) rc rs QR QX 54 [(0, vR (some h0)), (1, vR r1), (2, vI 0)] [] w) ∧ (¬ 20 ≤ i2 → ∃ a9 : Nat, r1 = some a9 ∧ ∃ x9 : Nat, gf w a9 [2] 0 (vR (some x9)) ∧ ∃ x14 : Nat, gf w h0 [0] 4 (vR (some x14)) ∧ ∃ x18 : Option Nat, gR w x14 2 i2 x18 ∧ (x18 = none ∨ ∃ v, x18 = some v ∧ ck w v [4, 5, 6, 7, 8]) ∧ pR w x9 2 i2 x18 (fun w19 => ∃ x21 : Nat, gf w19 h0 [0] 4 (vR (some x21)) ∧ ∃ x25 : Option Nat, gR w19 x21 2 i2 x25 ∧ (x25 = none → wp (KX0_keeps) rc rs QR QX 2 [(0, vR (some h0)), (1, vR (some a9)), (2, vI (i2 + 1))] [] w19) ∧ (∀ a26 : Nat, x25 = some a26 → ((ck w19 a26 [4, 5, 6, 7] ∧ ∃ x34 : Nat, gf w19 h0 [0] 4 (vR (some x34)) ∧ ∃ x38 : Option Nat, gR w19 x34 2 i2 x38 ∧ ∃ a39 : Nat, x38 = some a39 ∧ ck w19 a39 [4, 5, 6, 7] ∧ ct (KX0_keepsOne) 0 0 [vR (some a9), vR (some a39), vI i2] w19 (fun v43 w43 => v43 = none ∧ wp (KX0_keeps) rc rs QR QX 2 [(0, vR (some h0)), (1, vR (some a9)), (2, vI (i2 + 1))] [] w43) (fun E43 w43 => False)) ∨ (ck w19 a26 [8] ∧ wp (KX0_keeps) rc rs QR QX 2 [(0, vR (some h0)), (1, vR (some a9)), (2, vI (i2 + 1))] [] w19)))))) : wp (KX0_keeps) rc rs QR QX 2 [(0, vR (some h0)), (1, vR r1), (2, vI i2)] [] w := by
  refine wp_iload_n (n := 3) (i := 2) (q := 2) dX0_keeps_2 rfl rfl rfl ?_
  refine wp_bipush (n := 5) (v := 20) dX0_keeps_3 rfl (by decide) ?_
  refine wp_icmp_ge (n := 8) (t := 52) dX0_keeps_5 rfl (by decide) (fun c5 => ?_) (fun c5 => ?_)
  · replace h := h.1 c5
    refine wp_iconst (n := 53) (v := 0) dX0_keeps_52 rfl (by decide) ?_
    refine wp_istore_n (n := 54) (i := 2) (ls' := [(2, vI 0), (0, vR (some h0)), (1, vR r1)]) dX0_keeps_53 rfl rfl (Nat.le_of_ble_eq_true rfl) rfl ?_
    exact wp_sub [1, 2, 0] rfl h
  · replace h := h.2 c5
    refine wp_aload_n (n := 9) (i := 1) (q := 1) dX0_keeps_8 rfl rfl rfl ?_
    obtain ⟨a9, ea9, h⟩ := h
    rw [ea9]
    obtain ⟨x9, g9, h⟩ := h
    refine wp_gfn (n := 12) dX0_keeps_9 rfl fl_X0_480 g9 ?_
    refine wp_iload_n (n := 13) (i := 2) (q := 2) dX0_keeps_12 rfl rfl rfl ?_
    refine wp_aload_n (n := 14) (i := 0) (q := 0) dX0_keeps_13 rfl rfl rfl ?_
    obtain ⟨x14, g14, h⟩ := h
    refine wp_gf (n := 17) dX0_keeps_14 rfl fl_X0_20 g14 ?_
    refine wp_iload_n (n := 18) (i := 2) (q := 2) dX0_keeps_17 rfl rfl rfl ?_
    obtain ⟨x18, g18, h⟩ := h
    refine wp_gR (n := 19) dX0_keeps_18 rfl (by decide) g18 ?_
    obtain ⟨k19, h⟩ := h
    refine wp_pR (n := 20) dX0_keeps_19 rfl (by decide) rfl cok_Object k19 (pR_mono h (fun w19 h => ?_))
    refine wp_aload_n (n := 21) (i := 0) (q := 0) dX0_keeps_20 rfl rfl rfl ?_
    obtain ⟨x21, g21, h⟩ := h
    refine wp_gf (n := 24) dX0_keeps_21 rfl fl_X0_20 g21 ?_
    refine wp_iload_n (n := 25) (i := 2) (q := 2) dX0_keeps_24 rfl rfl rfl ?_
    obtain ⟨x25, g25, h⟩ := h
    refine wp_gR (n := 26) dX0_keeps_25 rfl (by decide) g25 ?_
    rcases opt_c x25 with ea26 | ⟨a26, ea26⟩
    · replace h := h.1 ea26
      rw [ea26]
      refine wp_instN (n := 29) dX0_keeps_26 rfl ?_
      refine wp_if_eq (n := 32) (t := 46) dX0_keeps_29 rfl (by decide) (fun _ => ?_) (fun z => absurd z (by decide))
      refine wp_iinc (n := 49) (i := 2) (q := 2) (v := i2 + 1) (ls' := [(2, vI (i2 + 1)), (0, vR (some h0)), (1, vR (some a9))]) dX0_keeps_46 rfl rfl rfl (Nat.le_of_ble_eq_true rfl) rfl ?_
      refine wp_goto (t := 2) dX0_keeps_49 (by decide) ?_
      exact wp_sub [1, 2, 0] rfl h
    · replace h := h.2 a26 ea26
      rw [ea26]
      rcases h with h | h
      · obtain ⟨k26, h⟩ := h
        refine wp_ciY (n := 29) dX0_keeps_26 rfl q659 cok_Holder k26 ?_
        refine wp_if_eq (n := 32) (t := 46) dX0_keeps_29 rfl (by decide) (fun z => absurd z (by decide)) (fun _ => ?_)
        refine wp_aload_n (n := 33) (i := 1) (q := 1) dX0_keeps_32 rfl rfl rfl ?_
        refine wp_aload_n (n := 34) (i := 0) (q := 0) dX0_keeps_33 rfl rfl rfl ?_
        obtain ⟨x34, g34, h⟩ := h
        refine wp_gf (n := 37) dX0_keeps_34 rfl fl_X0_20 g34 ?_
        refine wp_iload_n (n := 38) (i := 2) (q := 2) dX0_keeps_37 rfl rfl rfl ?_
        obtain ⟨x38, g38, h⟩ := h
        refine wp_gR (n := 39) dX0_keeps_38 rfl (by decide) g38 ?_
        obtain ⟨a39, ea39, h⟩ := h
        rw [ea39]
        obtain ⟨k39, h⟩ := h
        refine wp_ckY (n := 42) dX0_keeps_39 rfl q659 cok_Holder k39 ?_
        refine wp_iload_n (n := 43) (i := 2) (q := 2) dX0_keeps_42 rfl rfl rfl ?_
        refine wp_call (n := 46) (K' := KX0_keepsOne) (rc' := rc) (rs' := rs) (aRun_S (K' := KX0_keepsOne) (As := [vR (some a9), vR (some a39), vI i2]) (rest := []) dX0_keeps_43 (aCal_of kf_X0_keepsOne (Nat.le_of_ble_eq_true rfl)) rfl q970 q971 ar_X0_keepsOne rfl (Nat.le_of_ble_eq_true rfl)) rfl (Nat.le_of_eq (Nat.zero_add _)) (Nat.le_of_eq (Nat.zero_add _)) (fun v43 w43 h => ?_) (fun E43 w43 h => ?_) h
        · obtain ⟨rfl, h⟩ := h
          refine wp_iinc (n := 49) (i := 2) (q := 2) (v := i2 + 1) (ls' := [(2, vI (i2 + 1)), (0, vR (some h0)), (1, vR (some a9))]) dX0_keeps_46 rfl rfl rfl (Nat.le_of_ble_eq_true rfl) rfl ?_
          refine wp_goto (t := 2) dX0_keeps_49 (by decide) ?_
          exact wp_sub [1, 2, 0] rfl h
        · exact h.elim
      · obtain ⟨k26, h⟩ := h
        refine wp_ciX (n := 29) dX0_keeps_26 rfl q659 cno_Holder k26 ?_
        refine wp_if_eq (n := 32) (t := 46) dX0_keeps_29 rfl (by decide) (fun _ => ?_) (fun z => absurd z (by decide))
        refine wp_iinc (n := 49) (i := 2) (q := 2) (v := i2 + 1) (ls' := [(2, vI (i2 + 1)), (0, vR (some h0)), (1, vR (some a9))]) dX0_keeps_46 rfl rfl rfl (Nat.le_of_ble_eq_true rfl) rfl ?_
        refine wp_goto (t := 2) dX0_keeps_49 (by decide) ?_
        exact wp_sub [1, 2, 0] rfl h
set_option maxHeartbeats 1000000 in
theorem sg_X0_keeps_54 {h0 : Nat} {r1 : Option Nat} {i2 : Int32} {rc rs : Nat} {QR : Option aV → aW → Prop} {QX : String → aW → Prop} {w : aW} (h : (96 ≤ i2 → ∃ x92 : Int32, gf w h0 [0] 2 (vI x92) ∧ ∃ a95 : Nat, r1 = some a95 ∧ pf w a95 [2] 9 (vI x92) (fun w95 => ∃ x100 : Int32, gf w95 h0 [0] 3 (vI x100) ∧ pf w95 a95 [2] 10 (vI x100) (fun w103 => QR none w103))) ∧ (¬ 96 ≤ i2 → ∃ a61 : Nat, r1 = some a61 ∧ ∃ x61 : Nat, gf w a61 [2] 7 (vR (some x61)) ∧ ∃ x66 : Nat, gf w h0 [0] 0 (vR (some x66)) ∧ ∃ x70 : Int32, gI w x66 i2 x70 ∧ pI w x61 i2 x70 (fun w71 => ∃ x73 : Nat, gf w71 a61 [2] 8 (vR (some x73)) ∧ ∃ x78 : Nat, gf w71 h0 [0] 1 (vR (some x78)) ∧ ∃ x82 : Int32, gI w71 x78 i2 x82 ∧ pI w71 x73 i2 x82 (fun w83 => wp (KX0_keeps) rc rs QR QX 54 [(0, vR (some h0)), (1, vR (some a61)), (2, vI (i2 + 1))] [] w83)))) : wp (KX0_keeps) rc rs QR QX 54 [(0, vR (some h0)), (1, vR r1), (2, vI i2)] [] w := by
  refine wp_iload_n (n := 55) (i := 2) (q := 2) dX0_keeps_54 rfl rfl rfl ?_
  refine wp_bipush (n := 57) (v := 96) dX0_keeps_55 rfl (by decide) ?_
  refine wp_icmp_ge (n := 60) (t := 90) dX0_keeps_57 rfl (by decide) (fun c57 => ?_) (fun c57 => ?_)
  · replace h := h.1 c57
    refine wp_aload_n (n := 91) (i := 1) (q := 1) dX0_keeps_90 rfl rfl rfl ?_
    refine wp_aload_n (n := 92) (i := 0) (q := 0) dX0_keeps_91 rfl rfl rfl ?_
    obtain ⟨x92, g92, h⟩ := h
    refine wp_gf (n := 95) dX0_keeps_92 rfl fl_X0_16 g92 ?_
    obtain ⟨a95, ea95, h⟩ := h
    rw [ea95]
    refine wp_pfn (n := 98) dX0_keeps_95 rfl pt_X0_487 rfl rfl (pf_mono h (fun w95 h => ?_))
    refine wp_aload_n (n := 99) (i := 1) (q := 1) dX0_keeps_98 rfl rfl rfl ?_
    refine wp_aload_n (n := 100) (i := 0) (q := 0) dX0_keeps_99 rfl rfl rfl ?_
    obtain ⟨x100, g100, h⟩ := h
    refine wp_gf (n := 103) dX0_keeps_100 rfl fl_X0_50 g100 ?_
    refine wp_pfn (n := 106) dX0_keeps_103 rfl pt_X0_488 rfl rfl (pf_mono h (fun w103 h => ?_))
    exact wp_return dX0_keeps_106 rfl h
  · replace h := h.2 c57
    refine wp_aload_n (n := 61) (i := 1) (q := 1) dX0_keeps_60 rfl rfl rfl ?_
    obtain ⟨a61, ea61, h⟩ := h
    rw [ea61]
    obtain ⟨x61, g61, h⟩ := h
    refine wp_gfn (n := 64) dX0_keeps_61 rfl fl_X0_485 g61 ?_
    refine wp_iload_n (n := 65) (i := 2) (q := 2) dX0_keeps_64 rfl rfl rfl ?_
    refine wp_aload_n (n := 66) (i := 0) (q := 0) dX0_keeps_65 rfl rfl rfl ?_
    obtain ⟨x66, g66, h⟩ := h
    refine wp_gf (n := 69) dX0_keeps_66 rfl fl_X0_9 g66 ?_
    refine wp_iload_n (n := 70) (i := 2) (q := 2) dX0_keeps_69 rfl rfl rfl ?_
    obtain ⟨x70, g70, h⟩ := h
    refine wp_gI (n := 71) dX0_keeps_70 rfl g70 ?_
    refine wp_pI (n := 72) dX0_keeps_71 rfl (pI_mono h (fun w71 h => ?_))
    refine wp_aload_n (n := 73) (i := 1) (q := 1) dX0_keeps_72 rfl rfl rfl ?_
    obtain ⟨x73, g73, h⟩ := h
    refine wp_gfn (n := 76) dX0_keeps_73 rfl fl_X0_486 g73 ?_
    refine wp_iload_n (n := 77) (i := 2) (q := 2) dX0_keeps_76 rfl rfl rfl ?_
    refine wp_aload_n (n := 78) (i := 0) (q := 0) dX0_keeps_77 rfl rfl rfl ?_
    obtain ⟨x78, g78, h⟩ := h
    refine wp_gf (n := 81) dX0_keeps_78 rfl fl_X0_13 g78 ?_
    refine wp_iload_n (n := 82) (i := 2) (q := 2) dX0_keeps_81 rfl rfl rfl ?_
    obtain ⟨x82, g82, h⟩ := h
    refine wp_gI (n := 83) dX0_keeps_82 rfl g82 ?_
    refine wp_pI (n := 84) dX0_keeps_83 rfl (pI_mono h (fun w83 h => ?_))
    refine wp_iinc (n := 87) (i := 2) (q := 2) (v := i2 + 1) (ls' := [(2, vI (i2 + 1)), (0, vR (some h0)), (1, vR (some a61))]) dX0_keeps_84 rfl rfl rfl (Nat.le_of_ble_eq_true rfl) rfl ?_
    refine wp_goto (t := 54) dX0_keeps_87 (by decide) ?_
    exact wp_sub [1, 2, 0] rfl h
set_option maxHeartbeats 1000000 in
theorem sg_X0_sizeOfAll_0 {h0 : Nat} {rc rs : Nat} {QR : Option aV → aW → Prop} {QX : String → aW → Prop} {w : aW} (h : wp (KX0_sizeOfAll) rc rs QR QX 4 [(0, vR (some h0)), (1, vL 0), (3, vI 0)] [] w) : wp (KX0_sizeOfAll) rc rs QR QX 0 [(0, vR (some h0))] [] w := by
  refine wp_lconst (n := 1) (v := 0) dX0_sizeOfAll_0 rfl (by decide) ?_
  refine wp_lstore_n (n := 2) (i := 1) (ls' := [(1, vL 0), (0, vR (some h0))]) dX0_sizeOfAll_1 rfl rfl (Nat.le_of_ble_eq_true rfl) rfl ?_
  refine wp_iconst (n := 3) (v := 0) dX0_sizeOfAll_2 rfl (by decide) ?_
  refine wp_istore_n (n := 4) (i := 3) (ls' := [(3, vI 0), (1, vL 0), (0, vR (some h0))]) dX0_sizeOfAll_3 rfl rfl (Nat.le_of_ble_eq_true rfl) rfl ?_
  exact wp_sub [2, 1, 0] rfl h
set_option maxHeartbeats 1000000 in
theorem sg_X0_sizeOfAll_4 {h0 : Nat} {l1 : Int64} {i3 : Int32} {rc rs : Nat} {QR : Option aV → aW → Prop} {QX : String → aW → Prop} {w : aW} (h : (96 ≤ i3 → QR (some (vL l1)) w) ∧ (¬ 96 ≤ i3 → ∃ x12 : Nat, gf w h0 [0] 0 (vR (some x12)) ∧ ∃ x16 : Int32, gI w x12 i3 x16 ∧ wp (KX0_sizeOfAll) rc rs QR QX 4 [(0, vR (some h0)), (1, vL (l1 + (Int32.toInt64 x16))), (3, vI (i3 + 1))] [] w)) : wp (KX0_sizeOfAll) rc rs QR QX 4 [(0, vR (some h0)), (1, vL l1), (3, vI i3)] [] w := by
  refine wp_iload_n (n := 5) (i := 3) (q := 2) dX0_sizeOfAll_4 rfl rfl rfl ?_
  refine wp_bipush (n := 7) (v := 96) dX0_sizeOfAll_5 rfl (by decide) ?_
  refine wp_icmp_ge (n := 10) (t := 26) dX0_sizeOfAll_7 rfl (by decide) (fun c7 => ?_) (fun c7 => ?_)
  · replace h := h.1 c7
    refine wp_lload_n (n := 27) (i := 1) (q := 1) dX0_sizeOfAll_26 rfl rfl rfl ?_
    exact wp_lreturn dX0_sizeOfAll_27 rfl h
  · replace h := h.2 c7
    refine wp_lload_n (n := 11) (i := 1) (q := 1) dX0_sizeOfAll_10 rfl rfl rfl ?_
    refine wp_aload_n (n := 12) (i := 0) (q := 0) dX0_sizeOfAll_11 rfl rfl rfl ?_
    obtain ⟨x12, g12, h⟩ := h
    refine wp_gf (n := 15) dX0_sizeOfAll_12 rfl fl_X0_9 g12 ?_
    refine wp_iload_n (n := 16) (i := 3) (q := 2) dX0_sizeOfAll_15 rfl rfl rfl ?_
    obtain ⟨x16, g16, h⟩ := h
    refine wp_gI (n := 17) dX0_sizeOfAll_16 rfl g16 ?_
    refine wp_i2l (n := 18) dX0_sizeOfAll_17 rfl ?_
    refine wp_ladd (n := 19) dX0_sizeOfAll_18 rfl ?_
    refine wp_lstore_n (n := 20) (i := 1) (ls' := [(1, vL (l1 + (Int32.toInt64 x16))), (0, vR (some h0)), (3, vI i3)]) dX0_sizeOfAll_19 rfl rfl (Nat.le_of_ble_eq_true rfl) rfl ?_
    refine wp_iinc (n := 23) (i := 3) (q := 2) (v := i3 + 1) (ls' := [(3, vI (i3 + 1)), (1, vL (l1 + (Int32.toInt64 x16))), (0, vR (some h0))]) dX0_sizeOfAll_20 rfl rfl rfl (Nat.le_of_ble_eq_true rfl) rfl ?_
    refine wp_goto (t := 4) dX0_sizeOfAll_23 (by decide) ?_
    exact wp_sub [2, 1, 0] rfl h
set_option maxHeartbeats 1000000 in
theorem sg_X0_thenTold_0 {h0 : Nat} {i1 : Int32} {i2 : Int32} {rc rs : Nat} {QR : Option aV → aW → Prop} {QX : String → aW → Prop} {w : aW} (h : (i1 = 0 → isO w h0 0 ∧ ct (KX0_thingMany) 0 0 [vR (some h0)] w (fun v29 w29 => ∃ x29 : Int32, v29 = some (vI x29) ∧ QR (some (vL (Int32.toInt64 x29))) w29) (fun E29 w29 => False)) ∧ (i1 = 1 → isO w h0 0 ∧ ct (KX0_blockMany) 0 0 [vR (some h0)] w (fun v35 w35 => ∃ x35 : Int32, v35 = some (vI x35) ∧ QR (some (vL (Int32.toInt64 x35))) w35) (fun E35 w35 => False)) ∧ (i1 = 2 → ∃ x41 : Int32, gf w h0 [0] 3 (vI x41) ∧ QR (some (vL (Int32.toInt64 (x41 - i2)))) w) ∧ (¬ i1 = 0 → ¬ i1 = 1 → ¬ i1 = 2 → isO w h0 0 ∧ ct (KX0_sizeOfAll) 0 0 [vR (some h0)] w (fun v49 w49 => ∃ x49 : Int64, v49 = some (vL x49) ∧ QR (some (vL x49)) w49) (fun E49 w49 => False))) : wp (KX0_thenTold) rc rs QR QX 0 [(0, vR (some h0)), (1, vI i1), (2, vI i2)] [] w := by
  refine wp_iload_n (n := 1) (i := 1) (q := 1) dX0_thenTold_0 rfl rfl rfl ?_
  by_cases e1_0 : i1 = 0
  · replace h := h.1 e1_0
    refine wp_tableIn (t := 28) dX0_thenTold_1 (by rw [e1_0]; decide) (by rw [e1_0]; decide) (off := 27) (by rw [e1_0]; decide) (by decide) ?_
    refine wp_aload_n (n := 29) (i := 0) (q := 0) dX0_thenTold_28 rfl rfl rfl ?_
    obtain ⟨⟨fs29, o29⟩, h⟩ := h
    refine wp_call (n := 32) (K' := KX0_thingMany) (rc' := rc) (rs' := rs) (aRun_V (K' := KX0_thingMany) (As := []) (rest := []) (b := h0) (c0 := .inr (0, fs29)) dX0_thenTold_29 (aCal_of kf_X0_thingMany (Nat.le_of_ble_eq_true rfl)) q990 q992 qs47 ar_X0_thingMany o29 (by decide : 0 < 9) rfl (Nat.le_of_ble_eq_true rfl)) rfl (Nat.le_of_eq (Nat.zero_add _)) (Nat.le_of_eq (Nat.zero_add _)) (fun v29 w29 h => ?_) (fun E29 w29 h => ?_) h
    · obtain ⟨x29, rfl, h⟩ := h
      refine wp_i2l (n := 33) dX0_thenTold_32 rfl ?_
      exact wp_lreturn dX0_thenTold_33 rfl h
    · exact h.elim
  by_cases e1_1 : i1 = 1
  · replace h := h.2.1 e1_1
    refine wp_tableIn (t := 34) dX0_thenTold_1 (by rw [e1_1]; decide) (by rw [e1_1]; decide) (off := 33) (by rw [e1_1]; decide) (by decide) ?_
    refine wp_aload_n (n := 35) (i := 0) (q := 0) dX0_thenTold_34 rfl rfl rfl ?_
    obtain ⟨⟨fs35, o35⟩, h⟩ := h
    refine wp_call (n := 38) (K' := KX0_blockMany) (rc' := rc) (rs' := rs) (aRun_V (K' := KX0_blockMany) (As := []) (rest := []) (b := h0) (c0 := .inr (0, fs35)) dX0_thenTold_35 (aCal_of kf_X0_blockMany (Nat.le_of_ble_eq_true rfl)) q994 q996 qs48 ar_X0_blockMany o35 (by decide : 0 < 9) rfl (Nat.le_of_ble_eq_true rfl)) rfl (Nat.le_of_eq (Nat.zero_add _)) (Nat.le_of_eq (Nat.zero_add _)) (fun v35 w35 h => ?_) (fun E35 w35 h => ?_) h
    · obtain ⟨x35, rfl, h⟩ := h
      refine wp_i2l (n := 39) dX0_thenTold_38 rfl ?_
      exact wp_lreturn dX0_thenTold_39 rfl h
    · exact h.elim
  by_cases e1_2 : i1 = 2
  · replace h := h.2.2.1 e1_2
    refine wp_tableIn (t := 40) dX0_thenTold_1 (by rw [e1_2]; decide) (by rw [e1_2]; decide) (off := 39) (by rw [e1_2]; decide) (by decide) ?_
    refine wp_aload_n (n := 41) (i := 0) (q := 0) dX0_thenTold_40 rfl rfl rfl ?_
    obtain ⟨x41, g41, h⟩ := h
    refine wp_gf (n := 44) dX0_thenTold_41 rfl fl_X0_50 g41 ?_
    refine wp_iload_n (n := 45) (i := 2) (q := 2) dX0_thenTold_44 rfl rfl rfl ?_
    refine wp_isub (n := 46) dX0_thenTold_45 rfl ?_
    refine wp_i2l (n := 47) dX0_thenTold_46 rfl ?_
    exact wp_lreturn dX0_thenTold_47 rfl h
  replace h := h.2.2.2 e1_0 e1_1 e1_2
  have f1 : i1.toInt < 0 ∨ 2 < i1.toInt := by
    by_cases q1 : i1.toInt < 0
    · exact Or.inl q1
    · by_cases q2 : 2 < i1.toInt
      · exact Or.inr q2
      · exfalso
        have q3 : i1.toInt = 0 ∨ i1.toInt = 1 ∨ i1.toInt = 2 := by omega
        rcases q3 with q3 | q3 | q3
        · exact e1_0 (Int32.toInt_inj.mp (q3.trans (by decide)))
        · exact e1_1 (Int32.toInt_inj.mp (q3.trans (by decide)))
        · exact e1_2 (Int32.toInt_inj.mp (q3.trans (by decide)))
  refine wp_tableOut (t := 48) dX0_thenTold_1 f1 (by decide) ?_
  refine wp_aload_n (n := 49) (i := 0) (q := 0) dX0_thenTold_48 rfl rfl rfl ?_
  obtain ⟨⟨fs49, o49⟩, h⟩ := h
  refine wp_call (n := 52) (K' := KX0_sizeOfAll) (rc' := rc) (rs' := rs) (aRun_V (K' := KX0_sizeOfAll) (As := []) (rest := []) (b := h0) (c0 := .inr (0, fs49)) dX0_thenTold_49 (aCal_of kf_X0_sizeOfAll (Nat.le_of_ble_eq_true rfl)) q998 q1000 qs49 ar_X0_sizeOfAll o49 (by decide : 0 < 9) rfl (Nat.le_of_ble_eq_true rfl)) rfl (Nat.le_of_eq (Nat.zero_add _)) (Nat.le_of_eq (Nat.zero_add _)) (fun v49 w49 h => ?_) (fun E49 w49 h => ?_) h
  · obtain ⟨x49, rfl, h⟩ := h
    exact wp_lreturn dX0_thenTold_52 rfl h
  · exact h.elim
set_option maxHeartbeats 1000000 in
theorem sg_X0_drawn_0 {h0 : Nat} {i1 : Int32} {i2 : Int32} {i3 : Int32} {rc rs : Nat} {QR : Option aV → aW → Prop} {QX : String → aW → Prop} {w : aW} (h : ct (KX0_in) 0 0 [vL (Int32.toInt64 i2), vL 0, vL 60] w (fun v6 w6 => ∃ x6 : Int32, v6 = some (vI x6) ∧ (x6 = 0 → QR (some (vL (-4611686018427387904))) w6) ∧ (¬ x6 = 0 → ct (KX0_in) 0 0 [vL (Int32.toInt64 i3), vL 0, vL 3] w6 (fun v18 w18 => ∃ x18 : Int32, v18 = some (vI x18) ∧ (¬ x18 = 0 → ∃ x29 : Int32, gf w18 h0 [0] 3 (vI x29) ∧ ∃ x39 : Nat, gf w18 h0 [0] 9 (vR (some x39)) ∧ isO w18 h0 0 ∧ ct (KX0_keeps) 0 0 [vR (some h0), vR (some x39)] w18 (fun v42 w42 => v42 = none ∧ wp (KX0_drawn) rc rs QR QX 48 [(0, vR (some h0)), (1, vI i1), (2, vI i2), (3, vI i3), (4, vI x29), (5, vI i1), (6, vI 0)] [] w42) (fun E42 w42 => False)) ∧ (x18 = 0 → QR (some (vL (-4611686018427387904))) w18)) (fun E18 w18 => False))) (fun E6 w6 => False)) : wp (KX0_drawn) rc rs QR QX 0 [(0, vR (some h0)), (1, vI i1), (2, vI i2), (3, vI i3)] [] w := by
  refine wp_iload_n (n := 1) (i := 2) (q := 2) dX0_drawn_0 rfl rfl rfl ?_
  refine wp_i2l (n := 2) dX0_drawn_1 rfl ?_
  refine wp_lconst (n := 3) (v := 0) dX0_drawn_2 rfl (by decide) ?_
  refine wp_ldc2 (n := 6) dX0_drawn_3 rfl q965 ?_
  refine wp_call (n := 9) (K' := KX0_in) (rc' := rc) (rs' := rs) (aRun_S (K' := KX0_in) (As := [vL (Int32.toInt64 i2), vL 0, vL 60]) (rest := []) dX0_drawn_6 (aCal_of kf_X0_in (Nat.le_of_ble_eq_true rfl)) rfl q228 q229 ar_X0_in rfl (Nat.le_of_ble_eq_true rfl)) rfl (Nat.le_of_eq (Nat.zero_add _)) (Nat.le_of_eq (Nat.zero_add _)) (fun v6 w6 h => ?_) (fun E6 w6 h => ?_) h
  · obtain ⟨x6, rfl, h⟩ := h
    refine wp_if_eq (n := 12) (t := 24) dX0_drawn_9 rfl (by decide) (fun c9 => ?_) (fun c9 => ?_)
    · replace h := h.1 c9
      refine wp_ldc2 (n := 27) dX0_drawn_24 rfl q797 ?_
      exact wp_lreturn dX0_drawn_27 rfl h
    · replace h := h.2 c9
      refine wp_iload_n (n := 13) (i := 3) (q := 3) dX0_drawn_12 rfl rfl rfl ?_
      refine wp_i2l (n := 14) dX0_drawn_13 rfl ?_
      refine wp_lconst (n := 15) (v := 0) dX0_drawn_14 rfl (by decide) ?_
      refine wp_ldc2 (n := 18) dX0_drawn_15 rfl q917 ?_
      refine wp_call (n := 21) (K' := KX0_in) (rc' := rc) (rs' := rs) (aRun_S (K' := KX0_in) (As := [vL (Int32.toInt64 i3), vL 0, vL 3]) (rest := []) dX0_drawn_18 (aCal_of kf_X0_in (Nat.le_of_ble_eq_true rfl)) rfl q228 q229 ar_X0_in rfl (Nat.le_of_ble_eq_true rfl)) rfl (Nat.le_of_eq (Nat.zero_add _)) (Nat.le_of_eq (Nat.zero_add _)) (fun v18 w18 h => ?_) (fun E18 w18 h => ?_) h
      · obtain ⟨x18, rfl, h⟩ := h
        refine wp_if_ne (n := 24) (t := 28) dX0_drawn_21 rfl (by decide) (fun c21 => ?_) (fun c21 => ?_)
        · replace h := h.1 c21
          refine wp_aload_n (n := 29) (i := 0) (q := 0) dX0_drawn_28 rfl rfl rfl ?_
          obtain ⟨x29, g29, h⟩ := h
          refine wp_gf (n := 32) dX0_drawn_29 rfl fl_X0_50 g29 ?_
          refine wp_istore (n := 34) (i := 4) (ls' := [(4, vI x29), (0, vR (some h0)), (1, vI i1), (2, vI i2), (3, vI i3)]) dX0_drawn_32 rfl (Nat.le_of_ble_eq_true rfl) rfl ?_
          refine wp_iload_n (n := 35) (i := 1) (q := 2) dX0_drawn_34 rfl rfl rfl ?_
          refine wp_istore (n := 37) (i := 5) (ls' := [(5, vI i1), (4, vI x29), (0, vR (some h0)), (1, vI i1), (2, vI i2), (3, vI i3)]) dX0_drawn_35 rfl (Nat.le_of_ble_eq_true rfl) rfl ?_
          refine wp_aload_n (n := 38) (i := 0) (q := 2) dX0_drawn_37 rfl rfl rfl ?_
          refine wp_aload_n (n := 39) (i := 0) (q := 2) dX0_drawn_38 rfl rfl rfl ?_
          obtain ⟨x39, g39, h⟩ := h
          refine wp_gf (n := 42) dX0_drawn_39 rfl fl_X0_47 g39 ?_
          obtain ⟨⟨fs42, o42⟩, h⟩ := h
          refine wp_call (n := 45) (K' := KX0_keeps) (rc' := rc) (rs' := rs) (aRun_V (K' := KX0_keeps) (As := [vR (some x39)]) (rest := []) (b := h0) (c0 := .inr (0, fs42)) dX0_drawn_42 (aCal_of kf_X0_keeps (Nat.le_of_ble_eq_true rfl)) q966 q968 qs44 ar_X0_keeps o42 (by decide : 0 < 9) rfl (Nat.le_of_ble_eq_true rfl)) rfl (Nat.le_of_eq (Nat.zero_add _)) (Nat.le_of_eq (Nat.zero_add _)) (fun v42 w42 h => ?_) (fun E42 w42 h => ?_) h
          · obtain ⟨rfl, h⟩ := h
            refine wp_iconst (n := 46) (v := 0) dX0_drawn_45 rfl (by decide) ?_
            refine wp_istore (n := 48) (i := 6) (ls' := [(6, vI 0), (5, vI i1), (4, vI x29), (0, vR (some h0)), (1, vI i1), (2, vI i2), (3, vI i3)]) dX0_drawn_46 rfl (Nat.le_of_ble_eq_true rfl) rfl ?_
            exact wp_sub [3, 4, 5, 6, 2, 1, 0] rfl h
          · exact h.elim
        · replace h := h.2 c21
          refine wp_ldc2 (n := 27) dX0_drawn_24 rfl q797 ?_
          exact wp_lreturn dX0_drawn_27 rfl h
      · exact h.elim
  · exact h.elim
set_option maxHeartbeats 1000000 in
theorem sg_X0_drawn_48 {h0 : Nat} {i1 : Int32} {i2 : Int32} {i3 : Int32} {i4 : Int32} {i5 : Int32} {i6 : Int32} {rc rs : Nat} {QR : Option aV → aW → Prop} {QX : String → aW → Prop} {w : aW} (h : (i2 ≤ i6 → isO w h0 0 ∧ ct (KX0_thenTold) 0 0 [vR (some h0), vI i3, vI i4] w (fun v130 w130 => ∃ x130 : Int64, v130 = some (vL x130) ∧ ∃ x137 : Nat, gf w130 h0 [0] 9 (vR (some x137)) ∧ isO w130 h0 0 ∧ ct (KX0_laysBack) 0 0 [vR (some h0), vR (some x137)] w130 (fun v140 w140 => v140 = none ∧ QR (some (vL x130)) w140) (fun E140 w140 => False)) (fun E130 w130 => False)) ∧ (¬ i2 ≤ i6 → 4 ≤ rc ∧ 960 ≤ rs ∧ isO w h0 0 ∧ ct (KX0_acts) 4 960 [vR (some h0), vI (((((i5 * 1103515245) + 12345).toUInt32 >>> (Int32.toUInt32 9 &&& Int32.toUInt32 31)).toInt32) - ((((i5 * 1103515245) + 12345).toUInt32 >>> (Int32.toUInt32 9 &&& Int32.toUInt32 31)).toInt32) / 24 * 24), vI (((((((i5 * 1103515245) + 12345) * 1103515245) + 12345).toUInt32 >>> (Int32.toUInt32 9 &&& Int32.toUInt32 31)).toInt32) - ((((((i5 * 1103515245) + 12345) * 1103515245) + 12345).toUInt32 >>> (Int32.toUInt32 9 &&& Int32.toUInt32 31)).toInt32) / 24 * 24), vI (((((((((i5 * 1103515245) + 12345) * 1103515245) + 12345) * 1103515245) + 12345).toUInt32 >>> (Int32.toUInt32 9 &&& Int32.toUInt32 31)).toInt32) - ((((((((i5 * 1103515245) + 12345) * 1103515245) + 12345) * 1103515245) + 12345).toUInt32 >>> (Int32.toUInt32 9 &&& Int32.toUInt32 31)).toInt32) / 24 * 24)] w (fun v115 w115 => ∃ x115 : Int32, v115 = some (vI x115) ∧ wp (KX0_drawn) (rc - 4) (rs - 960) QR QX 48 [(0, vR (some h0)), (1, vI i1), (2, vI i2), (3, vI i3), (4, vI i4), (5, vI ((((((i5 * 1103515245) + 12345) * 1103515245) + 12345) * 1103515245) + 12345)), (6, vI (i6 + 1))] [] w115) (fun E115 w115 => False))) : wp (KX0_drawn) rc rs QR QX 48 [(0, vR (some h0)), (1, vI i1), (2, vI i2), (3, vI i3), (4, vI i4), (5, vI i5), (6, vI i6)] [] w := by
  refine wp_iload (n := 50) (i := 6) (q := 6) dX0_drawn_48 rfl rfl ?_
  refine wp_iload_n (n := 51) (i := 2) (q := 2) dX0_drawn_50 rfl rfl rfl ?_
  refine wp_icmp_ge (n := 54) (t := 126) dX0_drawn_51 rfl (by decide) (fun c51 => ?_) (fun c51 => ?_)
  · replace h := h.1 c51
    refine wp_aload_n (n := 127) (i := 0) (q := 0) dX0_drawn_126 rfl rfl rfl ?_
    refine wp_iload_n (n := 128) (i := 3) (q := 3) dX0_drawn_127 rfl rfl rfl ?_
    refine wp_iload (n := 130) (i := 4) (q := 4) dX0_drawn_128 rfl rfl ?_
    obtain ⟨⟨fs130, o130⟩, h⟩ := h
    refine wp_call (n := 133) (K' := KX0_thenTold) (rc' := rc) (rs' := rs) (aRun_V (K' := KX0_thenTold) (As := [vI i3, vI i4]) (rest := []) (b := h0) (c0 := .inr (0, fs130)) dX0_drawn_130 (aCal_of kf_X0_thenTold (Nat.le_of_ble_eq_true rfl)) q986 q988 qs46 ar_X0_thenTold o130 (by decide : 0 < 9) rfl (Nat.le_of_ble_eq_true rfl)) rfl (Nat.le_of_eq (Nat.zero_add _)) (Nat.le_of_eq (Nat.zero_add _)) (fun v130 w130 h => ?_) (fun E130 w130 h => ?_) h
    · obtain ⟨x130, rfl, h⟩ := h
      refine wp_lstore (n := 135) (i := 6) (ls' := [(6, vL x130), (0, vR (some h0)), (1, vI i1), (2, vI i2), (3, vI i3), (4, vI i4), (5, vI i5)]) dX0_drawn_133 rfl (Nat.le_of_ble_eq_true rfl) rfl ?_
      refine wp_aload_n (n := 136) (i := 0) (q := 1) dX0_drawn_135 rfl rfl rfl ?_
      refine wp_aload_n (n := 137) (i := 0) (q := 1) dX0_drawn_136 rfl rfl rfl ?_
      obtain ⟨x137, g137, h⟩ := h
      refine wp_gf (n := 140) dX0_drawn_137 rfl fl_X0_47 g137 ?_
      obtain ⟨⟨fs140, o140⟩, h⟩ := h
      refine wp_call (n := 143) (K' := KX0_laysBack) (rc' := rc) (rs' := rs) (aRun_V (K' := KX0_laysBack) (As := [vR (some x137)]) (rest := []) (b := h0) (c0 := .inr (0, fs140)) dX0_drawn_140 (aCal_of kf_X0_laysBack (Nat.le_of_ble_eq_true rfl)) q1002 q1004 qs50 ar_X0_laysBack o140 (by decide : 0 < 9) rfl (Nat.le_of_ble_eq_true rfl)) rfl (Nat.le_of_eq (Nat.zero_add _)) (Nat.le_of_eq (Nat.zero_add _)) (fun v140 w140 h => ?_) (fun E140 w140 h => ?_) h
      · obtain ⟨rfl, h⟩ := h
        refine wp_lload (n := 145) (i := 6) (q := 0) dX0_drawn_143 rfl rfl ?_
        exact wp_lreturn dX0_drawn_145 rfl h
      · exact h.elim
    · exact h.elim
  · replace h := h.2 c51
    refine wp_iload (n := 56) (i := 5) (q := 5) dX0_drawn_54 rfl rfl ?_
    refine wp_ldcw (n := 59) dX0_drawn_56 rfl q973 ?_
    refine wp_imul (n := 60) dX0_drawn_59 rfl ?_
    refine wp_sipush (n := 63) (v := 12345) dX0_drawn_60 rfl (by decide) ?_
    refine wp_iadd (n := 64) dX0_drawn_63 rfl ?_
    refine wp_istore (n := 66) (i := 7) (ls' := [(7, vI ((i5 * 1103515245) + 12345)), (0, vR (some h0)), (1, vI i1), (2, vI i2), (3, vI i3), (4, vI i4), (5, vI i5), (6, vI i6)]) dX0_drawn_64 rfl (Nat.le_of_ble_eq_true rfl) rfl ?_
    refine wp_iload (n := 68) (i := 7) (q := 0) dX0_drawn_66 rfl rfl ?_
    refine wp_ldcw (n := 71) dX0_drawn_68 rfl q973 ?_
    refine wp_imul (n := 72) dX0_drawn_71 rfl ?_
    refine wp_sipush (n := 75) (v := 12345) dX0_drawn_72 rfl (by decide) ?_
    refine wp_iadd (n := 76) dX0_drawn_75 rfl ?_
    refine wp_istore (n := 78) (i := 8) (ls' := [(8, vI ((((i5 * 1103515245) + 12345) * 1103515245) + 12345)), (7, vI ((i5 * 1103515245) + 12345)), (0, vR (some h0)), (1, vI i1), (2, vI i2), (3, vI i3), (4, vI i4), (5, vI i5), (6, vI i6)]) dX0_drawn_76 rfl (Nat.le_of_ble_eq_true rfl) rfl ?_
    refine wp_iload (n := 80) (i := 8) (q := 0) dX0_drawn_78 rfl rfl ?_
    refine wp_ldcw (n := 83) dX0_drawn_80 rfl q973 ?_
    refine wp_imul (n := 84) dX0_drawn_83 rfl ?_
    refine wp_sipush (n := 87) (v := 12345) dX0_drawn_84 rfl (by decide) ?_
    refine wp_iadd (n := 88) dX0_drawn_87 rfl ?_
    refine wp_istore (n := 90) (i := 5) (ls' := [(5, vI ((((((i5 * 1103515245) + 12345) * 1103515245) + 12345) * 1103515245) + 12345)), (8, vI ((((i5 * 1103515245) + 12345) * 1103515245) + 12345)), (7, vI ((i5 * 1103515245) + 12345)), (0, vR (some h0)), (1, vI i1), (2, vI i2), (3, vI i3), (4, vI i4), (6, vI i6)]) dX0_drawn_88 rfl (Nat.le_of_ble_eq_true rfl) rfl ?_
    refine wp_aload_n (n := 91) (i := 0) (q := 3) dX0_drawn_90 rfl rfl rfl ?_
    refine wp_iload (n := 93) (i := 7) (q := 2) dX0_drawn_91 rfl rfl ?_
    refine wp_bipush (n := 95) (v := 9) dX0_drawn_93 rfl (by decide) ?_
    refine wp_iushr (n := 96) (z := (((i5 * 1103515245) + 12345).toUInt32 >>> (Int32.toUInt32 9 &&& Int32.toUInt32 31)).toInt32) dX0_drawn_95 rfl rfl ?_
    refine wp_bipush (n := 98) (v := 24) dX0_drawn_96 rfl (by decide) ?_
    refine wp_irem (n := 99) dX0_drawn_98 rfl (by decide) ?_
    refine wp_iload (n := 101) (i := 8) (q := 1) dX0_drawn_99 rfl rfl ?_
    refine wp_bipush (n := 103) (v := 9) dX0_drawn_101 rfl (by decide) ?_
    refine wp_iushr (n := 104) (z := (((((i5 * 1103515245) + 12345) * 1103515245) + 12345).toUInt32 >>> (Int32.toUInt32 9 &&& Int32.toUInt32 31)).toInt32) dX0_drawn_103 rfl rfl ?_
    refine wp_bipush (n := 106) (v := 24) dX0_drawn_104 rfl (by decide) ?_
    refine wp_irem (n := 107) dX0_drawn_106 rfl (by decide) ?_
    refine wp_iload (n := 109) (i := 5) (q := 0) dX0_drawn_107 rfl rfl ?_
    refine wp_bipush (n := 111) (v := 9) dX0_drawn_109 rfl (by decide) ?_
    refine wp_iushr (n := 112) (z := (((((((i5 * 1103515245) + 12345) * 1103515245) + 12345) * 1103515245) + 12345).toUInt32 >>> (Int32.toUInt32 9 &&& Int32.toUInt32 31)).toInt32) dX0_drawn_111 rfl rfl ?_
    refine wp_bipush (n := 114) (v := 24) dX0_drawn_112 rfl (by decide) ?_
    refine wp_irem (n := 115) dX0_drawn_114 rfl (by decide) ?_
    obtain ⟨b115, bb115, h⟩ := h
    obtain ⟨⟨fs115, o115⟩, h⟩ := h
    refine wp_call (n := 118) (K' := KX0_acts) (rc' := rc - 4) (rs' := rs - 960) (aRun_V (K' := KX0_acts) (As := [vI (((((i5 * 1103515245) + 12345).toUInt32 >>> (Int32.toUInt32 9 &&& Int32.toUInt32 31)).toInt32) - ((((i5 * 1103515245) + 12345).toUInt32 >>> (Int32.toUInt32 9 &&& Int32.toUInt32 31)).toInt32) / 24 * 24), vI (((((((i5 * 1103515245) + 12345) * 1103515245) + 12345).toUInt32 >>> (Int32.toUInt32 9 &&& Int32.toUInt32 31)).toInt32) - ((((((i5 * 1103515245) + 12345) * 1103515245) + 12345).toUInt32 >>> (Int32.toUInt32 9 &&& Int32.toUInt32 31)).toInt32) / 24 * 24), vI (((((((((i5 * 1103515245) + 12345) * 1103515245) + 12345) * 1103515245) + 12345).toUInt32 >>> (Int32.toUInt32 9 &&& Int32.toUInt32 31)).toInt32) - ((((((((i5 * 1103515245) + 12345) * 1103515245) + 12345) * 1103515245) + 12345).toUInt32 >>> (Int32.toUInt32 9 &&& Int32.toUInt32 31)).toInt32) / 24 * 24)]) (rest := []) (b := h0) (c0 := .inr (0, fs115)) dX0_drawn_115 (aCal_of kf_X0_acts (Nat.le_of_ble_eq_true rfl)) q974 q976 qs45 ar_X0_acts o115 (by decide : 0 < 9) rfl (Nat.le_of_ble_eq_true rfl)) rfl (by omega) (by omega) (fun v115 w115 h => ?_) (fun E115 w115 h => ?_) h
    · obtain ⟨x115, rfl, h⟩ := h
      refine wp_istore (n := 120) (i := 9) (ls' := [(9, vI x115), (5, vI ((((((i5 * 1103515245) + 12345) * 1103515245) + 12345) * 1103515245) + 12345)), (8, vI ((((i5 * 1103515245) + 12345) * 1103515245) + 12345)), (7, vI ((i5 * 1103515245) + 12345)), (0, vR (some h0)), (1, vI i1), (2, vI i2), (3, vI i3), (4, vI i4), (6, vI i6)]) dX0_drawn_118 rfl (Nat.le_of_ble_eq_true rfl) rfl ?_
      refine wp_iinc (n := 123) (i := 6) (q := 9) (v := i6 + 1) (ls' := [(6, vI (i6 + 1)), (9, vI x115), (5, vI ((((((i5 * 1103515245) + 12345) * 1103515245) + 12345) * 1103515245) + 12345)), (8, vI ((((i5 * 1103515245) + 12345) * 1103515245) + 12345)), (7, vI ((i5 * 1103515245) + 12345)), (0, vR (some h0)), (1, vI i1), (2, vI i2), (3, vI i3), (4, vI i4)]) dX0_drawn_120 rfl rfl rfl (Nat.le_of_ble_eq_true rfl) rfl ?_
      refine wp_goto (t := 48) dX0_drawn_123 (by decide) ?_
      exact wp_sub [5, 6, 7, 8, 9, 2, 0] rfl h
    · exact h.elim
set_option maxHeartbeats 1000000 in
theorem sg_X0_gathers_0 {h0 : Nat} {r1 : Option Nat} {rc rs : Nat} {QR : Option aV → aW → Prop} {QX : String → aW → Prop} {w : aW} (h : (r1 = none → 1 ≤ rc ∧ 8 ≤ rs ∧ QX "java/lang/NullPointerException" w) ∧ (∀ a3 : Nat, r1 = some a3 → ∃ x3 : Option Nat, gf w a3 [4, 5] 5 (vR x3) ∧ wp (KX0_gathers) rc rs QR QX 7 [(0, vR (some h0)), (1, vR (some a3)), (2, vI 0), (3, vR x3)] [] w)) : wp (KX0_gathers) rc rs QR QX 0 [(0, vR (some h0)), (1, vR r1)] [] w := by
  refine wp_iconst (n := 1) (v := 0) dX0_gathers_0 rfl (by decide) ?_
  refine wp_istore_n (n := 2) (i := 2) (ls' := [(2, vI 0), (0, vR (some h0)), (1, vR r1)]) dX0_gathers_1 rfl rfl (Nat.le_of_ble_eq_true rfl) rfl ?_
  refine wp_aload_n (n := 3) (i := 1) (q := 2) dX0_gathers_2 rfl rfl rfl ?_
  rcases opt_c r1 with ea3 | ⟨a3, ea3⟩
  · obtain ⟨b1, b2, h⟩ := h.1 ea3
    rw [ea3]
    refine wp_getfNull (rc' := 0) (rs' := 0) dX0_gathers_3 (fl_X0_92 4 (by decide)) (by omega) (by omega) (Nat.le_of_ble_eq_true rfl) ?_
    exact wpx_out (fun z hz => absurd hz List.not_mem_nil) h
  · replace h := h.2 a3 ea3
    rw [ea3]
    obtain ⟨x3, g3, h⟩ := h
    refine wp_gf (n := 6) dX0_gathers_3 rfl fl_X0_92 g3 ?_
    refine wp_astore_n (n := 7) (i := 3) (ls' := [(3, vR x3), (2, vI 0), (0, vR (some h0)), (1, vR (some a3))]) dX0_gathers_6 rfl rfl (Nat.le_of_ble_eq_true rfl) rfl ?_
    exact wp_sub [2, 3, 1, 0] rfl h
set_option maxHeartbeats 1000000 in
theorem sg_X0_gathers_7 {h0 : Nat} {r1 : Option Nat} {i2 : Int32} {r3 : Option Nat} {rc rs : Nat} {QR : Option aV → aW → Prop} {QX : String → aW → Prop} {w : aW} (h : (r3 = none → QR (some (vI i2)) w) ∧ (∀ a8 : Nat, r3 = some a8 → ∃ x12 : Nat, gf w a8 [6, 7] 6 (vR (some x12)) ∧ (¬ some x12 = r1 → QR (some (vI i2)) w) ∧ (some x12 = r1 → ∃ x20 : Nat, gf w h0 [0] 6 (vR (some x20)) ∧ ck w a8 [6, 7] ∧ pR w x20 3 i2 (some a8) (fun w25 => ∃ x30 : Option Nat, gf w25 a8 [6, 7] 5 (vR x30) ∧ wp (KX0_gathers) rc rs QR QX 7 [(0, vR (some h0)), (1, vR r1), (2, vI (i2 + 1)), (3, vR x30)] [] w25)))) : wp (KX0_gathers) rc rs QR QX 7 [(0, vR (some h0)), (1, vR r1), (2, vI i2), (3, vR r3)] [] w := by
  refine wp_aload_n (n := 8) (i := 3) (q := 3) dX0_gathers_7 rfl rfl rfl ?_
  rcases opt_c r3 with ea8 | ⟨a8, ea8⟩
  · replace h := h.1 ea8
    rw [ea8]
    refine wp_ifnull (n := 11) (t := 37) dX0_gathers_8 rfl (by decide) (fun _ => ?_) (fun z zz => nomatch zz)
    refine wp_iload_n (n := 38) (i := 2) (q := 2) dX0_gathers_37 rfl rfl rfl ?_
    exact wp_ireturn dX0_gathers_38 rfl h
  · replace h := h.2 a8 ea8
    rw [ea8]
    refine wp_ifnull (n := 11) (t := 37) dX0_gathers_8 rfl (by decide) (fun zz => nomatch zz) (fun _ _ => ?_)
    refine wp_aload_n (n := 12) (i := 3) (q := 3) dX0_gathers_11 rfl rfl rfl ?_
    obtain ⟨x12, g12, h⟩ := h
    refine wp_gf (n := 15) dX0_gathers_12 rfl fl_X0_95 g12 ?_
    refine wp_aload_n (n := 16) (i := 1) (q := 1) dX0_gathers_15 rfl rfl rfl ?_
    refine wp_acmp_ne (n := 19) (t := 37) dX0_gathers_16 rfl (by decide) (fun c16 => ?_) (fun c16 => ?_)
    · replace h := h.1 c16
      refine wp_iload_n (n := 38) (i := 2) (q := 2) dX0_gathers_37 rfl rfl rfl ?_
      exact wp_ireturn dX0_gathers_38 rfl h
    · replace h := h.2 c16
      refine wp_aload_n (n := 20) (i := 0) (q := 0) dX0_gathers_19 rfl rfl rfl ?_
      obtain ⟨x20, g20, h⟩ := h
      refine wp_gf (n := 23) dX0_gathers_20 rfl fl_X0_29 g20 ?_
      refine wp_iload_n (n := 24) (i := 2) (q := 2) dX0_gathers_23 rfl rfl rfl ?_
      refine wp_aload_n (n := 25) (i := 3) (q := 3) dX0_gathers_24 rfl rfl rfl ?_
      obtain ⟨k25, h⟩ := h
      refine wp_pR (n := 26) dX0_gathers_25 rfl (by decide) rfl cok_Snapshot (Or.inr ⟨_, rfl, k25⟩) (pR_mono h (fun w25 h => ?_))
      refine wp_iinc (n := 29) (i := 2) (q := 2) (v := i2 + 1) (ls' := [(2, vI (i2 + 1)), (0, vR (some h0)), (1, vR r1), (3, vR (some a8))]) dX0_gathers_26 rfl rfl rfl (Nat.le_of_ble_eq_true rfl) rfl ?_
      refine wp_aload_n (n := 30) (i := 3) (q := 3) dX0_gathers_29 rfl rfl rfl ?_
      obtain ⟨x30, g30, h⟩ := h
      refine wp_gf (n := 33) dX0_gathers_30 rfl fl_X0_99 g30 ?_
      refine wp_astore_n (n := 34) (i := 3) (ls' := [(3, vR x30), (2, vI (i2 + 1)), (0, vR (some h0)), (1, vR r1)]) dX0_gathers_33 rfl rfl (Nat.le_of_ble_eq_true rfl) rfl ?_
      refine wp_goto (t := 7) dX0_gathers_34 (by decide) ?_
      exact wp_sub [2, 3, 1, 0] rfl h
set_option maxHeartbeats 1000000 in
theorem sg_X0_expires_0 {h0 : Nat} {r1 : Option Nat} {i2 : Int32} {i3 : Int32} {rc rs : Nat} {QR : Option aV → aW → Prop} {QX : String → aW → Prop} {w : aW} (h : 1 ≤ rc ∧ 8 ≤ rs ∧ isO w h0 0 ∧ ct (KX0_gathers) 1 8 [vR (some h0), vR r1] w (fun v5 w5 => ∃ x5 : Int32, v5 = some (vI x5) ∧ wp (KX0_expires) (rc - 1) (rs - 8) QR QX 12 [(0, vR (some h0)), (1, vR r1), (2, vI i2), (3, vI i3), (4, vI 0), (5, vI (x5 - 1))] [] w5) (fun E5 w5 => (E5 = "java/lang/NullPointerException" ∧ QX "java/lang/NullPointerException" w5))) : wp (KX0_expires) rc rs QR QX 0 [(0, vR (some h0)), (1, vR r1), (2, vI i2), (3, vI i3)] [] w := by
  refine wp_iconst (n := 1) (v := 0) dX0_expires_0 rfl (by decide) ?_
  refine wp_istore (n := 3) (i := 4) (ls' := [(4, vI 0), (0, vR (some h0)), (1, vR r1), (2, vI i2), (3, vI i3)]) dX0_expires_1 rfl (Nat.le_of_ble_eq_true rfl) rfl ?_
  refine wp_aload_n (n := 4) (i := 0) (q := 1) dX0_expires_3 rfl rfl rfl ?_
  refine wp_aload_n (n := 5) (i := 1) (q := 2) dX0_expires_4 rfl rfl rfl ?_
  obtain ⟨b5, bb5, h⟩ := h
  obtain ⟨⟨fs5, o5⟩, h⟩ := h
  refine wp_call (n := 8) (K' := KX0_gathers) (rc' := rc - 1) (rs' := rs - 8) (aRun_V (K' := KX0_gathers) (As := [vR r1]) (rest := []) (b := h0) (c0 := .inr (0, fs5)) dX0_expires_5 (aCal_of kf_X0_gathers (Nat.le_of_ble_eq_true rfl)) q864 q866 qs37 ar_X0_gathers o5 (by decide : 0 < 9) rfl (Nat.le_of_ble_eq_true rfl)) rfl (by omega) (by omega) (fun v5 w5 h => ?_) (fun E5 w5 h => ?_) h
  · obtain ⟨x5, rfl, h⟩ := h
    refine wp_iconst (n := 9) (v := 1) dX0_expires_8 rfl (by decide) ?_
    refine wp_isub (n := 10) dX0_expires_9 rfl ?_
    refine wp_istore (n := 12) (i := 5) (ls' := [(5, vI (x5 - 1)), (4, vI 0), (0, vR (some h0)), (1, vR r1), (2, vI i2), (3, vI i3)]) dX0_expires_10 rfl (Nat.le_of_ble_eq_true rfl) rfl ?_
    exact wp_sub [2, 3, 4, 5, 1, 0] rfl h
  · obtain ⟨rfl, h⟩ := h
    exact wpx_out (fun z hz => absurd hz List.not_mem_nil) h
set_option maxHeartbeats 1000000 in
theorem sg_X0_expires_12 {h0 : Nat} {r1 : Option Nat} {i2 : Int32} {i3 : Int32} {i4 : Int32} {i5 : Int32} {rc rs : Nat} {QR : Option aV → aW → Prop} {QX : String → aW → Prop} {w : aW} (h : (i5 < i2 → QR (some (vI i4)) w) ∧ (¬ i5 < i2 → ∃ x19 : Nat, gf w h0 [0] 6 (vR (some x19)) ∧ ∃ x24 : Option Nat, gR w x19 3 i5 x24 ∧ ∃ a25 : Nat, x24 = some a25 ∧ ∃ x25 : Int32, gf w a25 [6, 7] 0 (vI x25) ∧ ¬ i3 = 0 ∧ ((x25 - x25 / i3 * i3) = 0 → wp (KX0_expires) rc rs QR QX 12 [(0, vR (some h0)), (1, vR r1), (2, vI i2), (3, vI i3), (4, vI i4), (5, vI (i5 + (-1)))] [] w) ∧ (¬ (x25 - x25 / i3 * i3) = 0 → ∃ x35 : Nat, gf w h0 [0] 6 (vR (some x35)) ∧ ∃ x40 : Option Nat, gR w x35 3 i5 x40 ∧ isO w h0 0 ∧ ct (KX0_isLoose) 0 0 [vR (some h0), vR x40] w (fun v41 w41 => ∃ x41 : Int32, v41 = some (vI x41) ∧ (x41 = 0 → wp (KX0_expires) rc rs QR QX 12 [(0, vR (some h0)), (1, vR r1), (2, vI i2), (3, vI i3), (4, vI i4), (5, vI (i5 + (-1)))] [] w41) ∧ (¬ x41 = 0 → ∃ x49 : Nat, gf w41 h0 [0] 6 (vR (some x49)) ∧ ∃ x54 : Option Nat, gR w41 x49 3 i5 x54 ∧ isO w41 h0 0 ∧ ct (KX0_removes) 0 0 [vR (some h0), vR x54] w41 (fun v55 w55 => ∃ x55 : Int32, v55 = some (vI x55) ∧ wp (KX0_expires) rc rs QR QX 12 [(0, vR (some h0)), (1, vR r1), (2, vI i2), (3, vI i3), (4, vI (i4 + 1)), (5, vI (i5 + (-1)))] [] w55) (fun E55 w55 => False))) (fun E41 w41 => False)))) : wp (KX0_expires) rc rs QR QX 12 [(0, vR (some h0)), (1, vR r1), (2, vI i2), (3, vI i3), (4, vI i4), (5, vI i5)] [] w := by
  refine wp_iload (n := 14) (i := 5) (q := 5) dX0_expires_12 rfl rfl ?_
  refine wp_iload_n (n := 15) (i := 2) (q := 2) dX0_expires_14 rfl rfl rfl ?_
  refine wp_icmp_lt (n := 18) (t := 69) dX0_expires_15 rfl (by decide) (fun c15 => ?_) (fun c15 => ?_)
  · replace h := h.1 c15
    refine wp_iload (n := 71) (i := 4) (q := 4) dX0_expires_69 rfl rfl ?_
    exact wp_ireturn dX0_expires_71 rfl h
  · replace h := h.2 c15
    refine wp_aload_n (n := 19) (i := 0) (q := 0) dX0_expires_18 rfl rfl rfl ?_
    obtain ⟨x19, g19, h⟩ := h
    refine wp_gf (n := 22) dX0_expires_19 rfl fl_X0_29 g19 ?_
    refine wp_iload (n := 24) (i := 5) (q := 5) dX0_expires_22 rfl rfl ?_
    obtain ⟨x24, g24, h⟩ := h
    refine wp_gR (n := 25) dX0_expires_24 rfl (by decide) g24 ?_
    obtain ⟨a25, ea25, h⟩ := h
    rw [ea25]
    obtain ⟨x25, g25, h⟩ := h
    refine wp_gf (n := 28) dX0_expires_25 rfl fl_X0_197 g25 ?_
    refine wp_iload_n (n := 29) (i := 3) (q := 3) dX0_expires_28 rfl rfl rfl ?_
    obtain ⟨z29, h⟩ := h
    refine wp_irem (n := 30) dX0_expires_29 rfl z29 ?_
    refine wp_if_eq (n := 33) (t := 63) dX0_expires_30 rfl (by decide) (fun c30 => ?_) (fun c30 => ?_)
    · replace h := h.1 c30
      refine wp_iinc (n := 66) (i := 5) (q := 5) (v := i5 + (-1)) (ls' := [(5, vI (i5 + (-1))), (0, vR (some h0)), (1, vR r1), (2, vI i2), (3, vI i3), (4, vI i4)]) dX0_expires_63 rfl rfl rfl (Nat.le_of_ble_eq_true rfl) rfl ?_
      refine wp_goto (t := 12) dX0_expires_66 (by decide) ?_
      exact wp_sub [1, 2, 3, 4, 5, 0] rfl h
    · replace h := h.2 c30
      refine wp_aload_n (n := 34) (i := 0) (q := 0) dX0_expires_33 rfl rfl rfl ?_
      refine wp_aload_n (n := 35) (i := 0) (q := 0) dX0_expires_34 rfl rfl rfl ?_
      obtain ⟨x35, g35, h⟩ := h
      refine wp_gf (n := 38) dX0_expires_35 rfl fl_X0_29 g35 ?_
      refine wp_iload (n := 40) (i := 5) (q := 5) dX0_expires_38 rfl rfl ?_
      obtain ⟨x40, g40, h⟩ := h
      refine wp_gR (n := 41) dX0_expires_40 rfl (by decide) g40 ?_
      obtain ⟨⟨fs41, o41⟩, h⟩ := h
      refine wp_call (n := 44) (K' := KX0_isLoose) (rc' := rc) (rs' := rs) (aRun_V (K' := KX0_isLoose) (As := [vR x40]) (rest := []) (b := h0) (c0 := .inr (0, fs41)) dX0_expires_41 (aCal_of kf_X0_isLoose (Nat.le_of_ble_eq_true rfl)) q640 q642 qs19 ar_X0_isLoose o41 (by decide : 0 < 9) rfl (Nat.le_of_ble_eq_true rfl)) rfl (Nat.le_of_eq (Nat.zero_add _)) (Nat.le_of_eq (Nat.zero_add _)) (fun v41 w41 h => ?_) (fun E41 w41 h => ?_) h
      · obtain ⟨x41, rfl, h⟩ := h
        refine wp_if_eq (n := 47) (t := 63) dX0_expires_44 rfl (by decide) (fun c44 => ?_) (fun c44 => ?_)
        · replace h := h.1 c44
          refine wp_iinc (n := 66) (i := 5) (q := 5) (v := i5 + (-1)) (ls' := [(5, vI (i5 + (-1))), (0, vR (some h0)), (1, vR r1), (2, vI i2), (3, vI i3), (4, vI i4)]) dX0_expires_63 rfl rfl rfl (Nat.le_of_ble_eq_true rfl) rfl ?_
          refine wp_goto (t := 12) dX0_expires_66 (by decide) ?_
          exact wp_sub [1, 2, 3, 4, 5, 0] rfl h
        · replace h := h.2 c44
          refine wp_aload_n (n := 48) (i := 0) (q := 0) dX0_expires_47 rfl rfl rfl ?_
          refine wp_aload_n (n := 49) (i := 0) (q := 0) dX0_expires_48 rfl rfl rfl ?_
          obtain ⟨x49, g49, h⟩ := h
          refine wp_gf (n := 52) dX0_expires_49 rfl fl_X0_29 g49 ?_
          refine wp_iload (n := 54) (i := 5) (q := 5) dX0_expires_52 rfl rfl ?_
          obtain ⟨x54, g54, h⟩ := h
          refine wp_gR (n := 55) dX0_expires_54 rfl (by decide) g54 ?_
          obtain ⟨⟨fs55, o55⟩, h⟩ := h
          refine wp_call (n := 58) (K' := KX0_removes) (rc' := rc) (rs' := rs) (aRun_V (K' := KX0_removes) (As := [vR x54]) (rest := []) (b := h0) (c0 := .inr (0, fs55)) dX0_expires_55 (aCal_of kf_X0_removes (Nat.le_of_ble_eq_true rfl)) q660 q662 qs22 ar_X0_removes o55 (by decide : 0 < 9) rfl (Nat.le_of_ble_eq_true rfl)) rfl (Nat.le_of_eq (Nat.zero_add _)) (Nat.le_of_eq (Nat.zero_add _)) (fun v55 w55 h => ?_) (fun E55 w55 h => ?_) h
          · obtain ⟨x55, rfl, h⟩ := h
            refine wp_istore (n := 60) (i := 6) (ls' := [(6, vI x55), (0, vR (some h0)), (1, vR r1), (2, vI i2), (3, vI i3), (4, vI i4), (5, vI i5)]) dX0_expires_58 rfl (Nat.le_of_ble_eq_true rfl) rfl ?_
            refine wp_iinc (n := 63) (i := 4) (q := 5) (v := i4 + 1) (ls' := [(4, vI (i4 + 1)), (6, vI x55), (0, vR (some h0)), (1, vR r1), (2, vI i2), (3, vI i3), (5, vI i5)]) dX0_expires_60 rfl rfl rfl (Nat.le_of_ble_eq_true rfl) rfl ?_
            refine wp_iinc (n := 66) (i := 5) (q := 6) (v := i5 + (-1)) (ls' := [(5, vI (i5 + (-1))), (4, vI (i4 + 1)), (6, vI x55), (0, vR (some h0)), (1, vR r1), (2, vI i2), (3, vI i3)]) dX0_expires_63 rfl rfl rfl (Nat.le_of_ble_eq_true rfl) rfl ?_
            refine wp_goto (t := 12) dX0_expires_66 (by decide) ?_
            exact wp_sub [3, 4, 5, 6, 1, 0] rfl h
          · exact h.elim
      · exact h.elim
set_option maxHeartbeats 1000000 in
theorem sg_X0_expire_0 {h0 : Nat} {i1 : Int32} {i2 : Int32} {i3 : Int32} {rc rs : Nat} {QR : Option aV → aW → Prop} {QX : String → aW → Prop} {w : aW} (h : ct (KX0_in) 0 0 [vL (Int32.toInt64 i2), vL 0, vL 20] w (fun v6 w6 => ∃ x6 : Int32, v6 = some (vI x6) ∧ (x6 = 0 → QR (some (vI (-2))) w6) ∧ (¬ x6 = 0 → ct (KX0_in) 0 0 [vL (Int32.toInt64 i3), vL 1, vL 100] w6 (fun v18 w18 => ∃ x18 : Int32, v18 = some (vI x18) ∧ (¬ x18 = 0 → 1 ≤ rc ∧ 6 ≤ rs ∧ isO w18 h0 0 ∧ ct (KX0_thingAt) 1 6 [vR (some h0), vI i1] w18 (fun v30 w30 => ∃ x30 : Option Nat, v30 = some (vR x30) ∧ (x30 = none → 1 ≤ (rc - 1) ∧ 8 ≤ (rs - 6) ∧ isO w30 h0 0 ∧ ct (KX0_expires) 1 8 [vR (some h0), vR none, vI i2, vI i3] w30 (fun v38 w38 => ∃ x38 : Int32, v38 = some (vI x38) ∧ QR (some (vI x38)) w38) (fun E38 w38 => (E38 = "java/lang/NullPointerException" ∧ QR (some (vI (-11))) w38))) ∧ (∀ a33 : Nat, x30 = some a33 → ((ck w30 a33 [4, 5] ∧ 1 ≤ (rc - 1) ∧ 8 ≤ (rs - 6) ∧ isO w30 h0 0 ∧ ct (KX0_expires) 1 8 [vR (some h0), vR (some a33), vI i2, vI i3] w30 (fun v38 w38 => ∃ x38 : Int32, v38 = some (vI x38) ∧ QR (some (vI x38)) w38) (fun E38 w38 => (E38 = "java/lang/NullPointerException" ∧ QR (some (vI (-11))) w38))) ∨ (ck w30 a33 [6, 7, 8] ∧ 3 ≤ (rc - 1) ∧ 950 ≤ (rs - 6) ∧ QR (some (vI (-13))) w30)))) (fun E30 w30 => (E30 = "java/lang/IndexOutOfBoundsException" ∧ QR (some (vI (-12))) w30))) ∧ (x18 = 0 → QR (some (vI (-2))) w18)) (fun E18 w18 => False))) (fun E6 w6 => False)) : wp (KX0_expire) rc rs QR QX 0 [(0, vR (some h0)), (1, vI i1), (2, vI i2), (3, vI i3)] [] w := by
  refine wp_iload_n (n := 1) (i := 2) (q := 2) dX0_expire_0 rfl rfl rfl ?_
  refine wp_i2l (n := 2) dX0_expire_1 rfl ?_
  refine wp_lconst (n := 3) (v := 0) dX0_expire_2 rfl (by decide) ?_
  refine wp_ldc2 (n := 6) dX0_expire_3 rfl q890 ?_
  refine wp_call (n := 9) (K' := KX0_in) (rc' := rc) (rs' := rs) (aRun_S (K' := KX0_in) (As := [vL (Int32.toInt64 i2), vL 0, vL 20]) (rest := []) dX0_expire_6 (aCal_of kf_X0_in (Nat.le_of_ble_eq_true rfl)) rfl q228 q229 ar_X0_in rfl (Nat.le_of_ble_eq_true rfl)) rfl (Nat.le_of_eq (Nat.zero_add _)) (Nat.le_of_eq (Nat.zero_add _)) (fun v6 w6 h => ?_) (fun E6 w6 h => ?_) h
  · obtain ⟨x6, rfl, h⟩ := h
    refine wp_if_eq (n := 12) (t := 24) dX0_expire_9 rfl (by decide) (fun c9 => ?_) (fun c9 => ?_)
    · replace h := h.1 c9
      refine wp_bipush (n := 26) (v := (-2)) dX0_expire_24 rfl (by decide) ?_
      exact wp_ireturn dX0_expire_26 rfl h
    · replace h := h.2 c9
      refine wp_iload_n (n := 13) (i := 3) (q := 3) dX0_expire_12 rfl rfl rfl ?_
      refine wp_i2l (n := 14) dX0_expire_13 rfl ?_
      refine wp_lconst (n := 15) (v := 1) dX0_expire_14 rfl (by decide) ?_
      refine wp_ldc2 (n := 18) dX0_expire_15 rfl q891 ?_
      refine wp_call (n := 21) (K' := KX0_in) (rc' := rc) (rs' := rs) (aRun_S (K' := KX0_in) (As := [vL (Int32.toInt64 i3), vL 1, vL 100]) (rest := []) dX0_expire_18 (aCal_of kf_X0_in (Nat.le_of_ble_eq_true rfl)) rfl q228 q229 ar_X0_in rfl (Nat.le_of_ble_eq_true rfl)) rfl (Nat.le_of_eq (Nat.zero_add _)) (Nat.le_of_eq (Nat.zero_add _)) (fun v18 w18 h => ?_) (fun E18 w18 h => ?_) h
      · obtain ⟨x18, rfl, h⟩ := h
        refine wp_if_ne (n := 24) (t := 27) dX0_expire_21 rfl (by decide) (fun c21 => ?_) (fun c21 => ?_)
        · replace h := h.1 c21
          refine wp_aload_n (n := 28) (i := 0) (q := 0) dX0_expire_27 rfl rfl rfl ?_
          refine wp_aload_n (n := 29) (i := 0) (q := 0) dX0_expire_28 rfl rfl rfl ?_
          refine wp_iload_n (n := 30) (i := 1) (q := 1) dX0_expire_29 rfl rfl rfl ?_
          obtain ⟨b30, bb30, h⟩ := h
          obtain ⟨⟨fs30, o30⟩, h⟩ := h
          refine wp_call (n := 33) (K' := KX0_thingAt) (rc' := rc - 1) (rs' := rs - 6) (aRun_V (K' := KX0_thingAt) (As := [vI i1]) (rest := [vR (some h0)]) (b := h0) (c0 := .inr (0, fs30)) dX0_expire_30 (aCal_of kf_X0_thingAt (Nat.le_of_ble_eq_true rfl)) q451 q453 qs4 ar_X0_thingAt o30 (by decide : 0 < 9) rfl (Nat.le_of_ble_eq_true rfl)) rfl (by omega) (by omega) (fun v30 w30 h => ?_) (fun E30 w30 h => ?_) h
          · obtain ⟨x30, rfl, h⟩ := h
            rcases opt_c x30 with ea33 | ⟨a33, ea33⟩
            · replace h := h.1 ea33
              rw [ea33]
              refine wp_castN (n := 36) dX0_expire_33 rfl ?_
              refine wp_iload_n (n := 37) (i := 2) (q := 2) dX0_expire_36 rfl rfl rfl ?_
              refine wp_iload_n (n := 38) (i := 3) (q := 3) dX0_expire_37 rfl rfl rfl ?_
              obtain ⟨b38, bb38, h⟩ := h
              obtain ⟨⟨fs38, o38⟩, h⟩ := h
              refine wp_call (n := 41) (K' := KX0_expires) (rc' := rc - 1 - 1) (rs' := rs - 6 - 8) (aRun_V (K' := KX0_expires) (As := [vR none, vI i2, vI i3]) (rest := []) (b := h0) (c0 := .inr (0, fs38)) dX0_expire_38 (aCal_of kf_X0_expires (Nat.le_of_ble_eq_true rfl)) q892 q894 qs40 ar_X0_expires o38 (by decide : 0 < 9) rfl (Nat.le_of_ble_eq_true rfl)) rfl (by omega) (by omega) (fun v38 w38 h => ?_) (fun E38 w38 h => ?_) h
              · obtain ⟨x38, rfl, h⟩ := h
                exact wp_ireturn dX0_expire_41 rfl h
              · obtain ⟨rfl, h⟩ := h
                refine wpx_catch (nm := "java/lang/NullPointerException") [(27, 41, 42, 53)] (27, 41, 47, 169) [(27, 41, 52, 171)] rfl (fun z hz => by have hz : z ∈ ([(27, 41, 42, 53)] : List (Nat × Nat × Nat × Nat)) := hz; simp only [List.mem_cons, List.not_mem_nil, or_false] at hz; subst hz; exact Or.inr ⟨by decide, "java/lang/IndexOutOfBoundsException", q320, nc_NullPointerException_IndexOutOfBoundsException⟩) (by decide) (by decide) q411 q433 (fun q9 => ?_)
                refine wp_astore (n := 49) (i := 4) (ls' := [(4, vR (some q9)), (0, vR (some h0)), (1, vI i1), (2, vI i2), (3, vI i3)]) dX0_expire_47 rfl (Nat.le_of_ble_eq_true rfl) rfl ?_
                refine wp_bipush (n := 51) (v := (-11)) dX0_expire_49 rfl (by decide) ?_
                exact wp_ireturn dX0_expire_51 rfl h
            · replace h := h.2 a33 ea33
              rw [ea33]
              rcases h with h | h
              · obtain ⟨k33, h⟩ := h
                refine wp_ckY (n := 36) dX0_expire_33 rfl q235 cok_Folder k33 ?_
                refine wp_iload_n (n := 37) (i := 2) (q := 2) dX0_expire_36 rfl rfl rfl ?_
                refine wp_iload_n (n := 38) (i := 3) (q := 3) dX0_expire_37 rfl rfl rfl ?_
                obtain ⟨b38, bb38, h⟩ := h
                obtain ⟨⟨fs38, o38⟩, h⟩ := h
                refine wp_call (n := 41) (K' := KX0_expires) (rc' := rc - 1 - 1) (rs' := rs - 6 - 8) (aRun_V (K' := KX0_expires) (As := [vR (some a33), vI i2, vI i3]) (rest := []) (b := h0) (c0 := .inr (0, fs38)) dX0_expire_38 (aCal_of kf_X0_expires (Nat.le_of_ble_eq_true rfl)) q892 q894 qs40 ar_X0_expires o38 (by decide : 0 < 9) rfl (Nat.le_of_ble_eq_true rfl)) rfl (by omega) (by omega) (fun v38 w38 h => ?_) (fun E38 w38 h => ?_) h
                · obtain ⟨x38, rfl, h⟩ := h
                  exact wp_ireturn dX0_expire_41 rfl h
                · obtain ⟨rfl, h⟩ := h
                  refine wpx_catch (nm := "java/lang/NullPointerException") [(27, 41, 42, 53)] (27, 41, 47, 169) [(27, 41, 52, 171)] rfl (fun z hz => by have hz : z ∈ ([(27, 41, 42, 53)] : List (Nat × Nat × Nat × Nat)) := hz; simp only [List.mem_cons, List.not_mem_nil, or_false] at hz; subst hz; exact Or.inr ⟨by decide, "java/lang/IndexOutOfBoundsException", q320, nc_NullPointerException_IndexOutOfBoundsException⟩) (by decide) (by decide) q411 q433 (fun q9 => ?_)
                  refine wp_astore (n := 49) (i := 4) (ls' := [(4, vR (some q9)), (0, vR (some h0)), (1, vI i1), (2, vI i2), (3, vI i3)]) dX0_expire_47 rfl (Nat.le_of_ble_eq_true rfl) rfl ?_
                  refine wp_bipush (n := 51) (v := (-11)) dX0_expire_49 rfl (by decide) ?_
                  exact wp_ireturn dX0_expire_51 rfl h
              · obtain ⟨k33, b1, b2, h⟩ := h
                refine wp_ckX (rc' := 0) (rs' := 0) dX0_expire_33 q235 cno_Folder sn_Folder k33 (by omega) (by omega) (Nat.le_of_ble_eq_true rfl) ?_
                refine wpx_catch (nm := "java/lang/ClassCastException") [(27, 41, 42, 53), (27, 41, 47, 169)] (27, 41, 52, 171) [] rfl (fun z hz => by have hz : z ∈ ([(27, 41, 42, 53), (27, 41, 47, 169)] : List (Nat × Nat × Nat × Nat)) := hz; simp only [List.mem_cons, List.not_mem_nil, or_false] at hz; rcases hz with rfl | rfl; exact Or.inr ⟨by decide, "java/lang/IndexOutOfBoundsException", q320, nc_ClassCastException_IndexOutOfBoundsException⟩; exact Or.inr ⟨by decide, "java/lang/NullPointerException", q411, nc_ClassCastException_NullPointerException⟩) (by decide) (by decide) q436 q448 (fun q9 => ?_)
                refine wp_astore (n := 54) (i := 4) (ls' := [(4, vR (some q9)), (0, vR (some h0)), (1, vI i1), (2, vI i2), (3, vI i3)]) dX0_expire_52 rfl (Nat.le_of_ble_eq_true rfl) rfl ?_
                refine wp_bipush (n := 56) (v := (-13)) dX0_expire_54 rfl (by decide) ?_
                exact wp_ireturn dX0_expire_56 rfl h
          · obtain ⟨rfl, h⟩ := h
            refine wpx_catch (nm := "java/lang/IndexOutOfBoundsException") [] (27, 41, 42, 53) [(27, 41, 47, 169), (27, 41, 52, 171)] rfl (fun z hz => absurd hz List.not_mem_nil) (by decide) (by decide) q320 q459 (fun q9 => ?_)
            refine wp_astore (n := 44) (i := 4) (ls' := [(4, vR (some q9)), (0, vR (some h0)), (1, vI i1), (2, vI i2), (3, vI i3)]) dX0_expire_42 rfl (Nat.le_of_ble_eq_true rfl) rfl ?_
            refine wp_bipush (n := 46) (v := (-12)) dX0_expire_44 rfl (by decide) ?_
            exact wp_ireturn dX0_expire_46 rfl h
        · replace h := h.2 c21
          refine wp_bipush (n := 26) (v := (-2)) dX0_expire_24 rfl (by decide) ?_
          exact wp_ireturn dX0_expire_26 rfl h
      · exact h.elim
  · exact h.elim
set_option maxHeartbeats 1000000 in
theorem sg_X0_mostFrom_0 {dd : Nat} {h0 : Nat} {i1 : Int32} {i2 : Int32} {i3 : Int32} {rc rs : Nat} {QR : Option aV → aW → Prop} {QX : String → aW → Prop} {w : aW} (h : (i2 ≤ i1 → QR (some (vL 0)) w) ∧ (¬ i2 ≤ i1 → (¬ i3 = 0 → ∃ e17 : Nat, kD (KX0_mostFrom e17) + 1 ≤ kD (KX0_mostFrom dd) ∧ isO w h0 0 ∧ ct (KX0_mostFrom e17) 0 0 [vR (some h0), vI (i1 + 1), vI i2, vI i3] w (fun v17 w17 => ∃ x17 : Int64, v17 = some (vL x17) ∧ wp (KX0_mostFrom dd) rc rs QR QX 25 [(0, vR (some h0)), (1, vI i1), (2, vI i2), (3, vI i3), (4, vL x17), (6, vI i1)] [] w17) (fun E17 w17 => False)) ∧ (i3 = 0 → QR (some (vL 0)) w))) : wp (KX0_mostFrom dd) rc rs QR QX 0 [(0, vR (some h0)), (1, vI i1), (2, vI i2), (3, vI i3)] [] w := by
  refine wp_iload_n (n := 1) (i := 1) (q := 1) dX0_mostFrom_0 rfl rfl rfl ?_
  refine wp_iload_n (n := 2) (i := 2) (q := 2) dX0_mostFrom_1 rfl rfl rfl ?_
  refine wp_icmp_ge (n := 5) (t := 9) dX0_mostFrom_2 rfl (by decide) (fun c2 => ?_) (fun c2 => ?_)
  · replace h := h.1 c2
    refine wp_lconst (n := 10) (v := 0) dX0_mostFrom_9 rfl (by decide) ?_
    exact wp_lreturn dX0_mostFrom_10 rfl h
  · replace h := h.2 c2
    refine wp_iload_n (n := 6) (i := 3) (q := 3) dX0_mostFrom_5 rfl rfl rfl ?_
    refine wp_if_ne (n := 9) (t := 11) dX0_mostFrom_6 rfl (by decide) (fun c6 => ?_) (fun c6 => ?_)
    · replace h := h.1 c6
      refine wp_aload_n (n := 12) (i := 0) (q := 0) dX0_mostFrom_11 rfl rfl rfl ?_
      refine wp_iload_n (n := 13) (i := 1) (q := 1) dX0_mostFrom_12 rfl rfl rfl ?_
      refine wp_iconst (n := 14) (v := 1) dX0_mostFrom_13 rfl (by decide) ?_
      refine wp_iadd (n := 15) dX0_mostFrom_14 rfl ?_
      refine wp_iload_n (n := 16) (i := 2) (q := 2) dX0_mostFrom_15 rfl rfl rfl ?_
      refine wp_iload_n (n := 17) (i := 3) (q := 3) dX0_mostFrom_16 rfl rfl rfl ?_
      obtain ⟨e17, y17, h⟩ := h
      obtain ⟨⟨fs17, o17⟩, h⟩ := h
      refine wp_call (n := 20) (K' := KX0_mostFrom e17) (rc' := rc) (rs' := rs) (aRun_V (K' := KX0_mostFrom e17) (As := [vI (i1 + 1), vI i2, vI i3]) (rest := []) (b := h0) (c0 := .inr (0, fs17)) dX0_mostFrom_17 (aCal_of (kf_X0_mostFrom _) y17) q871 q873 qs38 ar_X0_mostFrom o17 (by decide : 0 < 9) rfl (Nat.le_of_ble_eq_true rfl)) rfl (Nat.le_of_eq (Nat.zero_add _)) (Nat.le_of_eq (Nat.zero_add _)) (fun v17 w17 h => ?_) (fun E17 w17 h => ?_) h
      · obtain ⟨x17, rfl, h⟩ := h
        refine wp_lstore (n := 22) (i := 4) (ls' := [(4, vL x17), (0, vR (some h0)), (1, vI i1), (2, vI i2), (3, vI i3)]) dX0_mostFrom_20 rfl (Nat.le_of_ble_eq_true rfl) rfl ?_
        refine wp_iload_n (n := 23) (i := 1) (q := 2) dX0_mostFrom_22 rfl rfl rfl ?_
        refine wp_istore (n := 25) (i := 6) (ls' := [(6, vI i1), (4, vL x17), (0, vR (some h0)), (1, vI i1), (2, vI i2), (3, vI i3)]) dX0_mostFrom_23 rfl (Nat.le_of_ble_eq_true rfl) rfl ?_
        exact wp_sub [2, 3, 4, 5, 1, 0] rfl h
      · exact h.elim
    · replace h := h.2 c6
      refine wp_lconst (n := 10) (v := 0) dX0_mostFrom_9 rfl (by decide) ?_
      exact wp_lreturn dX0_mostFrom_10 rfl h
set_option maxHeartbeats 1000000 in
theorem sg_X0_mostFrom_25 {dd : Nat} {h0 : Nat} {i1 : Int32} {i2 : Int32} {i3 : Int32} {l4 : Int64} {i6 : Int32} {rc rs : Nat} {QR : Option aV → aW → Prop} {QX : String → aW → Prop} {w : aW} (h : (i2 ≤ i6 → QR (some (vL l4)) w) ∧ (¬ i2 ≤ i6 → (i3 ≤ (i6 - i1) → QR (some (vL l4)) w) ∧ (¬ i3 ≤ (i6 - i1) → ∃ x41 : Nat, gf w h0 [0] 6 (vR (some x41)) ∧ ∃ x46 : Option Nat, gR w x41 3 i6 x46 ∧ isO w h0 0 ∧ ct (KX0_isLoose) 0 0 [vR (some h0), vR x46] w (fun v47 w47 => ∃ x47 : Int32, v47 = some (vI x47) ∧ (¬ x47 = 0 → ∃ x60 : Nat, gf w47 h0 [0] 6 (vR (some x60)) ∧ ∃ x65 : Option Nat, gR w47 x60 3 i6 x65 ∧ ∃ x67 : Nat, gf w47 h0 [0] 6 (vR (some x67)) ∧ ∃ x71 : Option Nat, gR w47 x67 3 i1 x71 ∧ isO w47 h0 0 ∧ ct (KX0_rangeOf) 0 0 [vR (some h0), vR x65, vR x71] w47 (fun v72 w72 => ∃ x72 : Int64, v72 = some (vL x72) ∧ ∃ e89 : Nat, kD (KX0_mostFrom e89) + 1 ≤ kD (KX0_mostFrom dd) ∧ isO w72 h0 0 ∧ ct (KX0_mostFrom e89) 0 0 [vR (some h0), vI (i6 + 2), vI i2, vI (i3 - ((i6 - i1) + 1))] w72 (fun v89 w89 => ∃ x89 : Int64, v89 = some (vL x89) ∧ wp (KX0_mostFrom dd) rc rs QR QX 25 [(0, vR (some h0)), (1, vI i1), (2, vI i2), (3, vI i3), (4, vL (if (x72 + x89) < l4 then l4 else (x72 + x89))), (6, vI (i6 + 1))] [] w89) (fun E89 w89 => False)) (fun E72 w72 => False)) ∧ (x47 = 0 → QR (some (vL l4)) w47)) (fun E47 w47 => False)))) : wp (KX0_mostFrom dd) rc rs QR QX 25 [(0, vR (some h0)), (1, vI i1), (2, vI i2), (3, vI i3), (4, vL l4), (6, vI i6)] [] w := by
  refine wp_iload (n := 27) (i := 6) (q := 5) dX0_mostFrom_25 rfl rfl ?_
  refine wp_iload_n (n := 28) (i := 2) (q := 2) dX0_mostFrom_27 rfl rfl rfl ?_
  refine wp_icmp_ge (n := 31) (t := 104) dX0_mostFrom_28 rfl (by decide) (fun c28 => ?_) (fun c28 => ?_)
  · replace h := h.1 c28
    refine wp_lload (n := 106) (i := 4) (q := 4) dX0_mostFrom_104 rfl rfl ?_
    exact wp_lreturn dX0_mostFrom_106 rfl h
  · replace h := h.2 c28
    refine wp_iload (n := 33) (i := 6) (q := 5) dX0_mostFrom_31 rfl rfl ?_
    refine wp_iload_n (n := 34) (i := 1) (q := 1) dX0_mostFrom_33 rfl rfl rfl ?_
    refine wp_isub (n := 35) dX0_mostFrom_34 rfl ?_
    refine wp_iload_n (n := 36) (i := 3) (q := 3) dX0_mostFrom_35 rfl rfl rfl ?_
    refine wp_icmp_ge (n := 39) (t := 104) dX0_mostFrom_36 rfl (by decide) (fun c36 => ?_) (fun c36 => ?_)
    · replace h := h.1 c36
      refine wp_lload (n := 106) (i := 4) (q := 4) dX0_mostFrom_104 rfl rfl ?_
      exact wp_lreturn dX0_mostFrom_106 rfl h
    · replace h := h.2 c36
      refine wp_aload_n (n := 40) (i := 0) (q := 0) dX0_mostFrom_39 rfl rfl rfl ?_
      refine wp_aload_n (n := 41) (i := 0) (q := 0) dX0_mostFrom_40 rfl rfl rfl ?_
      obtain ⟨x41, g41, h⟩ := h
      refine wp_gf (n := 44) dX0_mostFrom_41 rfl fl_X0_29 g41 ?_
      refine wp_iload (n := 46) (i := 6) (q := 5) dX0_mostFrom_44 rfl rfl ?_
      obtain ⟨x46, g46, h⟩ := h
      refine wp_gR (n := 47) dX0_mostFrom_46 rfl (by decide) g46 ?_
      obtain ⟨⟨fs47, o47⟩, h⟩ := h
      refine wp_call (n := 50) (K' := KX0_isLoose) (rc' := rc) (rs' := rs) (aRun_V (K' := KX0_isLoose) (As := [vR x46]) (rest := []) (b := h0) (c0 := .inr (0, fs47)) dX0_mostFrom_47 (aCal_of kf_X0_isLoose (by show 4 + 1 ≤ 6 + dd; omega)) q640 q642 qs19 ar_X0_isLoose o47 (by decide : 0 < 9) rfl (Nat.le_of_ble_eq_true rfl)) rfl (Nat.le_of_eq (Nat.zero_add _)) (Nat.le_of_eq (Nat.zero_add _)) (fun v47 w47 h => ?_) (fun E47 w47 h => ?_) h
      · obtain ⟨x47, rfl, h⟩ := h
        refine wp_if_ne (n := 53) (t := 56) dX0_mostFrom_50 rfl (by decide) (fun c50 => ?_) (fun c50 => ?_)
        · replace h := h.1 c50
          refine wp_lload (n := 58) (i := 4) (q := 4) dX0_mostFrom_56 rfl rfl ?_
          refine wp_aload_n (n := 59) (i := 0) (q := 0) dX0_mostFrom_58 rfl rfl rfl ?_
          refine wp_aload_n (n := 60) (i := 0) (q := 0) dX0_mostFrom_59 rfl rfl rfl ?_
          obtain ⟨x60, g60, h⟩ := h
          refine wp_gf (n := 63) dX0_mostFrom_60 rfl fl_X0_29 g60 ?_
          refine wp_iload (n := 65) (i := 6) (q := 5) dX0_mostFrom_63 rfl rfl ?_
          obtain ⟨x65, g65, h⟩ := h
          refine wp_gR (n := 66) dX0_mostFrom_65 rfl (by decide) g65 ?_
          refine wp_aload_n (n := 67) (i := 0) (q := 0) dX0_mostFrom_66 rfl rfl rfl ?_
          obtain ⟨x67, g67, h⟩ := h
          refine wp_gf (n := 70) dX0_mostFrom_67 rfl fl_X0_29 g67 ?_
          refine wp_iload_n (n := 71) (i := 1) (q := 1) dX0_mostFrom_70 rfl rfl rfl ?_
          obtain ⟨x71, g71, h⟩ := h
          refine wp_gR (n := 72) dX0_mostFrom_71 rfl (by decide) g71 ?_
          obtain ⟨⟨fs72, o72⟩, h⟩ := h
          refine wp_call (n := 75) (K' := KX0_rangeOf) (rc' := rc) (rs' := rs) (aRun_V (K' := KX0_rangeOf) (As := [vR x65, vR x71]) (rest := [vL l4]) (b := h0) (c0 := .inr (0, fs72)) dX0_mostFrom_72 (aCal_of kf_X0_rangeOf (by show 5 + 1 ≤ 6 + dd; omega)) q813 q815 qs30 ar_X0_rangeOf o72 (by decide : 0 < 9) rfl (Nat.le_of_ble_eq_true rfl)) rfl (Nat.le_of_eq (Nat.zero_add _)) (Nat.le_of_eq (Nat.zero_add _)) (fun v72 w72 h => ?_) (fun E72 w72 h => ?_) h
          · obtain ⟨x72, rfl, h⟩ := h
            refine wp_aload_n (n := 76) (i := 0) (q := 0) dX0_mostFrom_75 rfl rfl rfl ?_
            refine wp_iload (n := 78) (i := 6) (q := 5) dX0_mostFrom_76 rfl rfl ?_
            refine wp_iconst (n := 79) (v := 2) dX0_mostFrom_78 rfl (by decide) ?_
            refine wp_iadd (n := 80) dX0_mostFrom_79 rfl ?_
            refine wp_iload_n (n := 81) (i := 2) (q := 2) dX0_mostFrom_80 rfl rfl rfl ?_
            refine wp_iload_n (n := 82) (i := 3) (q := 3) dX0_mostFrom_81 rfl rfl rfl ?_
            refine wp_iload (n := 84) (i := 6) (q := 5) dX0_mostFrom_82 rfl rfl ?_
            refine wp_iload_n (n := 85) (i := 1) (q := 1) dX0_mostFrom_84 rfl rfl rfl ?_
            refine wp_isub (n := 86) dX0_mostFrom_85 rfl ?_
            refine wp_iconst (n := 87) (v := 1) dX0_mostFrom_86 rfl (by decide) ?_
            refine wp_iadd (n := 88) dX0_mostFrom_87 rfl ?_
            refine wp_isub (n := 89) dX0_mostFrom_88 rfl ?_
            obtain ⟨e89, y89, h⟩ := h
            obtain ⟨⟨fs89, o89⟩, h⟩ := h
            refine wp_call (n := 92) (K' := KX0_mostFrom e89) (rc' := rc) (rs' := rs) (aRun_V (K' := KX0_mostFrom e89) (As := [vI (i6 + 2), vI i2, vI (i3 - ((i6 - i1) + 1))]) (rest := [vL x72, vL l4]) (b := h0) (c0 := .inr (0, fs89)) dX0_mostFrom_89 (aCal_of (kf_X0_mostFrom _) y89) q871 q873 qs38 ar_X0_mostFrom o89 (by decide : 0 < 9) rfl (Nat.le_of_ble_eq_true rfl)) rfl (Nat.le_of_eq (Nat.zero_add _)) (Nat.le_of_eq (Nat.zero_add _)) (fun v89 w89 h => ?_) (fun E89 w89 h => ?_) h
            · obtain ⟨x89, rfl, h⟩ := h
              refine wp_ladd (n := 93) dX0_mostFrom_92 rfl ?_
              refine wp_max (n := 96) dX0_mostFrom_93 rfl q875 q876 q107 q877 (Nat.le_of_ble_eq_true rfl) ?_
              refine wp_lstore (n := 98) (i := 4) (ls' := [(4, vL (if (x72 + x89) < l4 then l4 else (x72 + x89))), (0, vR (some h0)), (1, vI i1), (2, vI i2), (3, vI i3), (6, vI i6)]) dX0_mostFrom_96 rfl (Nat.le_of_ble_eq_true rfl) rfl ?_
              refine wp_iinc (n := 101) (i := 6) (q := 5) (v := i6 + 1) (ls' := [(6, vI (i6 + 1)), (4, vL (if (x72 + x89) < l4 then l4 else (x72 + x89))), (0, vR (some h0)), (1, vI i1), (2, vI i2), (3, vI i3)]) dX0_mostFrom_98 rfl rfl rfl (Nat.le_of_ble_eq_true rfl) rfl ?_
              refine wp_goto (t := 25) dX0_mostFrom_101 (by decide) ?_
              exact wp_sub [2, 3, 4, 5, 1, 0] rfl h
            · exact h.elim
          · exact h.elim
        · replace h := h.2 c50
          refine wp_goto (t := 104) dX0_mostFrom_53 (by decide) ?_
          refine wp_lload (n := 106) (i := 4) (q := 4) dX0_mostFrom_104 rfl rfl ?_
          exact wp_lreturn dX0_mostFrom_106 rfl h
      · exact h.elim
set_option maxHeartbeats 1000000 in
theorem sg_X0_mostOf_0 {h0 : Nat} {r1 : Option Nat} {i2 : Int32} {rc rs : Nat} {QR : Option aV → aW → Prop} {QX : String → aW → Prop} {w : aW} (h : 1 ≤ rc ∧ 8 ≤ rs ∧ isO w h0 0 ∧ ct (KX0_gathers) 1 8 [vR (some h0), vR r1] w (fun v2 w2 => ∃ x2 : Int32, v2 = some (vI x2) ∧ ∃ e15 : Nat, kD (KX0_mostFrom e15) + 1 ≤ kD (KX0_mostOf) ∧ isO w2 h0 0 ∧ ct (KX0_mostFrom e15) 0 0 [vR (some h0), vI 0, vI (if x2 < 8 then x2 else 8), vI i2] w2 (fun v15 w15 => ∃ x15 : Int64, v15 = some (vL x15) ∧ QR (some (vL x15)) w15) (fun E15 w15 => False)) (fun E2 w2 => (E2 = "java/lang/NullPointerException" ∧ QX "java/lang/NullPointerException" w2))) : wp (KX0_mostOf) rc rs QR QX 0 [(0, vR (some h0)), (1, vR r1), (2, vI i2)] [] w := by
  refine wp_aload_n (n := 1) (i := 0) (q := 0) dX0_mostOf_0 rfl rfl rfl ?_
  refine wp_aload_n (n := 2) (i := 1) (q := 1) dX0_mostOf_1 rfl rfl rfl ?_
  obtain ⟨b2, bb2, h⟩ := h
  obtain ⟨⟨fs2, o2⟩, h⟩ := h
  refine wp_call (n := 5) (K' := KX0_gathers) (rc' := rc - 1) (rs' := rs - 8) (aRun_V (K' := KX0_gathers) (As := [vR r1]) (rest := []) (b := h0) (c0 := .inr (0, fs2)) dX0_mostOf_2 (aCal_of kf_X0_gathers (Nat.le_of_ble_eq_true rfl)) q864 q866 qs37 ar_X0_gathers o2 (by decide : 0 < 9) rfl (Nat.le_of_ble_eq_true rfl)) rfl (by omega) (by omega) (fun v2 w2 h => ?_) (fun E2 w2 h => ?_) h
  · obtain ⟨x2, rfl, h⟩ := h
    refine wp_istore_n (n := 6) (i := 3) (ls' := [(3, vI x2), (0, vR (some h0)), (1, vR r1), (2, vI i2)]) dX0_mostOf_5 rfl rfl (Nat.le_of_ble_eq_true rfl) rfl ?_
    refine wp_aload_n (n := 7) (i := 0) (q := 1) dX0_mostOf_6 rfl rfl rfl ?_
    refine wp_iconst (n := 8) (v := 0) dX0_mostOf_7 rfl (by decide) ?_
    refine wp_bipush (n := 10) (v := 8) dX0_mostOf_8 rfl (by decide) ?_
    refine wp_iload_n (n := 11) (i := 3) (q := 0) dX0_mostOf_10 rfl rfl rfl ?_
    refine wp_min (n := 14) dX0_mostOf_11 rfl q868 q869 q107 q870 (Nat.le_of_ble_eq_true rfl) ?_
    refine wp_iload_n (n := 15) (i := 2) (q := 3) dX0_mostOf_14 rfl rfl rfl ?_
    obtain ⟨e15, y15, h⟩ := h
    obtain ⟨⟨fs15, o15⟩, h⟩ := h
    refine wp_call (n := 18) (K' := KX0_mostFrom e15) (rc' := rc - 1) (rs' := rs - 8) (aRun_V (K' := KX0_mostFrom e15) (As := [vI 0, vI (if x2 < 8 then x2 else 8), vI i2]) (rest := []) (b := h0) (c0 := .inr (0, fs15)) dX0_mostOf_15 (aCal_of (kf_X0_mostFrom _) y15) q871 q873 qs38 ar_X0_mostFrom o15 (by decide : 0 < 9) rfl (Nat.le_of_ble_eq_true rfl)) rfl (Nat.le_of_eq (Nat.zero_add _)) (Nat.le_of_eq (Nat.zero_add _)) (fun v15 w15 h => ?_) (fun E15 w15 h => ?_) h
    · obtain ⟨x15, rfl, h⟩ := h
      exact wp_lreturn dX0_mostOf_18 rfl h
    · exact h.elim
  · obtain ⟨rfl, h⟩ := h
    exact wpx_out (fun z hz => absurd hz List.not_mem_nil) h
set_option maxHeartbeats 1000000 in
theorem sg_X0_fewestOf_0 {h0 : Nat} {r1 : Option Nat} {l2 : Int64} {rc rs : Nat} {QR : Option aV → aW → Prop} {QX : String → aW → Prop} {w : aW} (h : (r1 = none → 1 ≤ rc ∧ 8 ≤ rs ∧ QX "java/lang/NullPointerException" w) ∧ (∀ a1 : Nat, r1 = some a1 → ∃ x1 : Int32, gf w a1 [4, 5] 4 (vI x1) ∧ wp (KX0_fewestOf) rc rs QR QX 9 [(0, vR (some h0)), (1, vR (some a1)), (2, vL l2), (4, vI x1), (5, vI 0)] [] w)) : wp (KX0_fewestOf) rc rs QR QX 0 [(0, vR (some h0)), (1, vR r1), (2, vL l2)] [] w := by
  refine wp_aload_n (n := 1) (i := 1) (q := 1) dX0_fewestOf_0 rfl rfl rfl ?_
  rcases opt_c r1 with ea1 | ⟨a1, ea1⟩
  · obtain ⟨b1, b2, h⟩ := h.1 ea1
    rw [ea1]
    refine wp_getfNull (rc' := 0) (rs' := 0) dX0_fewestOf_1 (fl_X0_177 4 (by decide)) (by omega) (by omega) (Nat.le_of_ble_eq_true rfl) ?_
    exact wpx_out (fun z hz => absurd hz List.not_mem_nil) h
  · replace h := h.2 a1 ea1
    rw [ea1]
    obtain ⟨x1, g1, h⟩ := h
    refine wp_gf (n := 4) dX0_fewestOf_1 rfl fl_X0_177 g1 ?_
    refine wp_istore (n := 6) (i := 4) (ls' := [(4, vI x1), (0, vR (some h0)), (1, vR (some a1)), (2, vL l2)]) dX0_fewestOf_4 rfl (Nat.le_of_ble_eq_true rfl) rfl ?_
    refine wp_iconst (n := 7) (v := 0) dX0_fewestOf_6 rfl (by decide) ?_
    refine wp_istore (n := 9) (i := 5) (ls' := [(5, vI 0), (4, vI x1), (0, vR (some h0)), (1, vR (some a1)), (2, vL l2)]) dX0_fewestOf_7 rfl (Nat.le_of_ble_eq_true rfl) rfl ?_
    exact wp_sub [2, 3, 4, 1, 0] rfl h
set_option maxHeartbeats 1000000 in
theorem sg_X0_fewestOf_9 {h0 : Nat} {r1 : Option Nat} {l2 : Int64} {i4 : Int32} {i5 : Int32} {rc rs : Nat} {QR : Option aV → aW → Prop} {QX : String → aW → Prop} {w : aW} (h : (8 < i5 → QR (some (vI (-1))) w) ∧ (¬ 8 < i5 → 1 ≤ rc ∧ 8 ≤ rs ∧ isO w h0 0 ∧ ct (KX0_mostOf) 1 8 [vR (some h0), vR r1, vI i5] w (fun v20 w20 => ∃ x20 : Int64, v20 = some (vL x20) ∧ (x20 < l2 → wp (KX0_fewestOf) (rc - 1) (rs - 8) QR QX 9 [(0, vR (some h0)), (1, vR r1), (2, vL l2), (4, vI i4), (5, vI (i5 + 1))] [] w20) ∧ (¬ x20 < l2 → QR (some (vI i5)) w20)) (fun E20 w20 => (E20 = "java/lang/NullPointerException" ∧ QX "java/lang/NullPointerException" w20)))) : wp (KX0_fewestOf) rc rs QR QX 9 [(0, vR (some h0)), (1, vR r1), (2, vL l2), (4, vI i4), (5, vI i5)] [] w := by
  refine wp_iload (n := 11) (i := 5) (q := 4) dX0_fewestOf_9 rfl rfl ?_
  refine wp_bipush (n := 13) (v := 8) dX0_fewestOf_11 rfl (by decide) ?_
  refine wp_icmp_gt (n := 16) (t := 37) dX0_fewestOf_13 rfl (by decide) (fun c13 => ?_) (fun c13 => ?_)
  · replace h := h.1 c13
    refine wp_iconst (n := 38) (v := (-1)) dX0_fewestOf_37 rfl (by decide) ?_
    exact wp_ireturn dX0_fewestOf_38 rfl h
  · replace h := h.2 c13
    refine wp_aload_n (n := 17) (i := 0) (q := 0) dX0_fewestOf_16 rfl rfl rfl ?_
    refine wp_aload_n (n := 18) (i := 1) (q := 1) dX0_fewestOf_17 rfl rfl rfl ?_
    refine wp_iload (n := 20) (i := 5) (q := 4) dX0_fewestOf_18 rfl rfl ?_
    obtain ⟨b20, bb20, h⟩ := h
    obtain ⟨⟨fs20, o20⟩, h⟩ := h
    refine wp_call (n := 23) (K' := KX0_mostOf) (rc' := rc - 1) (rs' := rs - 8) (aRun_V (K' := KX0_mostOf) (As := [vR r1, vI i5]) (rest := []) (b := h0) (c0 := .inr (0, fs20)) dX0_fewestOf_20 (aCal_of kf_X0_mostOf (Nat.le_of_ble_eq_true rfl)) q860 q862 qs36 ar_X0_mostOf o20 (by decide : 0 < 9) rfl (Nat.le_of_ble_eq_true rfl)) rfl (by omega) (by omega) (fun v20 w20 h => ?_) (fun E20 w20 h => ?_) h
    · obtain ⟨x20, rfl, h⟩ := h
      refine wp_lload_n (n := 24) (i := 2) (q := 2) dX0_fewestOf_23 rfl rfl rfl ?_
      refine wp_lcmp (n := 25) dX0_fewestOf_24 rfl ?_
      refine wp_if_lt (n := 28) (t := 31) dX0_fewestOf_25 rfl (by decide) (fun c25 => ?_) (fun c25 => ?_)
      · replace h := h.1 (lgc_lt.mp c25)
        refine wp_iinc (n := 34) (i := 5) (q := 4) (v := i5 + 1) (ls' := [(5, vI (i5 + 1)), (0, vR (some h0)), (1, vR r1), (2, vL l2), (4, vI i4)]) dX0_fewestOf_31 rfl rfl rfl (Nat.le_of_ble_eq_true rfl) rfl ?_
        refine wp_goto (t := 9) dX0_fewestOf_34 (by decide) ?_
        exact wp_sub [1, 2, 3, 4, 0] rfl h
      · replace h := h.2 (fun z => c25 (lgc_lt.mpr z))
        refine wp_iload (n := 30) (i := 5) (q := 4) dX0_fewestOf_28 rfl rfl ?_
        exact wp_ireturn dX0_fewestOf_30 rfl h
    · obtain ⟨rfl, h⟩ := h
      exact wpx_out (fun z hz => absurd hz List.not_mem_nil) h
set_option maxHeartbeats 1000000 in
theorem sg_X0_fewest_0 {h0 : Nat} {i1 : Int32} {l2 : Int64} {rc rs : Nat} {QR : Option aV → aW → Prop} {QX : String → aW → Prop} {w : aW} (h : 1 ≤ rc ∧ 6 ≤ rs ∧ isO w h0 0 ∧ ct (KX0_thingAt) 1 6 [vR (some h0), vI i1] w (fun v3 w3 => ∃ x3 : Option Nat, v3 = some (vR x3) ∧ (x3 = none → 10 ≤ (rc - 1) ∧ 80 ≤ (rs - 6) ∧ isO w3 h0 0 ∧ ct (KX0_fewestOf) 10 80 [vR (some h0), vR none, vL l2] w3 (fun v10 w10 => ∃ x10 : Int32, v10 = some (vI x10) ∧ QR (some (vI x10)) w10) (fun E10 w10 => (E10 = "java/lang/NullPointerException" ∧ QR (some (vI (-11))) w10))) ∧ (∀ a6 : Nat, x3 = some a6 → ((ck w3 a6 [4, 5] ∧ 10 ≤ (rc - 1) ∧ 80 ≤ (rs - 6) ∧ isO w3 h0 0 ∧ ct (KX0_fewestOf) 10 80 [vR (some h0), vR (some a6), vL l2] w3 (fun v10 w10 => ∃ x10 : Int32, v10 = some (vI x10) ∧ QR (some (vI x10)) w10) (fun E10 w10 => (E10 = "java/lang/NullPointerException" ∧ QR (some (vI (-11))) w10))) ∨ (ck w3 a6 [6, 7, 8] ∧ 3 ≤ (rc - 1) ∧ 950 ≤ (rs - 6) ∧ QR (some (vI (-13))) w3)))) (fun E3 w3 => (E3 = "java/lang/IndexOutOfBoundsException" ∧ QR (some (vI (-12))) w3))) : wp (KX0_fewest) rc rs QR QX 0 [(0, vR (some h0)), (1, vI i1), (2, vL l2)] [] w := by
  refine wp_aload_n (n := 1) (i := 0) (q := 0) dX0_fewest_0 rfl rfl rfl ?_
  refine wp_aload_n (n := 2) (i := 0) (q := 0) dX0_fewest_1 rfl rfl rfl ?_
  refine wp_iload_n (n := 3) (i := 1) (q := 1) dX0_fewest_2 rfl rfl rfl ?_
  obtain ⟨b3, bb3, h⟩ := h
  obtain ⟨⟨fs3, o3⟩, h⟩ := h
  refine wp_call (n := 6) (K' := KX0_thingAt) (rc' := rc - 1) (rs' := rs - 6) (aRun_V (K' := KX0_thingAt) (As := [vI i1]) (rest := [vR (some h0)]) (b := h0) (c0 := .inr (0, fs3)) dX0_fewest_3 (aCal_of kf_X0_thingAt (Nat.le_of_ble_eq_true rfl)) q451 q453 qs4 ar_X0_thingAt o3 (by decide : 0 < 9) rfl (Nat.le_of_ble_eq_true rfl)) rfl (by omega) (by omega) (fun v3 w3 h => ?_) (fun E3 w3 h => ?_) h
  · obtain ⟨x3, rfl, h⟩ := h
    rcases opt_c x3 with ea6 | ⟨a6, ea6⟩
    · replace h := h.1 ea6
      rw [ea6]
      refine wp_castN (n := 9) dX0_fewest_6 rfl ?_
      refine wp_lload_n (n := 10) (i := 2) (q := 2) dX0_fewest_9 rfl rfl rfl ?_
      obtain ⟨b10, bb10, h⟩ := h
      obtain ⟨⟨fs10, o10⟩, h⟩ := h
      refine wp_call (n := 13) (K' := KX0_fewestOf) (rc' := rc - 1 - 10) (rs' := rs - 6 - 80) (aRun_V (K' := KX0_fewestOf) (As := [vR none, vL l2]) (rest := []) (b := h0) (c0 := .inr (0, fs10)) dX0_fewest_10 (aCal_of kf_X0_fewestOf (Nat.le_of_ble_eq_true rfl)) q882 q884 qs39 ar_X0_fewestOf o10 (by decide : 0 < 9) rfl (Nat.le_of_ble_eq_true rfl)) rfl (by omega) (by omega) (fun v10 w10 h => ?_) (fun E10 w10 h => ?_) h
      · obtain ⟨x10, rfl, h⟩ := h
        exact wp_ireturn dX0_fewest_13 rfl h
      · obtain ⟨rfl, h⟩ := h
        refine wpx_catch (nm := "java/lang/NullPointerException") [(0, 13, 14, 53)] (0, 13, 19, 169) [(0, 13, 24, 171)] rfl (fun z hz => by have hz : z ∈ ([(0, 13, 14, 53)] : List (Nat × Nat × Nat × Nat)) := hz; simp only [List.mem_cons, List.not_mem_nil, or_false] at hz; subst hz; exact Or.inr ⟨by decide, "java/lang/IndexOutOfBoundsException", q320, nc_NullPointerException_IndexOutOfBoundsException⟩) (by decide) (by decide) q411 q433 (fun q9 => ?_)
        refine wp_astore (n := 21) (i := 4) (ls' := [(4, vR (some q9)), (0, vR (some h0)), (1, vI i1), (2, vL l2)]) dX0_fewest_19 rfl (Nat.le_of_ble_eq_true rfl) rfl ?_
        refine wp_bipush (n := 23) (v := (-11)) dX0_fewest_21 rfl (by decide) ?_
        exact wp_ireturn dX0_fewest_23 rfl h
    · replace h := h.2 a6 ea6
      rw [ea6]
      rcases h with h | h
      · obtain ⟨k6, h⟩ := h
        refine wp_ckY (n := 9) dX0_fewest_6 rfl q235 cok_Folder k6 ?_
        refine wp_lload_n (n := 10) (i := 2) (q := 2) dX0_fewest_9 rfl rfl rfl ?_
        obtain ⟨b10, bb10, h⟩ := h
        obtain ⟨⟨fs10, o10⟩, h⟩ := h
        refine wp_call (n := 13) (K' := KX0_fewestOf) (rc' := rc - 1 - 10) (rs' := rs - 6 - 80) (aRun_V (K' := KX0_fewestOf) (As := [vR (some a6), vL l2]) (rest := []) (b := h0) (c0 := .inr (0, fs10)) dX0_fewest_10 (aCal_of kf_X0_fewestOf (Nat.le_of_ble_eq_true rfl)) q882 q884 qs39 ar_X0_fewestOf o10 (by decide : 0 < 9) rfl (Nat.le_of_ble_eq_true rfl)) rfl (by omega) (by omega) (fun v10 w10 h => ?_) (fun E10 w10 h => ?_) h
        · obtain ⟨x10, rfl, h⟩ := h
          exact wp_ireturn dX0_fewest_13 rfl h
        · obtain ⟨rfl, h⟩ := h
          refine wpx_catch (nm := "java/lang/NullPointerException") [(0, 13, 14, 53)] (0, 13, 19, 169) [(0, 13, 24, 171)] rfl (fun z hz => by have hz : z ∈ ([(0, 13, 14, 53)] : List (Nat × Nat × Nat × Nat)) := hz; simp only [List.mem_cons, List.not_mem_nil, or_false] at hz; subst hz; exact Or.inr ⟨by decide, "java/lang/IndexOutOfBoundsException", q320, nc_NullPointerException_IndexOutOfBoundsException⟩) (by decide) (by decide) q411 q433 (fun q9 => ?_)
          refine wp_astore (n := 21) (i := 4) (ls' := [(4, vR (some q9)), (0, vR (some h0)), (1, vI i1), (2, vL l2)]) dX0_fewest_19 rfl (Nat.le_of_ble_eq_true rfl) rfl ?_
          refine wp_bipush (n := 23) (v := (-11)) dX0_fewest_21 rfl (by decide) ?_
          exact wp_ireturn dX0_fewest_23 rfl h
      · obtain ⟨k6, b1, b2, h⟩ := h
        refine wp_ckX (rc' := 0) (rs' := 0) dX0_fewest_6 q235 cno_Folder sn_Folder k6 (by omega) (by omega) (Nat.le_of_ble_eq_true rfl) ?_
        refine wpx_catch (nm := "java/lang/ClassCastException") [(0, 13, 14, 53), (0, 13, 19, 169)] (0, 13, 24, 171) [] rfl (fun z hz => by have hz : z ∈ ([(0, 13, 14, 53), (0, 13, 19, 169)] : List (Nat × Nat × Nat × Nat)) := hz; simp only [List.mem_cons, List.not_mem_nil, or_false] at hz; rcases hz with rfl | rfl; exact Or.inr ⟨by decide, "java/lang/IndexOutOfBoundsException", q320, nc_ClassCastException_IndexOutOfBoundsException⟩; exact Or.inr ⟨by decide, "java/lang/NullPointerException", q411, nc_ClassCastException_NullPointerException⟩) (by decide) (by decide) q436 q448 (fun q9 => ?_)
        refine wp_astore (n := 26) (i := 4) (ls' := [(4, vR (some q9)), (0, vR (some h0)), (1, vI i1), (2, vL l2)]) dX0_fewest_24 rfl (Nat.le_of_ble_eq_true rfl) rfl ?_
        refine wp_bipush (n := 28) (v := (-13)) dX0_fewest_26 rfl (by decide) ?_
        exact wp_ireturn dX0_fewest_28 rfl h
  · obtain ⟨rfl, h⟩ := h
    refine wpx_catch (nm := "java/lang/IndexOutOfBoundsException") [] (0, 13, 14, 53) [(0, 13, 19, 169), (0, 13, 24, 171)] rfl (fun z hz => absurd hz List.not_mem_nil) (by decide) (by decide) q320 q459 (fun q9 => ?_)
    refine wp_astore (n := 16) (i := 4) (ls' := [(4, vR (some q9)), (0, vR (some h0)), (1, vI i1), (2, vL l2)]) dX0_fewest_14 rfl (Nat.le_of_ble_eq_true rfl) rfl ?_
    refine wp_bipush (n := 18) (v := (-12)) dX0_fewest_16 rfl (by decide) ?_
    exact wp_ireturn dX0_fewest_18 rfl h
set_option maxHeartbeats 1000000 in
theorem sg_X0_image_0 {h0 : Nat} {rc rs : Nat} {QR : Option aV → aW → Prop} {QX : String → aW → Prop} {w : aW} (h : ∃ x2 : Nat, gf w h0 [0] 8 (vR (some x2)) ∧ isO w h0 0 ∧ ct (KX0_keeps) 0 0 [vR (some h0), vR (some x2)] w (fun v5 w5 => v5 = none ∧ pf w5 h0 [0] 10 (vI 1) (fun w10 => isO w10 h0 0 ∧ ct (KX0_thingMany) 0 0 [vR (some h0)] w10 (fun v14 w14 => ∃ x14 : Int32, v14 = some (vI x14) ∧ QR (some (vI x14)) w14) (fun E14 w14 => False))) (fun E5 w5 => False)) : wp (KX0_image) rc rs QR QX 0 [(0, vR (some h0))] [] w := by
  refine wp_aload_n (n := 1) (i := 0) (q := 0) dX0_image_0 rfl rfl rfl ?_
  refine wp_aload_n (n := 2) (i := 0) (q := 0) dX0_image_1 rfl rfl rfl ?_
  obtain ⟨x2, g2, h⟩ := h
  refine wp_gf (n := 5) dX0_image_2 rfl fl_X0_43 g2 ?_
  obtain ⟨⟨fs5, o5⟩, h⟩ := h
  refine wp_call (n := 8) (K' := KX0_keeps) (rc' := rc) (rs' := rs) (aRun_V (K' := KX0_keeps) (As := [vR (some x2)]) (rest := []) (b := h0) (c0 := .inr (0, fs5)) dX0_image_5 (aCal_of kf_X0_keeps (Nat.le_of_ble_eq_true rfl)) q966 q968 qs44 ar_X0_keeps o5 (by decide : 0 < 9) rfl (Nat.le_of_ble_eq_true rfl)) rfl (Nat.le_of_eq (Nat.zero_add _)) (Nat.le_of_eq (Nat.zero_add _)) (fun v5 w5 h => ?_) (fun E5 w5 h => ?_) h
  · obtain ⟨rfl, h⟩ := h
    refine wp_aload_n (n := 9) (i := 0) (q := 0) dX0_image_8 rfl rfl rfl ?_
    refine wp_iconst (n := 10) (v := 1) dX0_image_9 rfl (by decide) ?_
    refine wp_pf (n := 13) dX0_image_10 rfl (pt_X0_494 _) (by decide) (by decide) (pf_mono h (fun w10 h => ?_))
    refine wp_aload_n (n := 14) (i := 0) (q := 0) dX0_image_13 rfl rfl rfl ?_
    obtain ⟨⟨fs14, o14⟩, h⟩ := h
    refine wp_call (n := 17) (K' := KX0_thingMany) (rc' := rc) (rs' := rs) (aRun_V (K' := KX0_thingMany) (As := []) (rest := []) (b := h0) (c0 := .inr (0, fs14)) dX0_image_14 (aCal_of kf_X0_thingMany (Nat.le_of_ble_eq_true rfl)) q990 q992 qs47 ar_X0_thingMany o14 (by decide : 0 < 9) rfl (Nat.le_of_ble_eq_true rfl)) rfl (Nat.le_of_eq (Nat.zero_add _)) (Nat.le_of_eq (Nat.zero_add _)) (fun v14 w14 h => ?_) (fun E14 w14 h => ?_) h
    · obtain ⟨x14, rfl, h⟩ := h
      exact wp_ireturn dX0_image_17 rfl h
    · exact h.elim
  · exact h.elim
set_option maxHeartbeats 1000000 in
theorem sg_X1_init_0 {h0 : Nat} {rc rs : Nat} {QR : Option aV → aW → Prop} {QX : String → aW → Prop} {w : aW} (h : QR none w) : wp (KX1_init) rc rs QR QX 0 [(0, vR (some h0))] [] w := by
  refine wp_aload_n (n := 1) (i := 0) (q := 0) dX1_init_0 rfl rfl rfl ?_
  refine wp_objInit (n := 4) dX1_init_1 rfl q127 q115 q116 (Nat.le_of_ble_eq_true rfl) ?_
  exact wp_return dX1_init_4 rfl h
set_option maxHeartbeats 1000000 in
theorem sg_X2_init_0 {h0 : Nat} {rc rs : Nat} {QR : Option aV → aW → Prop} {QX : String → aW → Prop} {w : aW} (h : 1 ≤ rc ∧ 20 ≤ rs ∧ ∀ (a7 : Nat) (w7 : aW), w a7 = none → w7 = aup w a7 (.inl (2, 20, .inr (.inr (.inr (.inr (fun _ => none)))))) → pf w7 h0 [2] 0 (vR (some a7)) (fun w10 => 21 ≤ (rc - 1) ∧ 260 ≤ (rs - 20) ∧ ∀ (a18 : Nat) (w18 : aW), (∀ q, a18 ≤ q → w10 q = none) → w18 = aMulti w10 a18 20 12 → pf w18 h0 [2] 1 (vR (some a18)) (fun w22 => 21 ≤ (rc - 1 - 21) ∧ 260 ≤ (rs - 20 - 260) ∧ ∀ (a30 : Nat) (w30 : aW), (∀ q, a30 ≤ q → w22 q = none) → w30 = aMulti w22 a30 20 12 → pf w30 h0 [2] 2 (vR (some a30)) (fun w34 => 1 ≤ (rc - 1 - 21 - 21) ∧ 20 ≤ (rs - 20 - 260 - 260) ∧ ∀ (a40 : Nat) (w40 : aW), w34 a40 = none → w40 = aup w34 a40 (.inl (0, 20, .inl (fun _ => 0))) → pf w40 h0 [2] 3 (vR (some a40)) (fun w42 => 1 ≤ (rc - 1 - 21 - 21 - 1) ∧ 20 ≤ (rs - 20 - 260 - 260 - 20) ∧ ∀ (a48 : Nat) (w48 : aW), w42 a48 = none → w48 = aup w42 a48 (.inl (3, 20, .inr (.inr (.inr (.inr (fun _ => none)))))) → pf w48 h0 [2] 4 (vR (some a48)) (fun w51 => 1 ≤ (rc - 1 - 21 - 21 - 1 - 1) ∧ 20 ≤ (rs - 20 - 260 - 260 - 20 - 20) ∧ ∀ (a57 : Nat) (w57 : aW), w51 a57 = none → w57 = aup w51 a57 (.inl (5, 20, .inr (.inr (.inr (.inr (fun _ => none)))))) → pf w57 h0 [2] 5 (vR (some a57)) (fun w60 => 1 ≤ (rc - 1 - 21 - 21 - 1 - 1 - 1) ∧ 20 ≤ (rs - 20 - 260 - 260 - 20 - 20 - 20) ∧ ∀ (a66 : Nat) (w66 : aW), w60 a66 = none → w66 = aup w60 a66 (.inl (0, 20, .inl (fun _ => 0))) → pf w66 h0 [2] 6 (vR (some a66)) (fun w68 => 1 ≤ (rc - 1 - 21 - 21 - 1 - 1 - 1 - 1) ∧ 96 ≤ (rs - 20 - 260 - 260 - 20 - 20 - 20 - 20) ∧ ∀ (a74 : Nat) (w74 : aW), w68 a74 = none → w74 = aup w68 a74 (.inl (0, 96, .inl (fun _ => 0))) → pf w74 h0 [2] 7 (vR (some a74)) (fun w76 => 1 ≤ (rc - 1 - 21 - 21 - 1 - 1 - 1 - 1 - 1) ∧ 96 ≤ (rs - 20 - 260 - 260 - 20 - 20 - 20 - 20 - 96) ∧ ∀ (a82 : Nat) (w82 : aW), w76 a82 = none → w82 = aup w76 a82 (.inl (0, 96, .inl (fun _ => 0))) → pf w82 h0 [2] 8 (vR (some a82)) (fun w84 => QR none w84)))))))))) : wp (KX2_init) rc rs QR QX 0 [(0, vR (some h0))] [] w := by
  refine wp_aload_n (n := 1) (i := 0) (q := 0) dX2_init_0 rfl rfl rfl ?_
  refine wp_objInit (n := 4) dX2_init_1 rfl q138 q115 q116 (Nat.le_of_ble_eq_true rfl) ?_
  refine wp_aload_n (n := 5) (i := 0) (q := 0) dX2_init_4 rfl rfl rfl ?_
  refine wp_bipush (n := 7) (v := 20) dX2_init_5 rfl (by decide) ?_
  obtain ⟨b1, b2, h⟩ := h
  refine wp_newq (n := 10) (N := 20) (t := 2) (E := "java/lang/Object") (rc' := rc - 1) (rs' := rs - 20) dX2_init_7 rfl (by decide) rfl q139 (by decide) (by decide) (by decide) (by decide) (by omega) (by omega) (fun a7 f7 => ?_)
  obtain ⟨w7, ew7⟩ : ∃ z, z = aup w a7 (.inl (2, 20, .inr (.inr (.inr (.inr (fun _ => none)))))) := ⟨_, rfl⟩
  rw [← ew7]
  replace h := h a7 w7 f7 ew7
  refine wp_pf (n := 13) dX2_init_10 rfl pti_X2_9 (nar_a _ _) (fit_a _ _) (pf_mono h (fun w10 h => ?_))
  refine wp_aload_n (n := 14) (i := 0) (q := 0) dX2_init_13 rfl rfl rfl ?_
  refine wp_bipush (n := 16) (v := 20) dX2_init_14 rfl (by decide) ?_
  refine wp_bipush (n := 18) (v := 12) dX2_init_16 rfl (by decide) ?_
  obtain ⟨b1, b2, h⟩ := h
  refine wp_multi (n := 22) (N := 20) (M := 12) (rc' := rc - 1 - 21) (rs' := rs - 20 - 260) dX2_init_18 rfl q140 q132 (by decide) (by decide) (by decide) (by decide) (by decide) (by decide) (by omega) (by omega) (fun a18 f18 => ?_)
  replace h := h a18 _ f18 rfl
  refine wp_pf (n := 25) dX2_init_22 rfl pti_X2_17 (nar_a _ _) (fit_a _ _) (pf_mono h (fun w22 h => ?_))
  refine wp_aload_n (n := 26) (i := 0) (q := 0) dX2_init_25 rfl rfl rfl ?_
  refine wp_bipush (n := 28) (v := 20) dX2_init_26 rfl (by decide) ?_
  refine wp_bipush (n := 30) (v := 12) dX2_init_28 rfl (by decide) ?_
  obtain ⟨b1, b2, h⟩ := h
  refine wp_multi (n := 34) (N := 20) (M := 12) (rc' := rc - 1 - 21 - 21) (rs' := rs - 20 - 260 - 260) dX2_init_30 rfl q140 q132 (by decide) (by decide) (by decide) (by decide) (by decide) (by decide) (by omega) (by omega) (fun a30 f30 => ?_)
  replace h := h a30 _ f30 rfl
  refine wp_pf (n := 37) dX2_init_34 rfl pti_X2_20 (nar_a _ _) (fit_a _ _) (pf_mono h (fun w34 h => ?_))
  refine wp_aload_n (n := 38) (i := 0) (q := 0) dX2_init_37 rfl rfl rfl ?_
  refine wp_bipush (n := 40) (v := 20) dX2_init_38 rfl (by decide) ?_
  obtain ⟨b1, b2, h⟩ := h
  refine wp_newi (n := 42) (N := 20) (rc' := rc - 1 - 21 - 21 - 1) (rs' := rs - 20 - 260 - 260 - 20) dX2_init_40 rfl (by decide) (by decide) (by decide) (by omega) (by omega) q132 (fun a40 f40 => ?_)
  obtain ⟨w40, ew40⟩ : ∃ z, z = aup w34 a40 (.inl (0, 20, .inl (fun _ => 0))) := ⟨_, rfl⟩
  rw [← ew40]
  replace h := h a40 w40 f40 ew40
  refine wp_pf (n := 45) dX2_init_42 rfl pti_X2_23 (nar_a _ _) (fit_a _ _) (pf_mono h (fun w42 h => ?_))
  refine wp_aload_n (n := 46) (i := 0) (q := 0) dX2_init_45 rfl rfl rfl ?_
  refine wp_bipush (n := 48) (v := 20) dX2_init_46 rfl (by decide) ?_
  obtain ⟨b1, b2, h⟩ := h
  refine wp_newq (n := 51) (N := 20) (t := 3) (E := "DeadListPool$Snapshot") (rc' := rc - 1 - 21 - 21 - 1 - 1) (rs' := rs - 20 - 260 - 260 - 20 - 20) dX2_init_48 rfl (by decide) rfl q142 (by decide) (by decide) (by decide) (by decide) (by omega) (by omega) (fun a48 f48 => ?_)
  obtain ⟨w48, ew48⟩ : ∃ z, z = aup w42 a48 (.inl (3, 20, .inr (.inr (.inr (.inr (fun _ => none)))))) := ⟨_, rfl⟩
  rw [← ew48]
  replace h := h a48 w48 f48 ew48
  refine wp_pf (n := 54) dX2_init_51 rfl pti_X2_29 (nar_a _ _) (fit_a _ _) (pf_mono h (fun w51 h => ?_))
  refine wp_aload_n (n := 55) (i := 0) (q := 0) dX2_init_54 rfl rfl rfl ?_
  refine wp_bipush (n := 57) (v := 20) dX2_init_55 rfl (by decide) ?_
  obtain ⟨b1, b2, h⟩ := h
  refine wp_newq (n := 60) (N := 20) (t := 5) (E := "DeadListPool$Folder") (rc' := rc - 1 - 21 - 21 - 1 - 1 - 1) (rs' := rs - 20 - 260 - 260 - 20 - 20 - 20) dX2_init_57 rfl (by decide) rfl q143 (by decide) (by decide) (by decide) (by decide) (by omega) (by omega) (fun a57 f57 => ?_)
  obtain ⟨w57, ew57⟩ : ∃ z, z = aup w51 a57 (.inl (5, 20, .inr (.inr (.inr (.inr (fun _ => none)))))) := ⟨_, rfl⟩
  rw [← ew57]
  replace h := h a57 w57 f57 ew57
  refine wp_pf (n := 63) dX2_init_60 rfl pti_X2_35 (nar_a _ _) (fit_a _ _) (pf_mono h (fun w60 h => ?_))
  refine wp_aload_n (n := 64) (i := 0) (q := 0) dX2_init_63 rfl rfl rfl ?_
  refine wp_bipush (n := 66) (v := 20) dX2_init_64 rfl (by decide) ?_
  obtain ⟨b1, b2, h⟩ := h
  refine wp_newi (n := 68) (N := 20) (rc' := rc - 1 - 21 - 21 - 1 - 1 - 1 - 1) (rs' := rs - 20 - 260 - 260 - 20 - 20 - 20 - 20) dX2_init_66 rfl (by decide) (by decide) (by decide) (by omega) (by omega) q132 (fun a66 f66 => ?_)
  obtain ⟨w66, ew66⟩ : ∃ z, z = aup w60 a66 (.inl (0, 20, .inl (fun _ => 0))) := ⟨_, rfl⟩
  rw [← ew66]
  replace h := h a66 w66 f66 ew66
  refine wp_pf (n := 71) dX2_init_68 rfl pti_X2_39 (nar_a _ _) (fit_a _ _) (pf_mono h (fun w68 h => ?_))
  refine wp_aload_n (n := 72) (i := 0) (q := 0) dX2_init_71 rfl rfl rfl ?_
  refine wp_bipush (n := 74) (v := 96) dX2_init_72 rfl (by decide) ?_
  obtain ⟨b1, b2, h⟩ := h
  refine wp_newi (n := 76) (N := 96) (rc' := rc - 1 - 21 - 21 - 1 - 1 - 1 - 1 - 1) (rs' := rs - 20 - 260 - 260 - 20 - 20 - 20 - 20 - 96) dX2_init_74 rfl (by decide) (by decide) (by decide) (by omega) (by omega) q132 (fun a74 f74 => ?_)
  obtain ⟨w74, ew74⟩ : ∃ z, z = aup w68 a74 (.inl (0, 96, .inl (fun _ => 0))) := ⟨_, rfl⟩
  rw [← ew74]
  replace h := h a74 w74 f74 ew74
  refine wp_pf (n := 79) dX2_init_76 rfl pti_X2_42 (nar_a _ _) (fit_a _ _) (pf_mono h (fun w76 h => ?_))
  refine wp_aload_n (n := 80) (i := 0) (q := 0) dX2_init_79 rfl rfl rfl ?_
  refine wp_bipush (n := 82) (v := 96) dX2_init_80 rfl (by decide) ?_
  obtain ⟨b1, b2, h⟩ := h
  refine wp_newi (n := 84) (N := 96) (rc' := rc - 1 - 21 - 21 - 1 - 1 - 1 - 1 - 1 - 1) (rs' := rs - 20 - 260 - 260 - 20 - 20 - 20 - 20 - 96 - 96) dX2_init_82 rfl (by decide) (by decide) (by decide) (by omega) (by omega) q132 (fun a82 f82 => ?_)
  obtain ⟨w82, ew82⟩ : ∃ z, z = aup w76 a82 (.inl (0, 96, .inl (fun _ => 0))) := ⟨_, rfl⟩
  rw [← ew82]
  replace h := h a82 w82 f82 ew82
  refine wp_pf (n := 87) dX2_init_84 rfl pti_X2_45 (nar_a _ _) (fit_a _ _) (pf_mono h (fun w84 h => ?_))
  exact wp_return dX2_init_87 rfl h
set_option maxHeartbeats 1000000 in
theorem sg_X0_init_0 {h0 : Nat} {rc rs : Nat} {QR : Option aV → aW → Prop} {QX : String → aW → Prop} {w : aW} (h : 1 ≤ rc ∧ 96 ≤ rs ∧ ∀ (a7 : Nat) (w7 : aW), w a7 = none → w7 = aup w a7 (.inl (0, 96, .inl (fun _ => 0))) → pf w7 h0 [0] 0 (vR (some a7)) (fun w9 => 1 ≤ (rc - 1) ∧ 96 ≤ (rs - 96) ∧ ∀ (a15 : Nat) (w15 : aW), w9 a15 = none → w15 = aup w9 a15 (.inl (0, 96, .inl (fun _ => 0))) → pf w15 h0 [0] 1 (vR (some a15)) (fun w17 => pf w17 h0 [0] 2 (vI 1) (fun w22 => 1 ≤ (rc - 1 - 1) ∧ 20 ≤ (rs - 96 - 96) ∧ ∀ (a28 : Nat) (w28 : aW), w22 a28 = none → w28 = aup w22 a28 (.inl (2, 20, .inr (.inr (.inr (.inr (fun _ => none)))))) → pf w28 h0 [0] 4 (vR (some a28)) (fun w31 => 1 ≤ (rc - 1 - 1 - 1) ∧ 24 ≤ (rs - 96 - 96 - 20) ∧ ∀ (a37 : Nat) (w37 : aW), w31 a37 = none → w37 = aup w31 a37 (.inl (0, 24, .inl (fun _ => 0))) → pf w37 h0 [0] 5 (vR (some a37)) (fun w39 => 1 ≤ (rc - 1 - 1 - 1 - 1) ∧ 20 ≤ (rs - 96 - 96 - 20 - 24) ∧ ∀ (a45 : Nat) (w45 : aW), w39 a45 = none → w45 = aup w39 a45 (.inl (3, 20, .inr (.inr (.inr (.inr (fun _ => none)))))) → pf w45 h0 [0] 6 (vR (some a45)) (fun w48 => 1 ≤ (rc - 1 - 1 - 1 - 1 - 1) ∧ 4 ≤ (rs - 96 - 96 - 20 - 24 - 20) ∧ ∀ (a53 : Nat) (w53 : aW), w48 a53 = none → w53 = aup w48 a53 (.inl (4, 4, .inr (.inr (.inr (.inr (fun _ => none)))))) → 1 ≤ (rc - 1 - 1 - 1 - 1 - 1 - 1) ∧ 1 ≤ (rs - 96 - 96 - 20 - 24 - 20 - 4) ∧ ∀ (a58 : Nat) (w58 : aW), w53 a58 = none → w58 = aup w53 a58 (.inr (1, [vR none])) → ct (KX1_init) 0 0 [vR (some a58)] w58 (fun v62 w62 => v62 = none ∧ ck w62 a58 [1] ∧ pR w62 a53 4 0 (some a58) (fun w65 => 1 ≤ (rc - 1 - 1 - 1 - 1 - 1 - 1 - 1) ∧ 1 ≤ (rs - 96 - 96 - 20 - 24 - 20 - 4 - 1) ∧ ∀ (a68 : Nat) (w68 : aW), w65 a68 = none → w68 = aup w65 a68 (.inr (1, [vR none])) → ct (KX1_init) 0 0 [vR (some a68)] w68 (fun v72 w72 => v72 = none ∧ ck w72 a68 [1] ∧ pR w72 a53 4 1 (some a68) (fun w75 => 1 ≤ (rc - 1 - 1 - 1 - 1 - 1 - 1 - 1 - 1) ∧ 1 ≤ (rs - 96 - 96 - 20 - 24 - 20 - 4 - 1 - 1) ∧ ∀ (a78 : Nat) (w78 : aW), w75 a78 = none → w78 = aup w75 a78 (.inr (1, [vR none])) → ct (KX1_init) 0 0 [vR (some a78)] w78 (fun v82 w82 => v82 = none ∧ ck w82 a78 [1] ∧ pR w82 a53 4 2 (some a78) (fun w85 => 1 ≤ (rc - 1 - 1 - 1 - 1 - 1 - 1 - 1 - 1 - 1) ∧ 1 ≤ (rs - 96 - 96 - 20 - 24 - 20 - 4 - 1 - 1 - 1) ∧ ∀ (a88 : Nat) (w88 : aW), w85 a88 = none → w88 = aup w85 a88 (.inr (1, [vR none])) → ct (KX1_init) 0 0 [vR (some a88)] w88 (fun v92 w92 => v92 = none ∧ ck w92 a88 [1] ∧ pR w92 a53 4 3 (some a88) (fun w95 => pf w95 h0 [0] 7 (vR (some a53)) (fun w96 => 1 ≤ (rc - 1 - 1 - 1 - 1 - 1 - 1 - 1 - 1 - 1 - 1) ∧ 11 ≤ (rs - 96 - 96 - 20 - 24 - 20 - 4 - 1 - 1 - 1 - 1) ∧ ∀ (a100 : Nat) (w100 : aW), w96 a100 = none → w100 = aup w96 a100 (.inr (2, [vR none, vR none, vR none, vR none, vR none, vR none, vR none, vR none, vR none, vI 0, vI 0])) → 49 ≤ (rc - 1 - 1 - 1 - 1 - 1 - 1 - 1 - 1 - 1 - 1 - 1) ∧ 812 ≤ (rs - 96 - 96 - 20 - 24 - 20 - 4 - 1 - 1 - 1 - 1 - 11) ∧ ct (KX2_init) 49 812 [vR (some a100)] w100 (fun v104 w104 => v104 = none ∧ pf w104 h0 [0] 8 (vR (some a100)) (fun w107 => 1 ≤ (rc - 1 - 1 - 1 - 1 - 1 - 1 - 1 - 1 - 1 - 1 - 1 - 49) ∧ 11 ≤ (rs - 96 - 96 - 20 - 24 - 20 - 4 - 1 - 1 - 1 - 1 - 11 - 812) ∧ ∀ (a111 : Nat) (w111 : aW), w107 a111 = none → w111 = aup w107 a111 (.inr (2, [vR none, vR none, vR none, vR none, vR none, vR none, vR none, vR none, vR none, vI 0, vI 0])) → 49 ≤ (rc - 1 - 1 - 1 - 1 - 1 - 1 - 1 - 1 - 1 - 1 - 1 - 49 - 1) ∧ 812 ≤ (rs - 96 - 96 - 20 - 24 - 20 - 4 - 1 - 1 - 1 - 1 - 11 - 812 - 11) ∧ ct (KX2_init) 49 812 [vR (some a111)] w111 (fun v115 w115 => v115 = none ∧ pf w115 h0 [0] 9 (vR (some a111)) (fun w118 => QR none w118)) (fun E115 w115 => False))) (fun E104 w104 => False)))) (fun E92 w92 => False))) (fun E82 w82 => False))) (fun E72 w72 => False))) (fun E62 w62 => False)))))))) : wp (KX0_init) rc rs QR QX 0 [(0, vR (some h0))] [] w := by
  refine wp_aload_n (n := 1) (i := 0) (q := 0) dX0_init_0 rfl rfl rfl ?_
  refine wp_objInit (n := 4) dX0_init_1 rfl q114 q115 q116 (Nat.le_of_ble_eq_true rfl) ?_
  refine wp_aload_n (n := 5) (i := 0) (q := 0) dX0_init_4 rfl rfl rfl ?_
  refine wp_bipush (n := 7) (v := 96) dX0_init_5 rfl (by decide) ?_
  obtain ⟨b1, b2, h⟩ := h
  refine wp_newi (n := 9) (N := 96) (rc' := rc - 1) (rs' := rs - 96) dX0_init_7 rfl (by decide) (by decide) (by decide) (by omega) (by omega) q132 (fun a7 f7 => ?_)
  obtain ⟨w7, ew7⟩ : ∃ z, z = aup w a7 (.inl (0, 96, .inl (fun _ => 0))) := ⟨_, rfl⟩
  rw [← ew7]
  replace h := h a7 w7 f7 ew7
  refine wp_pf (n := 12) dX0_init_9 rfl pti_X0_9 (nar_a _ _) (fit_a _ _) (pf_mono h (fun w9 h => ?_))
  refine wp_aload_n (n := 13) (i := 0) (q := 0) dX0_init_12 rfl rfl rfl ?_
  refine wp_bipush (n := 15) (v := 96) dX0_init_13 rfl (by decide) ?_
  obtain ⟨b1, b2, h⟩ := h
  refine wp_newi (n := 17) (N := 96) (rc' := rc - 1 - 1) (rs' := rs - 96 - 96) dX0_init_15 rfl (by decide) (by decide) (by decide) (by omega) (by omega) q132 (fun a15 f15 => ?_)
  obtain ⟨w15, ew15⟩ : ∃ z, z = aup w9 a15 (.inl (0, 96, .inl (fun _ => 0))) := ⟨_, rfl⟩
  rw [← ew15]
  replace h := h a15 w15 f15 ew15
  refine wp_pf (n := 20) dX0_init_17 rfl pti_X0_13 (nar_a _ _) (fit_a _ _) (pf_mono h (fun w17 h => ?_))
  refine wp_aload_n (n := 21) (i := 0) (q := 0) dX0_init_20 rfl rfl rfl ?_
  refine wp_iconst (n := 22) (v := 1) dX0_init_21 rfl (by decide) ?_
  refine wp_pf (n := 25) dX0_init_22 rfl (pt_X0_16 _) rfl rfl (pf_mono h (fun w22 h => ?_))
  refine wp_aload_n (n := 26) (i := 0) (q := 0) dX0_init_25 rfl rfl rfl ?_
  refine wp_bipush (n := 28) (v := 20) dX0_init_26 rfl (by decide) ?_
  obtain ⟨b1, b2, h⟩ := h
  refine wp_newq (n := 31) (N := 20) (t := 2) (E := "java/lang/Object") (rc' := rc - 1 - 1 - 1) (rs' := rs - 96 - 96 - 20) dX0_init_28 rfl (by decide) rfl q117 (by decide) (by decide) (by decide) (by decide) (by omega) (by omega) (fun a28 f28 => ?_)
  obtain ⟨w28, ew28⟩ : ∃ z, z = aup w22 a28 (.inl (2, 20, .inr (.inr (.inr (.inr (fun _ => none)))))) := ⟨_, rfl⟩
  rw [← ew28]
  replace h := h a28 w28 f28 ew28
  refine wp_pf (n := 34) dX0_init_31 rfl pti_X0_20 (nar_a _ _) (fit_a _ _) (pf_mono h (fun w31 h => ?_))
  refine wp_aload_n (n := 35) (i := 0) (q := 0) dX0_init_34 rfl rfl rfl ?_
  refine wp_bipush (n := 37) (v := 24) dX0_init_35 rfl (by decide) ?_
  obtain ⟨b1, b2, h⟩ := h
  refine wp_newi (n := 39) (N := 24) (rc' := rc - 1 - 1 - 1 - 1) (rs' := rs - 96 - 96 - 20 - 24) dX0_init_37 rfl (by decide) (by decide) (by decide) (by omega) (by omega) q132 (fun a37 f37 => ?_)
  obtain ⟨w37, ew37⟩ : ∃ z, z = aup w31 a37 (.inl (0, 24, .inl (fun _ => 0))) := ⟨_, rfl⟩
  rw [← ew37]
  replace h := h a37 w37 f37 ew37
  refine wp_pf (n := 42) dX0_init_39 rfl pti_X0_24 (nar_a _ _) (fit_a _ _) (pf_mono h (fun w39 h => ?_))
  refine wp_aload_n (n := 43) (i := 0) (q := 0) dX0_init_42 rfl rfl rfl ?_
  refine wp_bipush (n := 45) (v := 20) dX0_init_43 rfl (by decide) ?_
  obtain ⟨b1, b2, h⟩ := h
  refine wp_newq (n := 48) (N := 20) (t := 3) (E := "DeadListPool$Snapshot") (rc' := rc - 1 - 1 - 1 - 1 - 1) (rs' := rs - 96 - 96 - 20 - 24 - 20) dX0_init_45 rfl (by decide) rfl q119 (by decide) (by decide) (by decide) (by decide) (by omega) (by omega) (fun a45 f45 => ?_)
  obtain ⟨w45, ew45⟩ : ∃ z, z = aup w39 a45 (.inl (3, 20, .inr (.inr (.inr (.inr (fun _ => none)))))) := ⟨_, rfl⟩
  rw [← ew45]
  replace h := h a45 w45 f45 ew45
  refine wp_pf (n := 51) dX0_init_48 rfl pti_X0_29 (nar_a _ _) (fit_a _ _) (pf_mono h (fun w48 h => ?_))
  refine wp_aload_n (n := 52) (i := 0) (q := 0) dX0_init_51 rfl rfl rfl ?_
  refine wp_iconst (n := 53) (v := 4) dX0_init_52 rfl (by decide) ?_
  obtain ⟨b1, b2, h⟩ := h
  refine wp_newq (n := 56) (N := 4) (t := 4) (E := "DeadListPool$Sheet") (rc' := rc - 1 - 1 - 1 - 1 - 1 - 1) (rs' := rs - 96 - 96 - 20 - 24 - 20 - 4) dX0_init_53 rfl (by decide) rfl q121 (by decide) (by decide) (by decide) (by decide) (by omega) (by omega) (fun a53 f53 => ?_)
  obtain ⟨w53, ew53⟩ : ∃ z, z = aup w48 a53 (.inl (4, 4, .inr (.inr (.inr (.inr (fun _ => none)))))) := ⟨_, rfl⟩
  rw [← ew53]
  replace h := h a53 w53 f53 ew53
  refine wp_dup (n := 57) dX0_init_56 rfl rfl ?_
  refine wp_iconst (n := 58) (v := 0) dX0_init_57 rfl (by decide) ?_
  obtain ⟨b1, b2, h⟩ := h
  refine wp_new (n := 61) (rc' := rc - 1 - 1 - 1 - 1 - 1 - 1 - 1) (rs' := rs - 96 - 96 - 20 - 24 - 20 - 4 - 1) dX0_init_58 rfl nw_X0_33 (by omega) (by show _ + 1 ≤ _; omega) (fun a58 f58 => ?_)
  obtain ⟨w58, ew58⟩ : ∃ z, z = aup w53 a58 (.inr (1, [vR none])) := ⟨_, rfl⟩
  rw [← ew58]
  replace h := h a58 w58 f58 ew58
  refine wp_dup (n := 62) dX0_init_61 rfl rfl ?_
  refine wp_call (n := 65) (K' := KX1_init) (rc' := rc - 1 - 1 - 1 - 1 - 1 - 1 - 1) (rs' := rs - 96 - 96 - 20 - 24 - 20 - 4 - 1) (aRun_IN (K' := KX1_init) (As := []) (rest := [vR (some a58), vI 0, vR (some a53), vR (some a53), vR (some h0)]) (b := a58) dX0_init_62 (aCal_of kf_X1_init (Nat.le_of_ble_eq_true rfl)) rfl q124 q125 rfl rfl ar_X1_init rfl (Nat.le_of_ble_eq_true rfl)) rfl (Nat.le_of_eq (Nat.zero_add _)) (Nat.le_of_eq (Nat.zero_add _)) (fun v62 w62 h => ?_) (fun E62 w62 h => ?_) h
  · obtain ⟨rfl, h⟩ := h
    obtain ⟨k65, h⟩ := h
    refine wp_pR (n := 66) dX0_init_65 rfl (by decide) rfl cok_Sheet (Or.inr ⟨_, rfl, k65⟩) (pR_mono h (fun w65 h => ?_))
    refine wp_dup (n := 67) dX0_init_66 rfl rfl ?_
    refine wp_iconst (n := 68) (v := 1) dX0_init_67 rfl (by decide) ?_
    obtain ⟨b1, b2, h⟩ := h
    refine wp_new (n := 71) (rc' := rc - 1 - 1 - 1 - 1 - 1 - 1 - 1 - 1) (rs' := rs - 96 - 96 - 20 - 24 - 20 - 4 - 1 - 1) dX0_init_68 rfl nw_X0_33 (by omega) (by show _ + 1 ≤ _; omega) (fun a68 f68 => ?_)
    obtain ⟨w68, ew68⟩ : ∃ z, z = aup w65 a68 (.inr (1, [vR none])) := ⟨_, rfl⟩
    rw [← ew68]
    replace h := h a68 w68 f68 ew68
    refine wp_dup (n := 72) dX0_init_71 rfl rfl ?_
    refine wp_call (n := 75) (K' := KX1_init) (rc' := rc - 1 - 1 - 1 - 1 - 1 - 1 - 1 - 1) (rs' := rs - 96 - 96 - 20 - 24 - 20 - 4 - 1 - 1) (aRun_IN (K' := KX1_init) (As := []) (rest := [vR (some a68), vI 1, vR (some a53), vR (some a53), vR (some h0)]) (b := a68) dX0_init_72 (aCal_of kf_X1_init (Nat.le_of_ble_eq_true rfl)) rfl q124 q125 rfl rfl ar_X1_init rfl (Nat.le_of_ble_eq_true rfl)) rfl (Nat.le_of_eq (Nat.zero_add _)) (Nat.le_of_eq (Nat.zero_add _)) (fun v72 w72 h => ?_) (fun E72 w72 h => ?_) h
    · obtain ⟨rfl, h⟩ := h
      obtain ⟨k75, h⟩ := h
      refine wp_pR (n := 76) dX0_init_75 rfl (by decide) rfl cok_Sheet (Or.inr ⟨_, rfl, k75⟩) (pR_mono h (fun w75 h => ?_))
      refine wp_dup (n := 77) dX0_init_76 rfl rfl ?_
      refine wp_iconst (n := 78) (v := 2) dX0_init_77 rfl (by decide) ?_
      obtain ⟨b1, b2, h⟩ := h
      refine wp_new (n := 81) (rc' := rc - 1 - 1 - 1 - 1 - 1 - 1 - 1 - 1 - 1) (rs' := rs - 96 - 96 - 20 - 24 - 20 - 4 - 1 - 1 - 1) dX0_init_78 rfl nw_X0_33 (by omega) (by show _ + 1 ≤ _; omega) (fun a78 f78 => ?_)
      obtain ⟨w78, ew78⟩ : ∃ z, z = aup w75 a78 (.inr (1, [vR none])) := ⟨_, rfl⟩
      rw [← ew78]
      replace h := h a78 w78 f78 ew78
      refine wp_dup (n := 82) dX0_init_81 rfl rfl ?_
      refine wp_call (n := 85) (K' := KX1_init) (rc' := rc - 1 - 1 - 1 - 1 - 1 - 1 - 1 - 1 - 1) (rs' := rs - 96 - 96 - 20 - 24 - 20 - 4 - 1 - 1 - 1) (aRun_IN (K' := KX1_init) (As := []) (rest := [vR (some a78), vI 2, vR (some a53), vR (some a53), vR (some h0)]) (b := a78) dX0_init_82 (aCal_of kf_X1_init (Nat.le_of_ble_eq_true rfl)) rfl q124 q125 rfl rfl ar_X1_init rfl (Nat.le_of_ble_eq_true rfl)) rfl (Nat.le_of_eq (Nat.zero_add _)) (Nat.le_of_eq (Nat.zero_add _)) (fun v82 w82 h => ?_) (fun E82 w82 h => ?_) h
      · obtain ⟨rfl, h⟩ := h
        obtain ⟨k85, h⟩ := h
        refine wp_pR (n := 86) dX0_init_85 rfl (by decide) rfl cok_Sheet (Or.inr ⟨_, rfl, k85⟩) (pR_mono h (fun w85 h => ?_))
        refine wp_dup (n := 87) dX0_init_86 rfl rfl ?_
        refine wp_iconst (n := 88) (v := 3) dX0_init_87 rfl (by decide) ?_
        obtain ⟨b1, b2, h⟩ := h
        refine wp_new (n := 91) (rc' := rc - 1 - 1 - 1 - 1 - 1 - 1 - 1 - 1 - 1 - 1) (rs' := rs - 96 - 96 - 20 - 24 - 20 - 4 - 1 - 1 - 1 - 1) dX0_init_88 rfl nw_X0_33 (by omega) (by show _ + 1 ≤ _; omega) (fun a88 f88 => ?_)
        obtain ⟨w88, ew88⟩ : ∃ z, z = aup w85 a88 (.inr (1, [vR none])) := ⟨_, rfl⟩
        rw [← ew88]
        replace h := h a88 w88 f88 ew88
        refine wp_dup (n := 92) dX0_init_91 rfl rfl ?_
        refine wp_call (n := 95) (K' := KX1_init) (rc' := rc - 1 - 1 - 1 - 1 - 1 - 1 - 1 - 1 - 1 - 1) (rs' := rs - 96 - 96 - 20 - 24 - 20 - 4 - 1 - 1 - 1 - 1) (aRun_IN (K' := KX1_init) (As := []) (rest := [vR (some a88), vI 3, vR (some a53), vR (some a53), vR (some h0)]) (b := a88) dX0_init_92 (aCal_of kf_X1_init (Nat.le_of_ble_eq_true rfl)) rfl q124 q125 rfl rfl ar_X1_init rfl (Nat.le_of_ble_eq_true rfl)) rfl (Nat.le_of_eq (Nat.zero_add _)) (Nat.le_of_eq (Nat.zero_add _)) (fun v92 w92 h => ?_) (fun E92 w92 h => ?_) h
        · obtain ⟨rfl, h⟩ := h
          obtain ⟨k95, h⟩ := h
          refine wp_pR (n := 96) dX0_init_95 rfl (by decide) rfl cok_Sheet (Or.inr ⟨_, rfl, k95⟩) (pR_mono h (fun w95 h => ?_))
          refine wp_pf (n := 99) dX0_init_96 rfl pti_X0_36 (nar_a _ _) (fit_a _ _) (pf_mono h (fun w96 h => ?_))
          refine wp_aload_n (n := 100) (i := 0) (q := 0) dX0_init_99 rfl rfl rfl ?_
          obtain ⟨b1, b2, h⟩ := h
          refine wp_new (n := 103) (rc' := rc - 1 - 1 - 1 - 1 - 1 - 1 - 1 - 1 - 1 - 1 - 1) (rs' := rs - 96 - 96 - 20 - 24 - 20 - 4 - 1 - 1 - 1 - 1 - 11) dX0_init_100 rfl nw_X0_40 (by omega) (by show _ + 11 ≤ _; omega) (fun a100 f100 => ?_)
          obtain ⟨w100, ew100⟩ : ∃ z, z = aup w96 a100 (.inr (2, [vR none, vR none, vR none, vR none, vR none, vR none, vR none, vR none, vR none, vI 0, vI 0])) := ⟨_, rfl⟩
          rw [← ew100]
          replace h := h a100 w100 f100 ew100
          refine wp_dup (n := 104) dX0_init_103 rfl rfl ?_
          obtain ⟨b104, bb104, h⟩ := h
          refine wp_call (n := 107) (K' := KX2_init) (rc' := rc - 1 - 1 - 1 - 1 - 1 - 1 - 1 - 1 - 1 - 1 - 1 - 49) (rs' := rs - 96 - 96 - 20 - 24 - 20 - 4 - 1 - 1 - 1 - 1 - 11 - 812) (aRun_IN (K' := KX2_init) (As := []) (rest := [vR (some a100), vR (some h0)]) (b := a100) dX0_init_104 (aCal_of kf_X2_init (Nat.le_of_ble_eq_true rfl)) rfl q135 q136 rfl rfl ar_X2_init rfl (Nat.le_of_ble_eq_true rfl)) rfl (by omega) (by omega) (fun v104 w104 h => ?_) (fun E104 w104 h => ?_) h
          · obtain ⟨rfl, h⟩ := h
            refine wp_pf (n := 110) dX0_init_107 rfl pti_X0_43 (nar_o _ _) (fit_o _ _) (pf_mono h (fun w107 h => ?_))
            refine wp_aload_n (n := 111) (i := 0) (q := 0) dX0_init_110 rfl rfl rfl ?_
            obtain ⟨b1, b2, h⟩ := h
            refine wp_new (n := 114) (rc' := rc - 1 - 1 - 1 - 1 - 1 - 1 - 1 - 1 - 1 - 1 - 1 - 49 - 1) (rs' := rs - 96 - 96 - 20 - 24 - 20 - 4 - 1 - 1 - 1 - 1 - 11 - 812 - 11) dX0_init_111 rfl nw_X0_40 (by omega) (by show _ + 11 ≤ _; omega) (fun a111 f111 => ?_)
            obtain ⟨w111, ew111⟩ : ∃ z, z = aup w107 a111 (.inr (2, [vR none, vR none, vR none, vR none, vR none, vR none, vR none, vR none, vR none, vI 0, vI 0])) := ⟨_, rfl⟩
            rw [← ew111]
            replace h := h a111 w111 f111 ew111
            refine wp_dup (n := 115) dX0_init_114 rfl rfl ?_
            obtain ⟨b115, bb115, h⟩ := h
            refine wp_call (n := 118) (K' := KX2_init) (rc' := rc - 1 - 1 - 1 - 1 - 1 - 1 - 1 - 1 - 1 - 1 - 1 - 49 - 1 - 49) (rs' := rs - 96 - 96 - 20 - 24 - 20 - 4 - 1 - 1 - 1 - 1 - 11 - 812 - 11 - 812) (aRun_IN (K' := KX2_init) (As := []) (rest := [vR (some a111), vR (some h0)]) (b := a111) dX0_init_115 (aCal_of kf_X2_init (Nat.le_of_ble_eq_true rfl)) rfl q135 q136 rfl rfl ar_X2_init rfl (Nat.le_of_ble_eq_true rfl)) rfl (by omega) (by omega) (fun v115 w115 h => ?_) (fun E115 w115 h => ?_) h
            · obtain ⟨rfl, h⟩ := h
              refine wp_pf (n := 121) dX0_init_118 rfl pti_X0_47 (nar_o _ _) (fit_o _ _) (pf_mono h (fun w118 h => ?_))
              exact wp_return dX0_init_121 rfl h
            · exact h.elim
          · exact h.elim
        · exact h.elim
      · exact h.elim
    · exact h.elim
  · exact h.elim
set_option maxHeartbeats 1000000 in
theorem sg_X0_isInChain_0 {r0 : Option Nat} {r1 : Option Nat} {rc rs : Nat} {QR : Option aV → aW → Prop} {QX : String → aW → Prop} {w : aW} (h : wp (KX0_isInChain) rc rs QR QX 2 [(0, vR r0), (1, vR r1), (2, vR r1)] [] w) : wp (KX0_isInChain) rc rs QR QX 0 [(0, vR r0), (1, vR r1)] [] w := by
  refine wp_aload_n (n := 1) (i := 1) (q := 1) dX0_isInChain_0 rfl rfl rfl ?_
  refine wp_astore_n (n := 2) (i := 2) (ls' := [(2, vR r1), (0, vR r0), (1, vR r1)]) dX0_isInChain_1 rfl rfl (Nat.le_of_ble_eq_true rfl) rfl ?_
  exact wp_sub [1, 2, 0] rfl h
set_option maxHeartbeats 1000000 in
theorem sg_X0_isInChain_2 {r0 : Option Nat} {r1 : Option Nat} {r2 : Option Nat} {rc rs : Nat} {QR : Option aV → aW → Prop} {QX : String → aW → Prop} {w : aW} (h : (r2 = none → (¬ none = r0 → QR (some (vI 0)) w) ∧ (none = r0 → QR (some (vI 1)) w)) ∧ (∀ a3 : Nat, r2 = some a3 → (some a3 = r0 → (¬ some a3 = r0 → QR (some (vI 0)) w) ∧ (some a3 = r0 → QR (some (vI 1)) w)) ∧ (¬ some a3 = r0 → ∃ x12 : Option Nat, gf w a3 [6, 7] 5 (vR x12) ∧ wp (KX0_isInChain) rc rs QR QX 2 [(0, vR r0), (1, vR r1), (2, vR x12)] [] w))) : wp (KX0_isInChain) rc rs QR QX 2 [(0, vR r0), (1, vR r1), (2, vR r2)] [] w := by
  refine wp_aload_n (n := 3) (i := 2) (q := 2) dX0_isInChain_2 rfl rfl rfl ?_
  rcases opt_c r2 with ea3 | ⟨a3, ea3⟩
  · replace h := h.1 ea3
    rw [ea3]
    refine wp_ifnull (n := 6) (t := 19) dX0_isInChain_3 rfl (by decide) (fun _ => ?_) (fun z zz => nomatch zz)
    refine wp_aload_n (n := 20) (i := 2) (q := 2) dX0_isInChain_19 rfl rfl rfl ?_
    refine wp_aload_n (n := 21) (i := 0) (q := 0) dX0_isInChain_20 rfl rfl rfl ?_
    refine wp_acmp_ne (n := 24) (t := 28) dX0_isInChain_21 rfl (by decide) (fun c21 => ?_) (fun c21 => ?_)
    · replace h := h.1 c21
      refine wp_iconst (n := 29) (v := 0) dX0_isInChain_28 rfl (by decide) ?_
      exact wp_zreturn dX0_isInChain_29 rfl (by decide) h
    · replace h := h.2 c21
      refine wp_iconst (n := 25) (v := 1) dX0_isInChain_24 rfl (by decide) ?_
      refine wp_goto (t := 29) dX0_isInChain_25 (by decide) ?_
      exact wp_zreturn dX0_isInChain_29 rfl (by decide) h
  · replace h := h.2 a3 ea3
    rw [ea3]
    refine wp_ifnull (n := 6) (t := 19) dX0_isInChain_3 rfl (by decide) (fun zz => nomatch zz) (fun _ _ => ?_)
    refine wp_aload_n (n := 7) (i := 2) (q := 2) dX0_isInChain_6 rfl rfl rfl ?_
    refine wp_aload_n (n := 8) (i := 0) (q := 0) dX0_isInChain_7 rfl rfl rfl ?_
    refine wp_acmp_eq (n := 11) (t := 19) dX0_isInChain_8 rfl (by decide) (fun c8 => ?_) (fun c8 => ?_)
    · replace h := h.1 c8
      refine wp_aload_n (n := 20) (i := 2) (q := 2) dX0_isInChain_19 rfl rfl rfl ?_
      refine wp_aload_n (n := 21) (i := 0) (q := 0) dX0_isInChain_20 rfl rfl rfl ?_
      refine wp_acmp_ne (n := 24) (t := 28) dX0_isInChain_21 rfl (by decide) (fun c21 => ?_) (fun c21 => ?_)
      · replace h := h.1 c21
        refine wp_iconst (n := 29) (v := 0) dX0_isInChain_28 rfl (by decide) ?_
        exact wp_zreturn dX0_isInChain_29 rfl (by decide) h
      · replace h := h.2 c21
        refine wp_iconst (n := 25) (v := 1) dX0_isInChain_24 rfl (by decide) ?_
        refine wp_goto (t := 29) dX0_isInChain_25 (by decide) ?_
        exact wp_zreturn dX0_isInChain_29 rfl (by decide) h
    · replace h := h.2 c8
      refine wp_aload_n (n := 12) (i := 2) (q := 2) dX0_isInChain_11 rfl rfl rfl ?_
      obtain ⟨x12, g12, h⟩ := h
      refine wp_gf (n := 15) dX0_isInChain_12 rfl fl_X0_99 g12 ?_
      refine wp_astore_n (n := 16) (i := 2) (ls' := [(2, vR x12), (0, vR r0), (1, vR r1)]) dX0_isInChain_15 rfl rfl (Nat.le_of_ble_eq_true rfl) rfl ?_
      refine wp_goto (t := 2) dX0_isInChain_16 (by decide) ?_
      exact wp_sub [1, 2, 0] rfl h
set_option maxHeartbeats 1000000 in
theorem sg_X0_item_0 {h0 : Nat} {i1 : Int32} {i2 : Int32} {rc rs : Nat} {QR : Option aV → aW → Prop} {QX : String → aW → Prop} {w : aW} (h : ct (KX0_isSheet) 0 0 [vI i1] w (fun v1 w1 => ∃ x1 : Int32, v1 = some (vI x1) ∧ (¬ x1 = 0 → ∃ x12 : Nat, gf w1 h0 [0] 7 (vR (some x12)) ∧ ∃ x16 : Nat, gR w1 x12 4 i1 (some x16) ∧ ∃ x17 : Option Nat, gf w1 x16 [1] 0 (vR x17) ∧ (x17 = none → 4 ≤ rc ∧ 956 ≤ rs ∧ ct (KX0_itemOf) 4 956 [vR none, vI 1, vI i2] w1 (fun v35 w35 => ∃ x35 : Int64, v35 = some (vL x35) ∧ QR (some (vL x35)) w35) (fun E35 w35 => (E35 = "java/lang/IndexOutOfBoundsException" ∧ QR (some (vL (-4611686018427387904))) w35) ∨ (E35 = "java/lang/NullPointerException" ∧ QR (some (vL (-4611686018427387904))) w35) ∨ (E35 = "java/lang/ClassCastException" ∧ QX "java/lang/ClassCastException" w35))) ∧ (∀ a23 : Nat, x17 = some a23 → ((ckr w1 a23 0 ∧ 4 ≤ rc ∧ 956 ≤ rs ∧ ct (KX0_itemOf) 4 956 [vR (some a23), vI 0, vI i2] w1 (fun v35 w35 => ∃ x35 : Int64, v35 = some (vL x35) ∧ QR (some (vL x35)) w35) (fun E35 w35 => (E35 = "java/lang/IndexOutOfBoundsException" ∧ QR (some (vL (-4611686018427387904))) w35) ∨ (E35 = "java/lang/NullPointerException" ∧ QR (some (vL (-4611686018427387904))) w35) ∨ (E35 = "java/lang/ClassCastException" ∧ QX "java/lang/ClassCastException" w35))) ∨ (ckr w1 a23 1 ∧ 4 ≤ rc ∧ 956 ≤ rs ∧ ct (KX0_itemOf) 4 956 [vR (some a23), vI 1, vI i2] w1 (fun v35 w35 => ∃ x35 : Int64, v35 = some (vL x35) ∧ QR (some (vL x35)) w35) (fun E35 w35 => (E35 = "java/lang/IndexOutOfBoundsException" ∧ QR (some (vL (-4611686018427387904))) w35) ∨ (E35 = "java/lang/NullPointerException" ∧ QR (some (vL (-4611686018427387904))) w35) ∨ (E35 = "java/lang/ClassCastException" ∧ QX "java/lang/ClassCastException" w35)))))) ∧ (x1 = 0 → QR (some (vL (-4611686018427387904))) w1)) (fun E1 w1 => False)) : wp (KX0_item) rc rs QR QX 0 [(0, vR (some h0)), (1, vI i1), (2, vI i2)] [] w := by
  refine wp_iload_n (n := 1) (i := 1) (q := 1) dX0_item_0 rfl rfl rfl ?_
  refine wp_call (n := 4) (K' := KX0_isSheet) (rc' := rc) (rs' := rs) (aRun_S (K' := KX0_isSheet) (As := [vI i1]) (rest := []) dX0_item_1 (aCal_of kf_X0_isSheet (Nat.le_of_ble_eq_true rfl)) rfl q914 q915 ar_X0_isSheet rfl (Nat.le_of_ble_eq_true rfl)) rfl (Nat.le_of_eq (Nat.zero_add _)) (Nat.le_of_eq (Nat.zero_add _)) (fun v1 w1 h => ?_) (fun E1 w1 h => ?_) h
  · obtain ⟨x1, rfl, h⟩ := h
    refine wp_if_ne (n := 7) (t := 11) dX0_item_4 rfl (by decide) (fun c4 => ?_) (fun c4 => ?_)
    · replace h := h.1 c4
      refine wp_aload_n (n := 12) (i := 0) (q := 0) dX0_item_11 rfl rfl rfl ?_
      obtain ⟨x12, g12, h⟩ := h
      refine wp_gf (n := 15) dX0_item_12 rfl fl_X0_36 g12 ?_
      refine wp_iload_n (n := 16) (i := 1) (q := 1) dX0_item_15 rfl rfl rfl ?_
      obtain ⟨x16, g16, h⟩ := h
      refine wp_gR (n := 17) dX0_item_16 rfl (by decide) g16 ?_
      obtain ⟨x17, g17, h⟩ := h
      refine wp_gfn (n := 20) dX0_item_17 rfl fl_X0_376 g17 ?_
      refine wp_astore_n (n := 21) (i := 3) (ls' := [(3, vR x17), (0, vR (some h0)), (1, vI i1), (2, vI i2)]) dX0_item_20 rfl rfl (Nat.le_of_ble_eq_true rfl) rfl ?_
      refine wp_aload_n (n := 22) (i := 3) (q := 0) dX0_item_21 rfl rfl rfl ?_
      refine wp_aload_n (n := 23) (i := 3) (q := 0) dX0_item_22 rfl rfl rfl ?_
      rcases opt_c x17 with ea23 | ⟨a23, ea23⟩
      · replace h := h.1 ea23
        rw [ea23]
        refine wp_instN (n := 26) dX0_item_23 rfl ?_
        refine wp_if_eq (n := 29) (t := 33) dX0_item_26 rfl (by decide) (fun _ => ?_) (fun z => absurd z (by decide))
        refine wp_iconst (n := 34) (v := 1) dX0_item_33 rfl (by decide) ?_
        refine wp_iload_n (n := 35) (i := 2) (q := 3) dX0_item_34 rfl rfl rfl ?_
        obtain ⟨b35, bb35, h⟩ := h
        refine wp_call (n := 38) (K' := KX0_itemOf) (rc' := rc - 4) (rs' := rs - 956) (aRun_S (K' := KX0_itemOf) (As := [vR none, vI 1, vI i2]) (rest := []) dX0_item_35 (aCal_of kf_X0_itemOf (Nat.le_of_ble_eq_true rfl)) rfl q935 q936 ar_X0_itemOf rfl (Nat.le_of_ble_eq_true rfl)) rfl (by omega) (by omega) (fun v35 w35 h => ?_) (fun E35 w35 h => ?_) h
        · obtain ⟨x35, rfl, h⟩ := h
          exact wp_lreturn dX0_item_38 rfl h
        · rcases h with h | h | h
          · obtain ⟨rfl, h⟩ := h
            refine wpx_catch (nm := "java/lang/IndexOutOfBoundsException") [(21, 38, 39, 169)] (21, 38, 45, 53) [] rfl (fun z hz => by have hz : z ∈ ([(21, 38, 39, 169)] : List (Nat × Nat × Nat × Nat)) := hz; simp only [List.mem_cons, List.not_mem_nil, or_false] at hz; subst hz; exact Or.inr ⟨by decide, "java/lang/NullPointerException", q411, nc_IndexOutOfBoundsException_NullPointerException⟩) (by decide) (by decide) q320 q459 (fun q9 => ?_)
            refine wp_astore (n := 47) (i := 4) (ls' := [(4, vR (some q9)), (3, vR none), (0, vR (some h0)), (1, vI i1), (2, vI i2)]) dX0_item_45 rfl (Nat.le_of_ble_eq_true rfl) rfl ?_
            refine wp_ldc2 (n := 50) dX0_item_47 rfl q797 ?_
            exact wp_lreturn dX0_item_50 rfl h
          · obtain ⟨rfl, h⟩ := h
            refine wpx_catch (nm := "java/lang/NullPointerException") [] (21, 38, 39, 169) [(21, 38, 45, 53)] rfl (fun z hz => absurd hz List.not_mem_nil) (by decide) (by decide) q411 q433 (fun q9 => ?_)
            refine wp_astore (n := 41) (i := 4) (ls' := [(4, vR (some q9)), (3, vR none), (0, vR (some h0)), (1, vI i1), (2, vI i2)]) dX0_item_39 rfl (Nat.le_of_ble_eq_true rfl) rfl ?_
            refine wp_ldc2 (n := 44) dX0_item_41 rfl q797 ?_
            exact wp_lreturn dX0_item_44 rfl h
          · obtain ⟨rfl, h⟩ := h
            exact wpx_out (fun z hz => by have hz : z ∈ ([(21, 38, 39, 169), (21, 38, 45, 53)] : List (Nat × Nat × Nat × Nat)) := hz; simp only [List.mem_cons, List.not_mem_nil, or_false] at hz; rcases hz with rfl | rfl; exact Or.inr ⟨by decide, "java/lang/NullPointerException", q411, nc_ClassCastException_NullPointerException⟩; exact Or.inr ⟨by decide, "java/lang/IndexOutOfBoundsException", q320, nc_ClassCastException_IndexOutOfBoundsException⟩) h
      · replace h := h.2 a23 ea23
        rw [ea23]
        rcases h with h | h
        · obtain ⟨k23, h⟩ := h
          refine wp_cirY (n := 26) dX0_item_23 rfl q929 cok_I1 k23 ?_
          refine wp_if_eq (n := 29) (t := 33) dX0_item_26 rfl (by decide) (fun z => absurd z (by decide)) (fun _ => ?_)
          refine wp_iconst (n := 30) (v := 0) dX0_item_29 rfl (by decide) ?_
          refine wp_goto (t := 34) dX0_item_30 (by decide) ?_
          refine wp_iload_n (n := 35) (i := 2) (q := 3) dX0_item_34 rfl rfl rfl ?_
          obtain ⟨b35, bb35, h⟩ := h
          refine wp_call (n := 38) (K' := KX0_itemOf) (rc' := rc - 4) (rs' := rs - 956) (aRun_S (K' := KX0_itemOf) (As := [vR (some a23), vI 0, vI i2]) (rest := []) dX0_item_35 (aCal_of kf_X0_itemOf (Nat.le_of_ble_eq_true rfl)) rfl q935 q936 ar_X0_itemOf rfl (Nat.le_of_ble_eq_true rfl)) rfl (by omega) (by omega) (fun v35 w35 h => ?_) (fun E35 w35 h => ?_) h
          · obtain ⟨x35, rfl, h⟩ := h
            exact wp_lreturn dX0_item_38 rfl h
          · rcases h with h | h | h
            · obtain ⟨rfl, h⟩ := h
              refine wpx_catch (nm := "java/lang/IndexOutOfBoundsException") [(21, 38, 39, 169)] (21, 38, 45, 53) [] rfl (fun z hz => by have hz : z ∈ ([(21, 38, 39, 169)] : List (Nat × Nat × Nat × Nat)) := hz; simp only [List.mem_cons, List.not_mem_nil, or_false] at hz; subst hz; exact Or.inr ⟨by decide, "java/lang/NullPointerException", q411, nc_IndexOutOfBoundsException_NullPointerException⟩) (by decide) (by decide) q320 q459 (fun q9 => ?_)
              refine wp_astore (n := 47) (i := 4) (ls' := [(4, vR (some q9)), (3, vR (some a23)), (0, vR (some h0)), (1, vI i1), (2, vI i2)]) dX0_item_45 rfl (Nat.le_of_ble_eq_true rfl) rfl ?_
              refine wp_ldc2 (n := 50) dX0_item_47 rfl q797 ?_
              exact wp_lreturn dX0_item_50 rfl h
            · obtain ⟨rfl, h⟩ := h
              refine wpx_catch (nm := "java/lang/NullPointerException") [] (21, 38, 39, 169) [(21, 38, 45, 53)] rfl (fun z hz => absurd hz List.not_mem_nil) (by decide) (by decide) q411 q433 (fun q9 => ?_)
              refine wp_astore (n := 41) (i := 4) (ls' := [(4, vR (some q9)), (3, vR (some a23)), (0, vR (some h0)), (1, vI i1), (2, vI i2)]) dX0_item_39 rfl (Nat.le_of_ble_eq_true rfl) rfl ?_
              refine wp_ldc2 (n := 44) dX0_item_41 rfl q797 ?_
              exact wp_lreturn dX0_item_44 rfl h
            · obtain ⟨rfl, h⟩ := h
              exact wpx_out (fun z hz => by have hz : z ∈ ([(21, 38, 39, 169), (21, 38, 45, 53)] : List (Nat × Nat × Nat × Nat)) := hz; simp only [List.mem_cons, List.not_mem_nil, or_false] at hz; rcases hz with rfl | rfl; exact Or.inr ⟨by decide, "java/lang/NullPointerException", q411, nc_ClassCastException_NullPointerException⟩; exact Or.inr ⟨by decide, "java/lang/IndexOutOfBoundsException", q320, nc_ClassCastException_IndexOutOfBoundsException⟩) h
        · obtain ⟨k23, h⟩ := h
          refine wp_cirX (n := 26) dX0_item_23 rfl q929 cno_I1 k23 ?_
          refine wp_if_eq (n := 29) (t := 33) dX0_item_26 rfl (by decide) (fun _ => ?_) (fun z => absurd z (by decide))
          refine wp_iconst (n := 34) (v := 1) dX0_item_33 rfl (by decide) ?_
          refine wp_iload_n (n := 35) (i := 2) (q := 3) dX0_item_34 rfl rfl rfl ?_
          obtain ⟨b35, bb35, h⟩ := h
          refine wp_call (n := 38) (K' := KX0_itemOf) (rc' := rc - 4) (rs' := rs - 956) (aRun_S (K' := KX0_itemOf) (As := [vR (some a23), vI 1, vI i2]) (rest := []) dX0_item_35 (aCal_of kf_X0_itemOf (Nat.le_of_ble_eq_true rfl)) rfl q935 q936 ar_X0_itemOf rfl (Nat.le_of_ble_eq_true rfl)) rfl (by omega) (by omega) (fun v35 w35 h => ?_) (fun E35 w35 h => ?_) h
          · obtain ⟨x35, rfl, h⟩ := h
            exact wp_lreturn dX0_item_38 rfl h
          · rcases h with h | h | h
            · obtain ⟨rfl, h⟩ := h
              refine wpx_catch (nm := "java/lang/IndexOutOfBoundsException") [(21, 38, 39, 169)] (21, 38, 45, 53) [] rfl (fun z hz => by have hz : z ∈ ([(21, 38, 39, 169)] : List (Nat × Nat × Nat × Nat)) := hz; simp only [List.mem_cons, List.not_mem_nil, or_false] at hz; subst hz; exact Or.inr ⟨by decide, "java/lang/NullPointerException", q411, nc_IndexOutOfBoundsException_NullPointerException⟩) (by decide) (by decide) q320 q459 (fun q9 => ?_)
              refine wp_astore (n := 47) (i := 4) (ls' := [(4, vR (some q9)), (3, vR (some a23)), (0, vR (some h0)), (1, vI i1), (2, vI i2)]) dX0_item_45 rfl (Nat.le_of_ble_eq_true rfl) rfl ?_
              refine wp_ldc2 (n := 50) dX0_item_47 rfl q797 ?_
              exact wp_lreturn dX0_item_50 rfl h
            · obtain ⟨rfl, h⟩ := h
              refine wpx_catch (nm := "java/lang/NullPointerException") [] (21, 38, 39, 169) [(21, 38, 45, 53)] rfl (fun z hz => absurd hz List.not_mem_nil) (by decide) (by decide) q411 q433 (fun q9 => ?_)
              refine wp_astore (n := 41) (i := 4) (ls' := [(4, vR (some q9)), (3, vR (some a23)), (0, vR (some h0)), (1, vI i1), (2, vI i2)]) dX0_item_39 rfl (Nat.le_of_ble_eq_true rfl) rfl ?_
              refine wp_ldc2 (n := 44) dX0_item_41 rfl q797 ?_
              exact wp_lreturn dX0_item_44 rfl h
            · obtain ⟨rfl, h⟩ := h
              exact wpx_out (fun z hz => by have hz : z ∈ ([(21, 38, 39, 169), (21, 38, 45, 53)] : List (Nat × Nat × Nat × Nat)) := hz; simp only [List.mem_cons, List.not_mem_nil, or_false] at hz; rcases hz with rfl | rfl; exact Or.inr ⟨by decide, "java/lang/NullPointerException", q411, nc_ClassCastException_NullPointerException⟩; exact Or.inr ⟨by decide, "java/lang/IndexOutOfBoundsException", q320, nc_ClassCastException_IndexOutOfBoundsException⟩) h
    · replace h := h.2 c4
      refine wp_ldc2 (n := 10) dX0_item_7 rfl q797 ?_
      exact wp_lreturn dX0_item_10 rfl h
  · exact h.elim
set_option maxHeartbeats 1000000 in
theorem sg_X5_kind_0 {h0 : Nat} {rc rs : Nat} {QR : Option aV → aW → Prop} {QX : String → aW → Prop} {w : aW} (h : QR (some (vI 0)) w) : wp (KX5_kind) rc rs QR QX 0 [(0, vR (some h0))] [] w := by
  refine wp_iconst (n := 1) (v := 0) dX5_kind_0 rfl (by decide) ?_
  exact wp_ireturn dX5_kind_1 rfl h
set_option maxHeartbeats 1000000 in
theorem sg_X6_kind_0 {h0 : Nat} {rc rs : Nat} {QR : Option aV → aW → Prop} {QX : String → aW → Prop} {w : aW} (h : isO w h0 5 ∧ ct (KX5_kind) 0 0 [vR (some h0)] w (fun v1 w1 => ∃ x1 : Int32, v1 = some (vI x1) ∧ QR (some (vI (x1 + 1))) w1) (fun E1 w1 => False)) : wp (KX6_kind) rc rs QR QX 0 [(0, vR (some h0))] [] w := by
  refine wp_aload_n (n := 1) (i := 0) (q := 0) dX6_kind_0 rfl rfl rfl ?_
  obtain ⟨⟨fs1, o1⟩, h⟩ := h
  refine wp_call (n := 4) (K' := KX5_kind) (rc' := rc) (rs' := rs) (aRun_SU (K' := KX5_kind) (As := []) (rest := []) (b := h0) dX6_kind_1 (aCal_of kf_X5_kind (Nat.le_of_ble_eq_true rfl)) rfl q713 q1381 q311 q714 (by decide) ar_X5_kind o1 (by decide) rfl (Nat.le_of_ble_eq_true rfl)) rfl (Nat.le_of_eq (Nat.zero_add _)) (Nat.le_of_eq (Nat.zero_add _)) (fun v1 w1 h => ?_) (fun E1 w1 h => ?_) h
  · obtain ⟨x1, rfl, h⟩ := h
    refine wp_iconst (n := 5) (v := 1) dX6_kind_4 rfl (by decide) ?_
    refine wp_iadd (n := 6) dX6_kind_5 rfl ?_
    exact wp_ireturn dX6_kind_6 rfl h
  · exact h.elim
set_option maxHeartbeats 1000000 in
theorem sg_X7_kind_0 {h0 : Nat} {rc rs : Nat} {QR : Option aV → aW → Prop} {QX : String → aW → Prop} {w : aW} (h : QR (some (vI 2)) w) : wp (KX7_kind) rc rs QR QX 0 [(0, vR (some h0))] [] w := by
  refine wp_iconst (n := 1) (v := 2) dX7_kind_0 rfl (by decide) ?_
  exact wp_ireturn dX7_kind_1 rfl h
set_option maxHeartbeats 1000000 in
theorem sg_X8_kind_0 {h0 : Nat} {rc rs : Nat} {QR : Option aV → aW → Prop} {QX : String → aW → Prop} {w : aW} (h : isO w h0 7 ∧ ct (KX7_kind) 0 0 [vR (some h0)] w (fun v1 w1 => ∃ x1 : Int32, v1 = some (vI x1) ∧ QR (some (vI (x1 + 1))) w1) (fun E1 w1 => False)) : wp (KX8_kind) rc rs QR QX 0 [(0, vR (some h0))] [] w := by
  refine wp_aload_n (n := 1) (i := 0) (q := 0) dX8_kind_0 rfl rfl rfl ?_
  obtain ⟨⟨fs1, o1⟩, h⟩ := h
  refine wp_call (n := 4) (K' := KX7_kind) (rc' := rc) (rs' := rs) (aRun_SU (K' := KX7_kind) (As := []) (rest := []) (b := h0) dX8_kind_1 (aCal_of kf_X7_kind (Nat.le_of_ble_eq_true rfl)) rfl q723 q1382 q568 q718 (by decide) ar_X7_kind o1 (by decide) rfl (Nat.le_of_ble_eq_true rfl)) rfl (Nat.le_of_eq (Nat.zero_add _)) (Nat.le_of_eq (Nat.zero_add _)) (fun v1 w1 h => ?_) (fun E1 w1 h => ?_) h
  · obtain ⟨x1, rfl, h⟩ := h
    refine wp_iconst (n := 5) (v := 1) dX8_kind_4 rfl (by decide) ?_
    refine wp_iadd (n := 6) dX8_kind_5 rfl ?_
    exact wp_ireturn dX8_kind_6 rfl h
  · exact h.elim
set_option maxHeartbeats 1000000 in
theorem sg_X0_kindOf_0 {r0 : Option Nat} {rc rs : Nat} {QR : Option aV → aW → Prop} {QX : String → aW → Prop} {w : aW} (h : ∃ a1 : Nat, r0 = some a1 ∧ ((ck w a1 [8] ∧ QR (some (vI 4)) w) ∨ (ck w a1 [4, 5, 6, 7] ∧ ck w a1 [4, 5, 6, 7] ∧ ((isO w a1 4 ∧ ct (KX5_kind) 0 0 [vR (some a1)] w (fun v15 w15 => ∃ x15 : Int32, v15 = some (vI x15) ∧ QR (some (vI x15)) w15) (fun E15 w15 => False)) ∨ (isO w a1 5 ∧ ct (KX6_kind) 0 0 [vR (some a1)] w (fun v15 w15 => ∃ x15 : Int32, v15 = some (vI x15) ∧ QR (some (vI x15)) w15) (fun E15 w15 => False)) ∨ (isO w a1 6 ∧ ct (KX7_kind) 0 0 [vR (some a1)] w (fun v15 w15 => ∃ x15 : Int32, v15 = some (vI x15) ∧ QR (some (vI x15)) w15) (fun E15 w15 => False)) ∨ (isO w a1 7 ∧ ct (KX8_kind) 0 0 [vR (some a1)] w (fun v15 w15 => ∃ x15 : Int32, v15 = some (vI x15) ∧ QR (some (vI x15)) w15) (fun E15 w15 => False)))))) : wp (KX0_kindOf) rc rs QR QX 0 [(0, vR r0)] [] w := by
  refine wp_aload_n (n := 1) (i := 0) (q := 0) dX0_kindOf_0 rfl rfl rfl ?_
  obtain ⟨a1, ea1, h⟩ := h
  rw [ea1]
  rcases h with h | h
  · obtain ⟨k1, h⟩ := h
    refine wp_ciY (n := 4) dX0_kindOf_1 rfl q596 cok_Bookmark k1 ?_
    refine wp_if_eq (n := 7) (t := 11) dX0_kindOf_4 rfl (by decide) (fun z => absurd z (by decide)) (fun _ => ?_)
    refine wp_iconst (n := 8) (v := 4) dX0_kindOf_7 rfl (by decide) ?_
    refine wp_goto (t := 18) dX0_kindOf_8 (by decide) ?_
    exact wp_ireturn dX0_kindOf_18 rfl h
  · obtain ⟨k1, h⟩ := h
    refine wp_ciX (n := 4) dX0_kindOf_1 rfl q596 cno_Bookmark k1 ?_
    refine wp_if_eq (n := 7) (t := 11) dX0_kindOf_4 rfl (by decide) (fun _ => ?_) (fun z => absurd z (by decide))
    refine wp_aload_n (n := 12) (i := 0) (q := 0) dX0_kindOf_11 rfl rfl rfl ?_
    obtain ⟨k12, h⟩ := h
    refine wp_ckY (n := 15) dX0_kindOf_12 rfl q659 cok_Holder k12 ?_
    rcases h with h | h | h | h
    · obtain ⟨⟨fs15, o15⟩, h⟩ := h
      refine wp_call (n := 18) (K' := KX5_kind) (rc' := rc) (rs' := rs) (aRun_U (K' := KX5_kind) (As := []) (rest := []) (b := a1) (x := ⟨"DeadListPool$Holder", "kind", "()I"⟩) (owner := "DeadListPool$Holder") (c0 := .inr (4, fs15)) dX0_kindOf_15 (aCal_of kf_X5_kind (Nat.le_of_ble_eq_true rfl)) rfl q707 q709 q716 q714 (Or.inr q708) ⟨by decide, by decide⟩ ar_X5_kind o15 (by decide : 4 < 9) rfl (Nat.le_of_ble_eq_true rfl)) rfl (Nat.le_of_eq (Nat.zero_add _)) (Nat.le_of_eq (Nat.zero_add _)) (fun v15 w15 h => ?_) (fun E15 w15 h => ?_) h
      · obtain ⟨x15, rfl, h⟩ := h
        exact wp_ireturn dX0_kindOf_18 rfl h
      · exact h.elim
    · obtain ⟨⟨fs15, o15⟩, h⟩ := h
      refine wp_call (n := 18) (K' := KX6_kind) (rc' := rc) (rs' := rs) (aRun_U (K' := KX6_kind) (As := []) (rest := []) (b := a1) (x := ⟨"DeadListPool$Holder", "kind", "()I"⟩) (owner := "DeadListPool$Holder") (c0 := .inr (5, fs15)) dX0_kindOf_15 (aCal_of kf_X6_kind (Nat.le_of_ble_eq_true rfl)) rfl q707 q709 q710 q711 (Or.inr q708) ⟨by decide, by decide⟩ ar_X6_kind o15 (by decide : 5 < 9) rfl (Nat.le_of_ble_eq_true rfl)) rfl (Nat.le_of_eq (Nat.zero_add _)) (Nat.le_of_eq (Nat.zero_add _)) (fun v15 w15 h => ?_) (fun E15 w15 h => ?_) h
      · obtain ⟨x15, rfl, h⟩ := h
        exact wp_ireturn dX0_kindOf_18 rfl h
      · exact h.elim
    · obtain ⟨⟨fs15, o15⟩, h⟩ := h
      refine wp_call (n := 18) (K' := KX7_kind) (rc' := rc) (rs' := rs) (aRun_U (K' := KX7_kind) (As := []) (rest := []) (b := a1) (x := ⟨"DeadListPool$Holder", "kind", "()I"⟩) (owner := "DeadListPool$Holder") (c0 := .inr (6, fs15)) dX0_kindOf_15 (aCal_of kf_X7_kind (Nat.le_of_ble_eq_true rfl)) rfl q707 q709 q717 q718 (Or.inr q708) ⟨by decide, by decide⟩ ar_X7_kind o15 (by decide : 6 < 9) rfl (Nat.le_of_ble_eq_true rfl)) rfl (Nat.le_of_eq (Nat.zero_add _)) (Nat.le_of_eq (Nat.zero_add _)) (fun v15 w15 h => ?_) (fun E15 w15 h => ?_) h
      · obtain ⟨x15, rfl, h⟩ := h
        exact wp_ireturn dX0_kindOf_18 rfl h
      · exact h.elim
    · obtain ⟨⟨fs15, o15⟩, h⟩ := h
      refine wp_call (n := 18) (K' := KX8_kind) (rc' := rc) (rs' := rs) (aRun_U (K' := KX8_kind) (As := []) (rest := []) (b := a1) (x := ⟨"DeadListPool$Holder", "kind", "()I"⟩) (owner := "DeadListPool$Holder") (c0 := .inr (7, fs15)) dX0_kindOf_15 (aCal_of kf_X8_kind (Nat.le_of_ble_eq_true rfl)) rfl q707 q709 q720 q721 (Or.inr q708) ⟨by decide, by decide⟩ ar_X8_kind o15 (by decide : 7 < 9) rfl (Nat.le_of_ble_eq_true rfl)) rfl (Nat.le_of_eq (Nat.zero_add _)) (Nat.le_of_eq (Nat.zero_add _)) (fun v15 w15 h => ?_) (fun E15 w15 h => ?_) h
      · obtain ⟨x15, rfl, h⟩ := h
        exact wp_ireturn dX0_kindOf_18 rfl h
      · exact h.elim
set_option maxHeartbeats 1000000 in
theorem sg_X0_madeOf_0 {r0 : Option Nat} {rc rs : Nat} {QR : Option aV → aW → Prop} {QX : String → aW → Prop} {w : aW} (h : ∃ a1 : Nat, r0 = some a1 ∧ ((ck w a1 [8] ∧ ck w a1 [8] ∧ ∃ x11 : Int32, gf w a1 [8] 0 (vI x11) ∧ QR (some (vI x11)) w) ∨ (ck w a1 [4, 5, 6, 7] ∧ ck w a1 [4, 5, 6, 7] ∧ ∃ x21 : Int32, gf w a1 [4, 5, 6, 7] 0 (vI x21) ∧ QR (some (vI x21)) w))) : wp (KX0_madeOf) rc rs QR QX 0 [(0, vR r0)] [] w := by
  refine wp_aload_n (n := 1) (i := 0) (q := 0) dX0_madeOf_0 rfl rfl rfl ?_
  obtain ⟨a1, ea1, h⟩ := h
  rw [ea1]
  rcases h with h | h
  · obtain ⟨k1, h⟩ := h
    refine wp_ciY (n := 4) dX0_madeOf_1 rfl q596 cok_Bookmark k1 ?_
    refine wp_if_eq (n := 7) (t := 17) dX0_madeOf_4 rfl (by decide) (fun z => absurd z (by decide)) (fun _ => ?_)
    refine wp_aload_n (n := 8) (i := 0) (q := 0) dX0_madeOf_7 rfl rfl rfl ?_
    obtain ⟨k8, h⟩ := h
    refine wp_ckY (n := 11) dX0_madeOf_8 rfl q596 cok_Bookmark k8 ?_
    obtain ⟨x11, g11, h⟩ := h
    refine wp_gfn (n := 14) dX0_madeOf_11 rfl fl_X0_62 g11 ?_
    refine wp_goto (t := 24) dX0_madeOf_14 (by decide) ?_
    exact wp_ireturn dX0_madeOf_24 rfl h
  · obtain ⟨k1, h⟩ := h
    refine wp_ciX (n := 4) dX0_madeOf_1 rfl q596 cno_Bookmark k1 ?_
    refine wp_if_eq (n := 7) (t := 17) dX0_madeOf_4 rfl (by decide) (fun _ => ?_) (fun z => absurd z (by decide))
    refine wp_aload_n (n := 18) (i := 0) (q := 0) dX0_madeOf_17 rfl rfl rfl ?_
    obtain ⟨k18, h⟩ := h
    refine wp_ckY (n := 21) dX0_madeOf_18 rfl q659 cok_Holder k18 ?_
    obtain ⟨x21, g21, h⟩ := h
    refine wp_gf (n := 24) dX0_madeOf_21 rfl fl_X0_67 g21 ?_
    exact wp_ireturn dX0_madeOf_24 rfl h
set_option maxHeartbeats 1000000 in
theorem sg_X9_init_0 {h0 : Nat} {i1 : Int32} {rc rs : Nat} {QR : Option aV → aW → Prop} {QX : String → aW → Prop} {w : aW} (h : pf w h0 [8] 0 (vI i1) (fun w6 => QR none w6)) : wp (KX9_init) rc rs QR QX 0 [(0, vR (some h0)), (1, vI i1)] [] w := by
  refine wp_aload_n (n := 1) (i := 0) (q := 0) dX9_init_0 rfl rfl rfl ?_
  refine wp_objInit (n := 4) dX9_init_1 rfl q601 q115 q116 (Nat.le_of_ble_eq_true rfl) ?_
  refine wp_aload_n (n := 5) (i := 0) (q := 0) dX9_init_4 rfl rfl rfl ?_
  refine wp_iload_n (n := 6) (i := 1) (q := 1) dX9_init_5 rfl rfl rfl ?_
  refine wp_pf (n := 9) dX9_init_6 rfl pti_X9_7 rfl rfl (pf_mono h (fun w6 h => ?_))
  exact wp_return dX9_init_9 rfl h
set_option maxHeartbeats 1000000 in
theorem sg_X0_mark_0 {h0 : Nat} {i1 : Int32} {rc rs : Nat} {QR : Option aV → aW → Prop} {QX : String → aW → Prop} {w : aW} (h : 1 ≤ rc ∧ 6 ≤ rs ∧ isO w h0 0 ∧ ct (KX0_thingAt) 1 6 [vR (some h0), vI i1] w (fun v2 w2 => ∃ x2 : Option Nat, v2 = some (vR x2) ∧ (x2 = none → 1 ≤ (rc - 1) ∧ 1 ≤ (rs - 6) ∧ ∀ (a9 : Nat) (w9 : aW), w2 a9 = none → w9 = aup w2 a9 (.inr (8, [vI 0])) → 1 ≤ (rc - 1 - 1) ∧ 8 ≤ (rs - 6 - 1) ∧ QR (some (vI (-11))) w9) ∧ (∀ a5 : Nat, x2 = some a5 → ((ck w2 a5 [6, 7] ∧ 1 ≤ (rc - 1) ∧ 1 ≤ (rs - 6) ∧ ∀ (a9 : Nat) (w9 : aW), w2 a9 = none → w9 = aup w2 a9 (.inr (8, [vI 0])) → ∃ x14 : Int32, gf w9 a5 [6, 7] 0 (vI x14) ∧ ct (KX9_init) 0 0 [vR (some a9), vI x14] w9 (fun v17 w17 => v17 = none ∧ isO w17 h0 0 ∧ ct (KX0_leastThing) 0 0 [vR (some h0)] w17 (fun v22 w22 => ∃ x22 : Int32, v22 = some (vI x22) ∧ (¬ x22 = (-1) → ∃ x37 : Nat, gf w22 h0 [0] 4 (vR (some x37)) ∧ ck w22 a9 [4, 5, 6, 7, 8] ∧ pR w22 x37 2 x22 (some a9) (fun w43 => QR (some (vI x22)) w43)) ∧ (x22 = (-1) → QR (some (vI (-4))) w22)) (fun E22 w22 => False)) (fun E17 w17 => False)) ∨ (ck w2 a5 [4, 5, 8] ∧ 3 ≤ (rc - 1) ∧ 950 ≤ (rs - 6) ∧ QR (some (vI (-13))) w2)))) (fun E2 w2 => (E2 = "java/lang/IndexOutOfBoundsException" ∧ QR (some (vI (-12))) w2))) : wp (KX0_mark) rc rs QR QX 0 [(0, vR (some h0)), (1, vI i1)] [] w := by
  refine wp_aload_n (n := 1) (i := 0) (q := 0) dX0_mark_0 rfl rfl rfl ?_
  refine wp_iload_n (n := 2) (i := 1) (q := 1) dX0_mark_1 rfl rfl rfl ?_
  obtain ⟨b2, bb2, h⟩ := h
  obtain ⟨⟨fs2, o2⟩, h⟩ := h
  refine wp_call (n := 5) (K' := KX0_thingAt) (rc' := rc - 1) (rs' := rs - 6) (aRun_V (K' := KX0_thingAt) (As := [vI i1]) (rest := []) (b := h0) (c0 := .inr (0, fs2)) dX0_mark_2 (aCal_of kf_X0_thingAt (Nat.le_of_ble_eq_true rfl)) q451 q453 qs4 ar_X0_thingAt o2 (by decide : 0 < 9) rfl (Nat.le_of_ble_eq_true rfl)) rfl (by omega) (by omega) (fun v2 w2 h => ?_) (fun E2 w2 h => ?_) h
  · obtain ⟨x2, rfl, h⟩ := h
    rcases opt_c x2 with ea5 | ⟨a5, ea5⟩
    · replace h := h.1 ea5
      rw [ea5]
      refine wp_castN (n := 8) dX0_mark_5 rfl ?_
      refine wp_astore_n (n := 9) (i := 2) (ls' := [(2, vR none), (0, vR (some h0)), (1, vI i1)]) dX0_mark_8 rfl rfl (Nat.le_of_ble_eq_true rfl) rfl ?_
      obtain ⟨b1, b2, h⟩ := h
      refine wp_new (n := 12) (rc' := rc - 1 - 1) (rs' := rs - 6 - 1) dX0_mark_9 rfl nw_X0_60 (by omega) (by show _ + 1 ≤ _; omega) (fun a9 f9 => ?_)
      obtain ⟨w9, ew9⟩ : ∃ z, z = aup w2 a9 (.inr (8, [vI 0])) := ⟨_, rfl⟩
      rw [← ew9]
      replace h := h a9 w9 f9 ew9
      refine wp_dup (n := 13) dX0_mark_12 rfl rfl ?_
      refine wp_aload_n (n := 14) (i := 2) (q := 0) dX0_mark_13 rfl rfl rfl ?_
      obtain ⟨b1, b2, h⟩ := h
      refine wp_getfNull (rc' := 0) (rs' := 0) dX0_mark_14 (fl_X0_197 6 (by decide)) (by omega) (by omega) (Nat.le_of_ble_eq_true rfl) ?_
      refine wpx_catch (nm := "java/lang/NullPointerException") [(0, 35, 47, 53), (36, 46, 47, 53)] (0, 35, 51, 169) [(36, 46, 51, 169), (0, 35, 55, 171), (36, 46, 55, 171)] rfl (fun z hz => by have hz : z ∈ ([(0, 35, 47, 53), (36, 46, 47, 53)] : List (Nat × Nat × Nat × Nat)) := hz; simp only [List.mem_cons, List.not_mem_nil, or_false] at hz; rcases hz with rfl | rfl; exact Or.inr ⟨by decide, "java/lang/IndexOutOfBoundsException", q320, nc_NullPointerException_IndexOutOfBoundsException⟩; exact Or.inl rfl) (by decide) (by decide) q411 q433 (fun q9 => ?_)
      refine wp_astore_n (n := 52) (i := 2) (ls' := [(2, vR (some q9)), (0, vR (some h0)), (1, vI i1)]) dX0_mark_51 rfl rfl (Nat.le_of_ble_eq_true rfl) rfl ?_
      refine wp_bipush (n := 54) (v := (-11)) dX0_mark_52 rfl (by decide) ?_
      exact wp_ireturn dX0_mark_54 rfl h
    · replace h := h.2 a5 ea5
      rw [ea5]
      rcases h with h | h
      · obtain ⟨k5, h⟩ := h
        refine wp_ckY (n := 8) dX0_mark_5 rfl q119 cok_Snapshot k5 ?_
        refine wp_astore_n (n := 9) (i := 2) (ls' := [(2, vR (some a5)), (0, vR (some h0)), (1, vI i1)]) dX0_mark_8 rfl rfl (Nat.le_of_ble_eq_true rfl) rfl ?_
        obtain ⟨b1, b2, h⟩ := h
        refine wp_new (n := 12) (rc' := rc - 1 - 1) (rs' := rs - 6 - 1) dX0_mark_9 rfl nw_X0_60 (by omega) (by show _ + 1 ≤ _; omega) (fun a9 f9 => ?_)
        obtain ⟨w9, ew9⟩ : ∃ z, z = aup w2 a9 (.inr (8, [vI 0])) := ⟨_, rfl⟩
        rw [← ew9]
        replace h := h a9 w9 f9 ew9
        refine wp_dup (n := 13) dX0_mark_12 rfl rfl ?_
        refine wp_aload_n (n := 14) (i := 2) (q := 0) dX0_mark_13 rfl rfl rfl ?_
        obtain ⟨x14, g14, h⟩ := h
        refine wp_gf (n := 17) dX0_mark_14 rfl fl_X0_197 g14 ?_
        refine wp_call (n := 20) (K' := KX9_init) (rc' := rc - 1 - 1) (rs' := rs - 6 - 1) (aRun_I (K' := KX9_init) (As := [vI x14]) (rest := [vR (some a9)]) (b := a9) dX0_mark_17 (aCal_of kf_X9_init (Nat.le_of_ble_eq_true rfl)) rfl q598 q599 rfl rfl ar_X9_init rfl (Nat.le_of_ble_eq_true rfl)) rfl (Nat.le_of_eq (Nat.zero_add _)) (Nat.le_of_eq (Nat.zero_add _)) (fun v17 w17 h => ?_) (fun E17 w17 h => ?_) h
        · obtain ⟨rfl, h⟩ := h
          refine wp_astore_n (n := 21) (i := 3) (ls' := [(3, vR (some a9)), (2, vR (some a5)), (0, vR (some h0)), (1, vI i1)]) dX0_mark_20 rfl rfl (Nat.le_of_ble_eq_true rfl) rfl ?_
          refine wp_aload_n (n := 22) (i := 0) (q := 2) dX0_mark_21 rfl rfl rfl ?_
          obtain ⟨⟨fs22, o22⟩, h⟩ := h
          refine wp_call (n := 25) (K' := KX0_leastThing) (rc' := rc - 1 - 1) (rs' := rs - 6 - 1) (aRun_V (K' := KX0_leastThing) (As := []) (rest := []) (b := h0) (c0 := .inr (0, fs22)) dX0_mark_22 (aCal_of kf_X0_leastThing (Nat.le_of_ble_eq_true rfl)) q231 q233 qs0 ar_X0_leastThing o22 (by decide : 0 < 9) rfl (Nat.le_of_ble_eq_true rfl)) rfl (Nat.le_of_eq (Nat.zero_add _)) (Nat.le_of_eq (Nat.zero_add _)) (fun v22 w22 h => ?_) (fun E22 w22 h => ?_) h
          · obtain ⟨x22, rfl, h⟩ := h
            refine wp_istore (n := 27) (i := 4) (ls' := [(4, vI x22), (3, vR (some a9)), (2, vR (some a5)), (0, vR (some h0)), (1, vI i1)]) dX0_mark_25 rfl (Nat.le_of_ble_eq_true rfl) rfl ?_
            refine wp_iload (n := 29) (i := 4) (q := 0) dX0_mark_27 rfl rfl ?_
            refine wp_iconst (n := 30) (v := (-1)) dX0_mark_29 rfl (by decide) ?_
            refine wp_icmp_ne (n := 33) (t := 36) dX0_mark_30 rfl (by decide) (fun c30 => ?_) (fun c30 => ?_)
            · replace h := h.1 c30
              refine wp_aload_n (n := 37) (i := 0) (q := 3) dX0_mark_36 rfl rfl rfl ?_
              obtain ⟨x37, g37, h⟩ := h
              refine wp_gf (n := 40) dX0_mark_37 rfl fl_X0_20 g37 ?_
              refine wp_iload (n := 42) (i := 4) (q := 0) dX0_mark_40 rfl rfl ?_
              refine wp_aload_n (n := 43) (i := 3) (q := 1) dX0_mark_42 rfl rfl rfl ?_
              obtain ⟨k43, h⟩ := h
              refine wp_pR (n := 44) dX0_mark_43 rfl (by decide) rfl cok_Object (Or.inr ⟨_, rfl, k43⟩) (pR_mono h (fun w43 h => ?_))
              refine wp_iload (n := 46) (i := 4) (q := 0) dX0_mark_44 rfl rfl ?_
              exact wp_ireturn dX0_mark_46 rfl h
            · replace h := h.2 c30
              refine wp_bipush (n := 35) (v := (-4)) dX0_mark_33 rfl (by decide) ?_
              exact wp_ireturn dX0_mark_35 rfl h
          · exact h.elim
        · exact h.elim
      · obtain ⟨k5, b1, b2, h⟩ := h
        refine wp_ckX (rc' := 0) (rs' := 0) dX0_mark_5 q119 cno_Snapshot sn_Snapshot k5 (by omega) (by omega) (Nat.le_of_ble_eq_true rfl) ?_
        refine wpx_catch (nm := "java/lang/ClassCastException") [(0, 35, 47, 53), (36, 46, 47, 53), (0, 35, 51, 169), (36, 46, 51, 169)] (0, 35, 55, 171) [(36, 46, 55, 171)] rfl (fun z hz => by have hz : z ∈ ([(0, 35, 47, 53), (36, 46, 47, 53), (0, 35, 51, 169), (36, 46, 51, 169)] : List (Nat × Nat × Nat × Nat)) := hz; simp only [List.mem_cons, List.not_mem_nil, or_false] at hz; rcases hz with rfl | rfl | rfl | rfl; exact Or.inr ⟨by decide, "java/lang/IndexOutOfBoundsException", q320, nc_ClassCastException_IndexOutOfBoundsException⟩; exact Or.inl rfl; exact Or.inr ⟨by decide, "java/lang/NullPointerException", q411, nc_ClassCastException_NullPointerException⟩; exact Or.inl rfl) (by decide) (by decide) q436 q448 (fun q9 => ?_)
        refine wp_astore_n (n := 56) (i := 2) (ls' := [(2, vR (some q9)), (0, vR (some h0)), (1, vI i1)]) dX0_mark_55 rfl rfl (Nat.le_of_ble_eq_true rfl) rfl ?_
        refine wp_bipush (n := 58) (v := (-13)) dX0_mark_56 rfl (by decide) ?_
        exact wp_ireturn dX0_mark_58 rfl h
  · obtain ⟨rfl, h⟩ := h
    refine wpx_catch (nm := "java/lang/IndexOutOfBoundsException") [] (0, 35, 47, 53) [(36, 46, 47, 53), (0, 35, 51, 169), (36, 46, 51, 169), (0, 35, 55, 171), (36, 46, 55, 171)] rfl (fun z hz => absurd hz List.not_mem_nil) (by decide) (by decide) q320 q459 (fun q9 => ?_)
    refine wp_astore_n (n := 48) (i := 2) (ls' := [(2, vR (some q9)), (0, vR (some h0)), (1, vI i1)]) dX0_mark_47 rfl rfl (Nat.le_of_ble_eq_true rfl) rfl ?_
    refine wp_bipush (n := 50) (v := (-12)) dX0_mark_48 rfl (by decide) ?_
    exact wp_ireturn dX0_mark_50 rfl h
set_option maxHeartbeats 1000000 in
theorem sg_X0_most_0 {h0 : Nat} {i1 : Int32} {i2 : Int32} {rc rs : Nat} {QR : Option aV → aW → Prop} {QX : String → aW → Prop} {w : aW} (h : isO w h0 0 ∧ ct (KX0_holderAt) 0 0 [vR (some h0), vI i1] w (fun v2 w2 => ∃ x2 : Option Nat, v2 = some (vR x2) ∧ ct (KX0_in) 0 0 [vL (Int32.toInt64 i2), vL 0, vL 8] w2 (fun v12 w12 => ∃ x12 : Int32, v12 = some (vI x12) ∧ (x12 = 0 → QR (some (vL (-4611686018427387904))) w12) ∧ (¬ x12 = 0 → (x2 = none → QR (some (vL (-4611686018427387904))) w12) ∧ (∀ a19 : Nat, x2 = some a19 → ((ck w12 a19 [4, 5] ∧ ck w12 a19 [4, 5] ∧ 1 ≤ rc ∧ 8 ≤ rs ∧ isO w12 h0 0 ∧ ct (KX0_mostOf) 1 8 [vR (some h0), vR (some a19), vI i2] w12 (fun v37 w37 => ∃ x37 : Int64, v37 = some (vL x37) ∧ QR (some (vL x37)) w37) (fun E37 w37 => (E37 = "java/lang/NullPointerException" ∧ QX "java/lang/NullPointerException" w37))) ∨ (ck w12 a19 [6, 7, 8] ∧ QR (some (vL (-4611686018427387904))) w12))))) (fun E12 w12 => False)) (fun E2 w2 => False)) : wp (KX0_most) rc rs QR QX 0 [(0, vR (some h0)), (1, vI i1), (2, vI i2)] [] w := by
  refine wp_aload_n (n := 1) (i := 0) (q := 0) dX0_most_0 rfl rfl rfl ?_
  refine wp_iload_n (n := 2) (i := 1) (q := 1) dX0_most_1 rfl rfl rfl ?_
  obtain ⟨⟨fs2, o2⟩, h⟩ := h
  refine wp_call (n := 5) (K' := KX0_holderAt) (rc' := rc) (rs' := rs) (aRun_V (K' := KX0_holderAt) (As := [vI i1]) (rest := []) (b := h0) (c0 := .inr (0, fs2)) dX0_most_2 (aCal_of kf_X0_holderAt (Nat.le_of_ble_eq_true rfl)) q655 q657 qs21 ar_X0_holderAt o2 (by decide : 0 < 9) rfl (Nat.le_of_ble_eq_true rfl)) rfl (Nat.le_of_eq (Nat.zero_add _)) (Nat.le_of_eq (Nat.zero_add _)) (fun v2 w2 h => ?_) (fun E2 w2 h => ?_) h
  · obtain ⟨x2, rfl, h⟩ := h
    refine wp_astore_n (n := 6) (i := 3) (ls' := [(3, vR x2), (0, vR (some h0)), (1, vI i1), (2, vI i2)]) dX0_most_5 rfl rfl (Nat.le_of_ble_eq_true rfl) rfl ?_
    refine wp_iload_n (n := 7) (i := 2) (q := 3) dX0_most_6 rfl rfl rfl ?_
    refine wp_i2l (n := 8) dX0_most_7 rfl ?_
    refine wp_lconst (n := 9) (v := 0) dX0_most_8 rfl (by decide) ?_
    refine wp_ldc2 (n := 12) dX0_most_9 rfl q859 ?_
    refine wp_call (n := 15) (K' := KX0_in) (rc' := rc) (rs' := rs) (aRun_S (K' := KX0_in) (As := [vL (Int32.toInt64 i2), vL 0, vL 8]) (rest := []) dX0_most_12 (aCal_of kf_X0_in (Nat.le_of_ble_eq_true rfl)) rfl q228 q229 ar_X0_in rfl (Nat.le_of_ble_eq_true rfl)) rfl (Nat.le_of_eq (Nat.zero_add _)) (Nat.le_of_eq (Nat.zero_add _)) (fun v12 w12 h => ?_) (fun E12 w12 h => ?_) h
    · obtain ⟨x12, rfl, h⟩ := h
      refine wp_if_eq (n := 18) (t := 25) dX0_most_15 rfl (by decide) (fun c15 => ?_) (fun c15 => ?_)
      · replace h := h.1 c15
        refine wp_ldc2 (n := 28) dX0_most_25 rfl q797 ?_
        refine wp_goto (t := 40) dX0_most_28 (by decide) ?_
        exact wp_lreturn dX0_most_40 rfl h
      · replace h := h.2 c15
        refine wp_aload_n (n := 19) (i := 3) (q := 0) dX0_most_18 rfl rfl rfl ?_
        rcases opt_c x2 with ea19 | ⟨a19, ea19⟩
        · replace h := h.1 ea19
          rw [ea19]
          refine wp_instN (n := 22) dX0_most_19 rfl ?_
          refine wp_if_ne (n := 25) (t := 31) dX0_most_22 rfl (by decide) (fun z => absurd z (by decide)) (fun _ => ?_)
          refine wp_ldc2 (n := 28) dX0_most_25 rfl q797 ?_
          refine wp_goto (t := 40) dX0_most_28 (by decide) ?_
          exact wp_lreturn dX0_most_40 rfl h
        · replace h := h.2 a19 ea19
          rw [ea19]
          rcases h with h | h
          · obtain ⟨k19, h⟩ := h
            refine wp_ciY (n := 22) dX0_most_19 rfl q235 cok_Folder k19 ?_
            refine wp_if_ne (n := 25) (t := 31) dX0_most_22 rfl (by decide) (fun _ => ?_) (fun z => absurd z (by decide))
            refine wp_aload_n (n := 32) (i := 0) (q := 1) dX0_most_31 rfl rfl rfl ?_
            refine wp_aload_n (n := 33) (i := 3) (q := 0) dX0_most_32 rfl rfl rfl ?_
            obtain ⟨k33, h⟩ := h
            refine wp_ckY (n := 36) dX0_most_33 rfl q235 cok_Folder k33 ?_
            refine wp_iload_n (n := 37) (i := 2) (q := 3) dX0_most_36 rfl rfl rfl ?_
            obtain ⟨b37, bb37, h⟩ := h
            obtain ⟨⟨fs37, o37⟩, h⟩ := h
            refine wp_call (n := 40) (K' := KX0_mostOf) (rc' := rc - 1) (rs' := rs - 8) (aRun_V (K' := KX0_mostOf) (As := [vR (some a19), vI i2]) (rest := []) (b := h0) (c0 := .inr (0, fs37)) dX0_most_37 (aCal_of kf_X0_mostOf (Nat.le_of_ble_eq_true rfl)) q860 q862 qs36 ar_X0_mostOf o37 (by decide : 0 < 9) rfl (Nat.le_of_ble_eq_true rfl)) rfl (by omega) (by omega) (fun v37 w37 h => ?_) (fun E37 w37 h => ?_) h
            · obtain ⟨x37, rfl, h⟩ := h
              exact wp_lreturn dX0_most_40 rfl h
            · obtain ⟨rfl, h⟩ := h
              exact wpx_out (fun z hz => absurd hz List.not_mem_nil) h
          · obtain ⟨k19, h⟩ := h
            refine wp_ciX (n := 22) dX0_most_19 rfl q235 cno_Folder k19 ?_
            refine wp_if_ne (n := 25) (t := 31) dX0_most_22 rfl (by decide) (fun z => absurd z (by decide)) (fun _ => ?_)
            refine wp_ldc2 (n := 28) dX0_most_25 rfl q797 ?_
            refine wp_goto (t := 40) dX0_most_28 (by decide) ?_
            exact wp_lreturn dX0_most_40 rfl h
    · exact h.elim
  · exact h.elim
set_option maxHeartbeats 1000000 in
theorem sg_X0_numberOf_0 {r0 : Option Nat} {rc rs : Nat} {QR : Option aV → aW → Prop} {QX : String → aW → Prop} {w : aW} (h : (r0 = none → QR (some (vI (-1))) w) ∧ (∀ a1 : Nat, r0 = some a1 → ∃ x9 : Int32, gf w a1 [4, 5, 6, 7] 4 (vI x9) ∧ QR (some (vI x9)) w)) : wp (KX0_numberOf) rc rs QR QX 0 [(0, vR r0)] [] w := by
  refine wp_aload_n (n := 1) (i := 0) (q := 0) dX0_numberOf_0 rfl rfl rfl ?_
  rcases opt_c r0 with ea1 | ⟨a1, ea1⟩
  · replace h := h.1 ea1
    rw [ea1]
    refine wp_ifnonnull (n := 4) (t := 8) dX0_numberOf_1 rfl (by decide) (fun z zz => nomatch zz) (fun _ => ?_)
    refine wp_iconst (n := 5) (v := (-1)) dX0_numberOf_4 rfl (by decide) ?_
    refine wp_goto (t := 12) dX0_numberOf_5 (by decide) ?_
    exact wp_ireturn dX0_numberOf_12 rfl h
  · replace h := h.2 a1 ea1
    rw [ea1]
    refine wp_ifnonnull (n := 4) (t := 8) dX0_numberOf_1 rfl (by decide) (fun _ _ => ?_) (fun zz => nomatch zz)
    refine wp_aload_n (n := 9) (i := 0) (q := 0) dX0_numberOf_8 rfl rfl rfl ?_
    obtain ⟨x9, g9, h⟩ := h
    refine wp_gf (n := 12) dX0_numberOf_9 rfl fl_X0_78 g9 ?_
    exact wp_ireturn dX0_numberOf_12 rfl h
set_option maxHeartbeats 1000000 in
theorem sg_X0_range_0 {h0 : Nat} {i1 : Int32} {i2 : Int32} {rc rs : Nat} {QR : Option aV → aW → Prop} {QX : String → aW → Prop} {w : aW} (h : isO w h0 0 ∧ ct (KX0_snapshotAt) 0 0 [vR (some h0), vI i1] w (fun v2 w2 => ∃ x2 : Option Nat, v2 = some (vR x2) ∧ isO w2 h0 0 ∧ ct (KX0_snapshotAt) 0 0 [vR (some h0), vI i2] w2 (fun v8 w8 => ∃ x8 : Option Nat, v8 = some (vR x8) ∧ (x2 = none → QR (some (vL (-4611686018427387904))) w8) ∧ (∀ a14 : Nat, x2 = some a14 → (x8 = none → QR (some (vL (-4611686018427387904))) w8) ∧ (∀ a19 : Nat, x8 = some a19 → ct (KX0_isInChain) 0 0 [vR (some a14), vR (some a19)] w8 (fun v25 w25 => ∃ x25 : Int32, v25 = some (vI x25) ∧ (¬ x25 = 0 → isO w25 h0 0 ∧ ct (KX0_rangeOf) 0 0 [vR (some h0), vR (some a14), vR (some a19)] w25 (fun v41 w41 => ∃ x41 : Int64, v41 = some (vL x41) ∧ QR (some (vL x41)) w41) (fun E41 w41 => False)) ∧ (x25 = 0 → QR (some (vL (-4611686018427387904))) w25)) (fun E25 w25 => False)))) (fun E8 w8 => False)) (fun E2 w2 => False)) : wp (KX0_range) rc rs QR QX 0 [(0, vR (some h0)), (1, vI i1), (2, vI i2)] [] w := by
  refine wp_aload_n (n := 1) (i := 0) (q := 0) dX0_range_0 rfl rfl rfl ?_
  refine wp_iload_n (n := 2) (i := 1) (q := 1) dX0_range_1 rfl rfl rfl ?_
  obtain ⟨⟨fs2, o2⟩, h⟩ := h
  refine wp_call (n := 5) (K' := KX0_snapshotAt) (rc' := rc) (rs' := rs) (aRun_V (K' := KX0_snapshotAt) (As := [vI i1]) (rest := []) (b := h0) (c0 := .inr (0, fs2)) dX0_range_2 (aCal_of kf_X0_snapshotAt (Nat.le_of_ble_eq_true rfl)) q632 q634 qs17 ar_X0_snapshotAt o2 (by decide : 0 < 9) rfl (Nat.le_of_ble_eq_true rfl)) rfl (Nat.le_of_eq (Nat.zero_add _)) (Nat.le_of_eq (Nat.zero_add _)) (fun v2 w2 h => ?_) (fun E2 w2 h => ?_) h
  · obtain ⟨x2, rfl, h⟩ := h
    refine wp_astore_n (n := 6) (i := 3) (ls' := [(3, vR x2), (0, vR (some h0)), (1, vI i1), (2, vI i2)]) dX0_range_5 rfl rfl (Nat.le_of_ble_eq_true rfl) rfl ?_
    refine wp_aload_n (n := 7) (i := 0) (q := 1) dX0_range_6 rfl rfl rfl ?_
    refine wp_iload_n (n := 8) (i := 2) (q := 3) dX0_range_7 rfl rfl rfl ?_
    obtain ⟨⟨fs8, o8⟩, h⟩ := h
    refine wp_call (n := 11) (K' := KX0_snapshotAt) (rc' := rc) (rs' := rs) (aRun_V (K' := KX0_snapshotAt) (As := [vI i2]) (rest := []) (b := h0) (c0 := .inr (0, fs8)) dX0_range_8 (aCal_of kf_X0_snapshotAt (Nat.le_of_ble_eq_true rfl)) q632 q634 qs17 ar_X0_snapshotAt o8 (by decide : 0 < 9) rfl (Nat.le_of_ble_eq_true rfl)) rfl (Nat.le_of_eq (Nat.zero_add _)) (Nat.le_of_eq (Nat.zero_add _)) (fun v8 w8 h => ?_) (fun E8 w8 h => ?_) h
    · obtain ⟨x8, rfl, h⟩ := h
      refine wp_astore (n := 13) (i := 4) (ls' := [(4, vR x8), (3, vR x2), (0, vR (some h0)), (1, vI i1), (2, vI i2)]) dX0_range_11 rfl (Nat.le_of_ble_eq_true rfl) rfl ?_
      refine wp_aload_n (n := 14) (i := 3) (q := 1) dX0_range_13 rfl rfl rfl ?_
      rcases opt_c x2 with ea14 | ⟨a14, ea14⟩
      · replace h := h.1 ea14
        rw [ea14]
        refine wp_ifnull (n := 17) (t := 31) dX0_range_14 rfl (by decide) (fun _ => ?_) (fun z zz => nomatch zz)
        refine wp_ldc2 (n := 34) dX0_range_31 rfl q797 ?_
        refine wp_goto (t := 44) dX0_range_34 (by decide) ?_
        exact wp_lreturn dX0_range_44 rfl h
      · replace h := h.2 a14 ea14
        rw [ea14]
        refine wp_ifnull (n := 17) (t := 31) dX0_range_14 rfl (by decide) (fun zz => nomatch zz) (fun _ _ => ?_)
        refine wp_aload (n := 19) (i := 4) (q := 0) dX0_range_17 rfl rfl ?_
        rcases opt_c x8 with ea19 | ⟨a19, ea19⟩
        · replace h := h.1 ea19
          rw [ea19]
          refine wp_ifnull (n := 22) (t := 31) dX0_range_19 rfl (by decide) (fun _ => ?_) (fun z zz => nomatch zz)
          refine wp_ldc2 (n := 34) dX0_range_31 rfl q797 ?_
          refine wp_goto (t := 44) dX0_range_34 (by decide) ?_
          exact wp_lreturn dX0_range_44 rfl h
        · replace h := h.2 a19 ea19
          rw [ea19]
          refine wp_ifnull (n := 22) (t := 31) dX0_range_19 rfl (by decide) (fun zz => nomatch zz) (fun _ _ => ?_)
          refine wp_aload_n (n := 23) (i := 3) (q := 1) dX0_range_22 rfl rfl rfl ?_
          refine wp_aload (n := 25) (i := 4) (q := 0) dX0_range_23 rfl rfl ?_
          refine wp_call (n := 28) (K' := KX0_isInChain) (rc' := rc) (rs' := rs) (aRun_S (K' := KX0_isInChain) (As := [vR (some a14), vR (some a19)]) (rest := []) dX0_range_25 (aCal_of kf_X0_isInChain (Nat.le_of_ble_eq_true rfl)) rfl q810 q811 ar_X0_isInChain rfl (Nat.le_of_ble_eq_true rfl)) rfl (Nat.le_of_eq (Nat.zero_add _)) (Nat.le_of_eq (Nat.zero_add _)) (fun v25 w25 h => ?_) (fun E25 w25 h => ?_) h
          · obtain ⟨x25, rfl, h⟩ := h
            refine wp_if_ne (n := 31) (t := 37) dX0_range_28 rfl (by decide) (fun c28 => ?_) (fun c28 => ?_)
            · replace h := h.1 c28
              refine wp_aload_n (n := 38) (i := 0) (q := 2) dX0_range_37 rfl rfl rfl ?_
              refine wp_aload_n (n := 39) (i := 3) (q := 1) dX0_range_38 rfl rfl rfl ?_
              refine wp_aload (n := 41) (i := 4) (q := 0) dX0_range_39 rfl rfl ?_
              obtain ⟨⟨fs41, o41⟩, h⟩ := h
              refine wp_call (n := 44) (K' := KX0_rangeOf) (rc' := rc) (rs' := rs) (aRun_V (K' := KX0_rangeOf) (As := [vR (some a14), vR (some a19)]) (rest := []) (b := h0) (c0 := .inr (0, fs41)) dX0_range_41 (aCal_of kf_X0_rangeOf (Nat.le_of_ble_eq_true rfl)) q813 q815 qs30 ar_X0_rangeOf o41 (by decide : 0 < 9) rfl (Nat.le_of_ble_eq_true rfl)) rfl (Nat.le_of_eq (Nat.zero_add _)) (Nat.le_of_eq (Nat.zero_add _)) (fun v41 w41 h => ?_) (fun E41 w41 h => ?_) h
              · obtain ⟨x41, rfl, h⟩ := h
                exact wp_lreturn dX0_range_44 rfl h
              · exact h.elim
            · replace h := h.2 c28
              refine wp_ldc2 (n := 34) dX0_range_31 rfl q797 ?_
              refine wp_goto (t := 44) dX0_range_34 (by decide) ?_
              exact wp_lreturn dX0_range_44 rfl h
          · exact h.elim
    · exact h.elim
  · exact h.elim
set_option maxHeartbeats 1000000 in
theorem sg_X0_rowOf_0 {i0 : Int32} {i1 : Int32} {rc rs : Nat} {QR : Option aV → aW → Prop} {QX : String → aW → Prop} {w : aW} (h : (¬ i0 = 0 → (i1 < 0 → 3 ≤ rc ∧ 950 ≤ rs ∧ QX "java/lang/NegativeArraySizeException" w) ∧ (¬ i1 < 0 → i1.toNatClampNeg ≤ 1000 ∧ 1 ≤ rc ∧ i1.toNatClampNeg ≤ rs ∧ ∀ (a9 : Nat) (w9 : aW), w a9 = none → w9 = aup w a9 (.inl (1, (i1.toNatClampNeg), .inr (.inl (fun _ => 0)))) → QR (some (vR (some a9))) w9)) ∧ (i0 = 0 → (i1 < 0 → 3 ≤ rc ∧ 950 ≤ rs ∧ QX "java/lang/NegativeArraySizeException" w) ∧ (¬ i1 < 0 → i1.toNatClampNeg ≤ 1000 ∧ 1 ≤ rc ∧ i1.toNatClampNeg ≤ rs ∧ ∀ (a5 : Nat) (w5 : aW), w a5 = none → w5 = aup w a5 (.inl (0, (i1.toNatClampNeg), .inl (fun _ => 0))) → QR (some (vR (some a5))) w5))) : wp (KX0_rowOf) rc rs QR QX 0 [(0, vI i0), (1, vI i1)] [] w := by
  refine wp_iload_n (n := 1) (i := 0) (q := 0) dX0_rowOf_0 rfl rfl rfl ?_
  refine wp_if_ne (n := 4) (t := 8) dX0_rowOf_1 rfl (by decide) (fun c1 => ?_) (fun c1 => ?_)
  · replace h := h.1 c1
    refine wp_iload_n (n := 9) (i := 1) (q := 1) dX0_rowOf_8 rfl rfl rfl ?_
    by_cases c9 : i1 < 0
    · obtain ⟨b1, b2, h⟩ := h.1 c9
      refine wp_newZ (rc' := 0) (rs' := 0) dX0_rowOf_9 c9 (by omega) (by omega) (Nat.le_of_ble_eq_true rfl) ?_
      exact wpx_out (fun z hz => absurd hz List.not_mem_nil) h
    · replace h := h.2 c9
      obtain ⟨b0, b1, b2, h⟩ := h
      refine wp_newl (n := 11) (N := i1.toNatClampNeg) (rc' := rc - 1) (rs' := rs - i1.toNatClampNeg) dX0_rowOf_9 rfl c9 rfl b0 (by omega) (by omega) q921 (fun a9 f9 => ?_)
      obtain ⟨w9, ew9⟩ : ∃ z, z = aup w a9 (.inl (1, (i1.toNatClampNeg), .inr (.inl (fun _ => 0)))) := ⟨_, rfl⟩
      rw [← ew9]
      replace h := h a9 w9 f9 ew9
      exact wp_areturn dX0_rowOf_11 rfl (Or.inl ⟨_, rfl⟩) h
  · replace h := h.2 c1
    refine wp_iload_n (n := 5) (i := 1) (q := 1) dX0_rowOf_4 rfl rfl rfl ?_
    by_cases c5 : i1 < 0
    · obtain ⟨b1, b2, h⟩ := h.1 c5
      refine wp_newZ (rc' := 0) (rs' := 0) dX0_rowOf_5 c5 (by omega) (by omega) (Nat.le_of_ble_eq_true rfl) ?_
      exact wpx_out (fun z hz => absurd hz List.not_mem_nil) h
    · replace h := h.2 c5
      obtain ⟨b0, b1, b2, h⟩ := h
      refine wp_newi (n := 7) (N := i1.toNatClampNeg) (rc' := rc - 1) (rs' := rs - i1.toNatClampNeg) dX0_rowOf_5 rfl c5 rfl b0 (by omega) (by omega) q132 (fun a5 f5 => ?_)
      obtain ⟨w5, ew5⟩ : ∃ z, z = aup w a5 (.inl (0, (i1.toNatClampNeg), .inl (fun _ => 0))) := ⟨_, rfl⟩
      rw [← ew5]
      replace h := h a5 w5 f5 ew5
      exact wp_areturn dX0_rowOf_7 rfl (Or.inl ⟨_, rfl⟩) h
set_option maxHeartbeats 1000000 in
theorem sg_X0_sheet_0 {h0 : Nat} {i1 : Int32} {i2 : Int32} {i3 : Int32} {rc rs : Nat} {QR : Option aV → aW → Prop} {QX : String → aW → Prop} {w : aW} (h : ct (KX0_isSheet) 0 0 [vI i1] w (fun v1 w1 => ∃ x1 : Int32, v1 = some (vI x1) ∧ (x1 = 0 → QR (some (vI (-2))) w1) ∧ (¬ x1 = 0 → ct (KX0_in) 0 0 [vL (Int32.toInt64 i2), vL (-1), vL 1] w1 (fun v13 w13 => ∃ x13 : Int32, v13 = some (vI x13) ∧ (x13 = 0 → QR (some (vI (-2))) w13) ∧ (¬ x13 = 0 → (i2 = (-1) → (¬ i2 = (-1) → ∃ x51 : Nat, gf w13 h0 [0] 7 (vR (some x51)) ∧ ∃ x55 : Nat, gR w13 x51 4 i1 (some x55) ∧ 3 ≤ rc ∧ 950 ≤ rs ∧ ct (KX0_rowOf) 3 950 [vI i2, vI i3] w13 (fun v58 w58 => ∃ x58 : Option Nat, v58 = some (vR x58) ∧ pf w58 x55 [1] 0 (vR x58) (fun w61 => QR (some (vI 1)) w61)) (fun E58 w58 => (E58 = "java/lang/NegativeArraySizeException" ∧ QR (some (vI (-14))) w58))) ∧ (i2 = (-1) → ∃ x39 : Nat, gf w13 h0 [0] 7 (vR (some x39)) ∧ ∃ x43 : Nat, gR w13 x39 4 i1 (some x43) ∧ pf w13 x43 [1] 0 (vR none) (fun w45 => QR (some (vI 1)) w45))) ∧ (¬ i2 = (-1) → (i3 ≤ 40 → (¬ i2 = (-1) → ∃ x51 : Nat, gf w13 h0 [0] 7 (vR (some x51)) ∧ ∃ x55 : Nat, gR w13 x51 4 i1 (some x55) ∧ 3 ≤ rc ∧ 950 ≤ rs ∧ ct (KX0_rowOf) 3 950 [vI i2, vI i3] w13 (fun v58 w58 => ∃ x58 : Option Nat, v58 = some (vR x58) ∧ pf w58 x55 [1] 0 (vR x58) (fun w61 => QR (some (vI 1)) w61)) (fun E58 w58 => (E58 = "java/lang/NegativeArraySizeException" ∧ QR (some (vI (-14))) w58))) ∧ (i2 = (-1) → ∃ x39 : Nat, gf w13 h0 [0] 7 (vR (some x39)) ∧ ∃ x43 : Nat, gR w13 x39 4 i1 (some x43) ∧ pf w13 x43 [1] 0 (vR none) (fun w45 => QR (some (vI 1)) w45))) ∧ (¬ i3 ≤ 40 → QR (some (vI (-2))) w13)))) (fun E13 w13 => False))) (fun E1 w1 => False)) : wp (KX0_sheet) rc rs QR QX 0 [(0, vR (some h0)), (1, vI i1), (2, vI i2), (3, vI i3)] [] w := by
  refine wp_iload_n (n := 1) (i := 1) (q := 1) dX0_sheet_0 rfl rfl rfl ?_
  refine wp_call (n := 4) (K' := KX0_isSheet) (rc' := rc) (rs' := rs) (aRun_S (K' := KX0_isSheet) (As := [vI i1]) (rest := []) dX0_sheet_1 (aCal_of kf_X0_isSheet (Nat.le_of_ble_eq_true rfl)) rfl q914 q915 ar_X0_isSheet rfl (Nat.le_of_ble_eq_true rfl)) rfl (Nat.le_of_eq (Nat.zero_add _)) (Nat.le_of_eq (Nat.zero_add _)) (fun v1 w1 h => ?_) (fun E1 w1 h => ?_) h
  · obtain ⟨x1, rfl, h⟩ := h
    refine wp_if_eq (n := 7) (t := 30) dX0_sheet_4 rfl (by decide) (fun c4 => ?_) (fun c4 => ?_)
    · replace h := h.1 c4
      refine wp_bipush (n := 32) (v := (-2)) dX0_sheet_30 rfl (by decide) ?_
      exact wp_ireturn dX0_sheet_32 rfl h
    · replace h := h.2 c4
      refine wp_iload_n (n := 8) (i := 2) (q := 2) dX0_sheet_7 rfl rfl rfl ?_
      refine wp_i2l (n := 9) dX0_sheet_8 rfl ?_
      refine wp_ldc2 (n := 12) dX0_sheet_9 rfl q226 ?_
      refine wp_lconst (n := 13) (v := 1) dX0_sheet_12 rfl (by decide) ?_
      refine wp_call (n := 16) (K' := KX0_in) (rc' := rc) (rs' := rs) (aRun_S (K' := KX0_in) (As := [vL (Int32.toInt64 i2), vL (-1), vL 1]) (rest := []) dX0_sheet_13 (aCal_of kf_X0_in (Nat.le_of_ble_eq_true rfl)) rfl q228 q229 ar_X0_in rfl (Nat.le_of_ble_eq_true rfl)) rfl (Nat.le_of_eq (Nat.zero_add _)) (Nat.le_of_eq (Nat.zero_add _)) (fun v13 w13 h => ?_) (fun E13 w13 h => ?_) h
      · obtain ⟨x13, rfl, h⟩ := h
        refine wp_if_eq (n := 19) (t := 30) dX0_sheet_16 rfl (by decide) (fun c16 => ?_) (fun c16 => ?_)
        · replace h := h.1 c16
          refine wp_bipush (n := 32) (v := (-2)) dX0_sheet_30 rfl (by decide) ?_
          exact wp_ireturn dX0_sheet_32 rfl h
        · replace h := h.2 c16
          refine wp_iload_n (n := 20) (i := 2) (q := 2) dX0_sheet_19 rfl rfl rfl ?_
          refine wp_iconst (n := 21) (v := (-1)) dX0_sheet_20 rfl (by decide) ?_
          refine wp_icmp_eq (n := 24) (t := 33) dX0_sheet_21 rfl (by decide) (fun c21 => ?_) (fun c21 => ?_)
          · replace h := h.1 c21
            refine wp_iload_n (n := 34) (i := 2) (q := 2) dX0_sheet_33 rfl rfl rfl ?_
            refine wp_iconst (n := 35) (v := (-1)) dX0_sheet_34 rfl (by decide) ?_
            refine wp_icmp_ne (n := 38) (t := 50) dX0_sheet_35 rfl (by decide) (fun c35 => ?_) (fun c35 => ?_)
            · replace h := h.1 c35
              refine wp_aload_n (n := 51) (i := 0) (q := 0) dX0_sheet_50 rfl rfl rfl ?_
              obtain ⟨x51, g51, h⟩ := h
              refine wp_gf (n := 54) dX0_sheet_51 rfl fl_X0_36 g51 ?_
              refine wp_iload_n (n := 55) (i := 1) (q := 1) dX0_sheet_54 rfl rfl rfl ?_
              obtain ⟨x55, g55, h⟩ := h
              refine wp_gR (n := 56) dX0_sheet_55 rfl (by decide) g55 ?_
              refine wp_iload_n (n := 57) (i := 2) (q := 2) dX0_sheet_56 rfl rfl rfl ?_
              refine wp_iload_n (n := 58) (i := 3) (q := 3) dX0_sheet_57 rfl rfl rfl ?_
              obtain ⟨b58, bb58, h⟩ := h
              refine wp_call (n := 61) (K' := KX0_rowOf) (rc' := rc - 3) (rs' := rs - 950) (aRun_S (K' := KX0_rowOf) (As := [vI i2, vI i3]) (rest := [vR (some x55)]) dX0_sheet_58 (aCal_of kf_X0_rowOf (Nat.le_of_ble_eq_true rfl)) rfl q918 q919 ar_X0_rowOf rfl (Nat.le_of_ble_eq_true rfl)) rfl (by omega) (by omega) (fun v58 w58 h => ?_) (fun E58 w58 h => ?_) h
              · obtain ⟨x58, rfl, h⟩ := h
                refine wp_pfn (n := 64) dX0_sheet_61 rfl pt_X0_376 (nar_o _ _) (fit_o _ _) (pf_mono h (fun w61 h => ?_))
                refine wp_iconst (n := 65) (v := 1) dX0_sheet_64 rfl (by decide) ?_
                exact wp_ireturn dX0_sheet_65 rfl h
              · obtain ⟨rfl, h⟩ := h
                refine wpx_catch (nm := "java/lang/NegativeArraySizeException") [] (50, 65, 66, 384) [] rfl (fun z hz => absurd hz List.not_mem_nil) (by decide) (by decide) q900 q912 (fun q9 => ?_)
                refine wp_astore (n := 68) (i := 4) (ls' := [(4, vR (some q9)), (0, vR (some h0)), (1, vI i1), (2, vI i2), (3, vI i3)]) dX0_sheet_66 rfl (Nat.le_of_ble_eq_true rfl) rfl ?_
                refine wp_bipush (n := 70) (v := (-14)) dX0_sheet_68 rfl (by decide) ?_
                exact wp_ireturn dX0_sheet_70 rfl h
            · replace h := h.2 c35
              refine wp_aload_n (n := 39) (i := 0) (q := 0) dX0_sheet_38 rfl rfl rfl ?_
              obtain ⟨x39, g39, h⟩ := h
              refine wp_gf (n := 42) dX0_sheet_39 rfl fl_X0_36 g39 ?_
              refine wp_iload_n (n := 43) (i := 1) (q := 1) dX0_sheet_42 rfl rfl rfl ?_
              obtain ⟨x43, g43, h⟩ := h
              refine wp_gR (n := 44) dX0_sheet_43 rfl (by decide) g43 ?_
              refine wp_null (n := 45) dX0_sheet_44 rfl ?_
              refine wp_pfn (n := 48) dX0_sheet_45 rfl pt_X0_376 (nar_o _ _) (fit_o _ _) (pf_mono h (fun w45 h => ?_))
              refine wp_iconst (n := 49) (v := 1) dX0_sheet_48 rfl (by decide) ?_
              exact wp_ireturn dX0_sheet_49 rfl h
          · replace h := h.2 c21
            refine wp_iload_n (n := 25) (i := 3) (q := 3) dX0_sheet_24 rfl rfl rfl ?_
            refine wp_bipush (n := 27) (v := 40) dX0_sheet_25 rfl (by decide) ?_
            refine wp_icmp_le (n := 30) (t := 33) dX0_sheet_27 rfl (by decide) (fun c27 => ?_) (fun c27 => ?_)
            · replace h := h.1 c27
              refine wp_iload_n (n := 34) (i := 2) (q := 2) dX0_sheet_33 rfl rfl rfl ?_
              refine wp_iconst (n := 35) (v := (-1)) dX0_sheet_34 rfl (by decide) ?_
              refine wp_icmp_ne (n := 38) (t := 50) dX0_sheet_35 rfl (by decide) (fun c35 => ?_) (fun c35 => ?_)
              · replace h := h.1 c35
                refine wp_aload_n (n := 51) (i := 0) (q := 0) dX0_sheet_50 rfl rfl rfl ?_
                obtain ⟨x51, g51, h⟩ := h
                refine wp_gf (n := 54) dX0_sheet_51 rfl fl_X0_36 g51 ?_
                refine wp_iload_n (n := 55) (i := 1) (q := 1) dX0_sheet_54 rfl rfl rfl ?_
                obtain ⟨x55, g55, h⟩ := h
                refine wp_gR (n := 56) dX0_sheet_55 rfl (by decide) g55 ?_
                refine wp_iload_n (n := 57) (i := 2) (q := 2) dX0_sheet_56 rfl rfl rfl ?_
                refine wp_iload_n (n := 58) (i := 3) (q := 3) dX0_sheet_57 rfl rfl rfl ?_
                obtain ⟨b58, bb58, h⟩ := h
                refine wp_call (n := 61) (K' := KX0_rowOf) (rc' := rc - 3) (rs' := rs - 950) (aRun_S (K' := KX0_rowOf) (As := [vI i2, vI i3]) (rest := [vR (some x55)]) dX0_sheet_58 (aCal_of kf_X0_rowOf (Nat.le_of_ble_eq_true rfl)) rfl q918 q919 ar_X0_rowOf rfl (Nat.le_of_ble_eq_true rfl)) rfl (by omega) (by omega) (fun v58 w58 h => ?_) (fun E58 w58 h => ?_) h
                · obtain ⟨x58, rfl, h⟩ := h
                  refine wp_pfn (n := 64) dX0_sheet_61 rfl pt_X0_376 (nar_o _ _) (fit_o _ _) (pf_mono h (fun w61 h => ?_))
                  refine wp_iconst (n := 65) (v := 1) dX0_sheet_64 rfl (by decide) ?_
                  exact wp_ireturn dX0_sheet_65 rfl h
                · obtain ⟨rfl, h⟩ := h
                  refine wpx_catch (nm := "java/lang/NegativeArraySizeException") [] (50, 65, 66, 384) [] rfl (fun z hz => absurd hz List.not_mem_nil) (by decide) (by decide) q900 q912 (fun q9 => ?_)
                  refine wp_astore (n := 68) (i := 4) (ls' := [(4, vR (some q9)), (0, vR (some h0)), (1, vI i1), (2, vI i2), (3, vI i3)]) dX0_sheet_66 rfl (Nat.le_of_ble_eq_true rfl) rfl ?_
                  refine wp_bipush (n := 70) (v := (-14)) dX0_sheet_68 rfl (by decide) ?_
                  exact wp_ireturn dX0_sheet_70 rfl h
              · replace h := h.2 c35
                refine wp_aload_n (n := 39) (i := 0) (q := 0) dX0_sheet_38 rfl rfl rfl ?_
                obtain ⟨x39, g39, h⟩ := h
                refine wp_gf (n := 42) dX0_sheet_39 rfl fl_X0_36 g39 ?_
                refine wp_iload_n (n := 43) (i := 1) (q := 1) dX0_sheet_42 rfl rfl rfl ?_
                obtain ⟨x43, g43, h⟩ := h
                refine wp_gR (n := 44) dX0_sheet_43 rfl (by decide) g43 ?_
                refine wp_null (n := 45) dX0_sheet_44 rfl ?_
                refine wp_pfn (n := 48) dX0_sheet_45 rfl pt_X0_376 (nar_o _ _) (fit_o _ _) (pf_mono h (fun w45 h => ?_))
                refine wp_iconst (n := 49) (v := 1) dX0_sheet_48 rfl (by decide) ?_
                exact wp_ireturn dX0_sheet_49 rfl h
            · replace h := h.2 c27
              refine wp_bipush (n := 32) (v := (-2)) dX0_sheet_30 rfl (by decide) ?_
              exact wp_ireturn dX0_sheet_32 rfl h
      · exact h.elim
  · exact h.elim
set_option maxHeartbeats 1000000 in
theorem sg_X0_since_0 {h0 : Nat} {i1 : Int32} {i2 : Int32} {rc rs : Nat} {QR : Option aV → aW → Prop} {QX : String → aW → Prop} {w : aW} (h : isO w h0 0 ∧ ct (KX0_holderAt) 0 0 [vR (some h0), vI i1] w (fun v2 w2 => ∃ x2 : Option Nat, v2 = some (vR x2) ∧ (x2 = none → QR (some (vL (-4611686018427387904))) w2) ∧ (∀ a7 : Nat, x2 = some a7 → ct (KX0_in) 0 0 [vL (Int32.toInt64 i2), vL 0, vL 19] w2 (fun v16 w16 => ∃ x16 : Int32, v16 = some (vI x16) ∧ (x16 = 0 → QR (some (vL (-4611686018427387904))) w16) ∧ (¬ x16 = 0 → ∃ x23 : Nat, gf w16 h0 [0] 4 (vR (some x23)) ∧ ∃ x27 : Option Nat, gR w16 x23 2 i2 x27 ∧ (x27 = none → QR (some (vL (-4611686018427387904))) w16) ∧ (∀ a28 : Nat, x27 = some a28 → ∃ x36 : Nat, gf w16 h0 [0] 4 (vR (some x36)) ∧ ∃ x40 : Option Nat, gR w16 x36 2 i2 x40 ∧ ct (KX0_madeOf) 0 0 [vR x40] w16 (fun v41 w41 => ∃ x41 : Int32, v41 = some (vI x41) ∧ wp (KX0_since) rc rs QR QX 52 [(0, vR (some h0)), (1, vI i1), (2, vI i2), (3, vR (some a7)), (4, vI x41), (5, vL 0), (7, vI 0)] [] w41) (fun E41 w41 => False)))) (fun E16 w16 => False))) (fun E2 w2 => False)) : wp (KX0_since) rc rs QR QX 0 [(0, vR (some h0)), (1, vI i1), (2, vI i2)] [] w := by
  refine wp_aload_n (n := 1) (i := 0) (q := 0) dX0_since_0 rfl rfl rfl ?_
  refine wp_iload_n (n := 2) (i := 1) (q := 1) dX0_since_1 rfl rfl rfl ?_
  obtain ⟨⟨fs2, o2⟩, h⟩ := h
  refine wp_call (n := 5) (K' := KX0_holderAt) (rc' := rc) (rs' := rs) (aRun_V (K' := KX0_holderAt) (As := [vI i1]) (rest := []) (b := h0) (c0 := .inr (0, fs2)) dX0_since_2 (aCal_of kf_X0_holderAt (Nat.le_of_ble_eq_true rfl)) q655 q657 qs21 ar_X0_holderAt o2 (by decide : 0 < 9) rfl (Nat.le_of_ble_eq_true rfl)) rfl (Nat.le_of_eq (Nat.zero_add _)) (Nat.le_of_eq (Nat.zero_add _)) (fun v2 w2 h => ?_) (fun E2 w2 h => ?_) h
  · obtain ⟨x2, rfl, h⟩ := h
    refine wp_astore_n (n := 6) (i := 3) (ls' := [(3, vR x2), (0, vR (some h0)), (1, vI i1), (2, vI i2)]) dX0_since_5 rfl rfl (Nat.le_of_ble_eq_true rfl) rfl ?_
    refine wp_aload_n (n := 7) (i := 3) (q := 0) dX0_since_6 rfl rfl rfl ?_
    rcases opt_c x2 with ea7 | ⟨a7, ea7⟩
    · replace h := h.1 ea7
      rw [ea7]
      refine wp_ifnull (n := 10) (t := 31) dX0_since_7 rfl (by decide) (fun _ => ?_) (fun z zz => nomatch zz)
      refine wp_ldc2 (n := 34) dX0_since_31 rfl q797 ?_
      exact wp_lreturn dX0_since_34 rfl h
    · replace h := h.2 a7 ea7
      rw [ea7]
      refine wp_ifnull (n := 10) (t := 31) dX0_since_7 rfl (by decide) (fun zz => nomatch zz) (fun _ _ => ?_)
      refine wp_iload_n (n := 11) (i := 2) (q := 3) dX0_since_10 rfl rfl rfl ?_
      refine wp_i2l (n := 12) dX0_since_11 rfl ?_
      refine wp_lconst (n := 13) (v := 0) dX0_since_12 rfl (by decide) ?_
      refine wp_ldc2 (n := 16) dX0_since_13 rfl q623 ?_
      refine wp_call (n := 19) (K' := KX0_in) (rc' := rc) (rs' := rs) (aRun_S (K' := KX0_in) (As := [vL (Int32.toInt64 i2), vL 0, vL 19]) (rest := []) dX0_since_16 (aCal_of kf_X0_in (Nat.le_of_ble_eq_true rfl)) rfl q228 q229 ar_X0_in rfl (Nat.le_of_ble_eq_true rfl)) rfl (Nat.le_of_eq (Nat.zero_add _)) (Nat.le_of_eq (Nat.zero_add _)) (fun v16 w16 h => ?_) (fun E16 w16 h => ?_) h
      · obtain ⟨x16, rfl, h⟩ := h
        refine wp_if_eq (n := 22) (t := 31) dX0_since_19 rfl (by decide) (fun c19 => ?_) (fun c19 => ?_)
        · replace h := h.1 c19
          refine wp_ldc2 (n := 34) dX0_since_31 rfl q797 ?_
          exact wp_lreturn dX0_since_34 rfl h
        · replace h := h.2 c19
          refine wp_aload_n (n := 23) (i := 0) (q := 1) dX0_since_22 rfl rfl rfl ?_
          obtain ⟨x23, g23, h⟩ := h
          refine wp_gf (n := 26) dX0_since_23 rfl fl_X0_20 g23 ?_
          refine wp_iload_n (n := 27) (i := 2) (q := 3) dX0_since_26 rfl rfl rfl ?_
          obtain ⟨x27, g27, h⟩ := h
          refine wp_gR (n := 28) dX0_since_27 rfl (by decide) g27 ?_
          rcases opt_c x27 with ea28 | ⟨a28, ea28⟩
          · replace h := h.1 ea28
            rw [ea28]
            refine wp_ifnonnull (n := 31) (t := 35) dX0_since_28 rfl (by decide) (fun z zz => nomatch zz) (fun _ => ?_)
            refine wp_ldc2 (n := 34) dX0_since_31 rfl q797 ?_
            exact wp_lreturn dX0_since_34 rfl h
          · replace h := h.2 a28 ea28
            rw [ea28]
            refine wp_ifnonnull (n := 31) (t := 35) dX0_since_28 rfl (by decide) (fun _ _ => ?_) (fun zz => nomatch zz)
            refine wp_aload_n (n := 36) (i := 0) (q := 1) dX0_since_35 rfl rfl rfl ?_
            obtain ⟨x36, g36, h⟩ := h
            refine wp_gf (n := 39) dX0_since_36 rfl fl_X0_20 g36 ?_
            refine wp_iload_n (n := 40) (i := 2) (q := 3) dX0_since_39 rfl rfl rfl ?_
            obtain ⟨x40, g40, h⟩ := h
            refine wp_gR (n := 41) dX0_since_40 rfl (by decide) g40 ?_
            refine wp_call (n := 44) (K' := KX0_madeOf) (rc' := rc) (rs' := rs) (aRun_S (K' := KX0_madeOf) (As := [vR x40]) (rest := []) dX0_since_41 (aCal_of kf_X0_madeOf (Nat.le_of_ble_eq_true rfl)) rfl q724 q725 ar_X0_madeOf rfl (Nat.le_of_ble_eq_true rfl)) rfl (Nat.le_of_eq (Nat.zero_add _)) (Nat.le_of_eq (Nat.zero_add _)) (fun v41 w41 h => ?_) (fun E41 w41 h => ?_) h
            · obtain ⟨x41, rfl, h⟩ := h
              refine wp_istore (n := 46) (i := 4) (ls' := [(4, vI x41), (3, vR (some a7)), (0, vR (some h0)), (1, vI i1), (2, vI i2)]) dX0_since_44 rfl (Nat.le_of_ble_eq_true rfl) rfl ?_
              refine wp_lconst (n := 47) (v := 0) dX0_since_46 rfl (by decide) ?_
              refine wp_lstore (n := 49) (i := 5) (ls' := [(5, vL 0), (4, vI x41), (3, vR (some a7)), (0, vR (some h0)), (1, vI i1), (2, vI i2)]) dX0_since_47 rfl (Nat.le_of_ble_eq_true rfl) rfl ?_
              refine wp_iconst (n := 50) (v := 0) dX0_since_49 rfl (by decide) ?_
              refine wp_istore (n := 52) (i := 7) (ls' := [(7, vI 0), (5, vL 0), (4, vI x41), (3, vR (some a7)), (0, vR (some h0)), (1, vI i1), (2, vI i2)]) dX0_since_50 rfl (Nat.le_of_ble_eq_true rfl) rfl ?_
              exact wp_sub [4, 5, 6, 3, 2, 1, 0] rfl h
            · exact h.elim
      · exact h.elim
  · exact h.elim
set_option maxHeartbeats 1000000 in
theorem sg_X0_since_52 {h0 : Nat} {i1 : Int32} {i2 : Int32} {r3 : Option Nat} {i4 : Int32} {l5 : Int64} {i7 : Int32} {rc rs : Nat} {QR : Option aV → aW → Prop} {QX : String → aW → Prop} {w : aW} (h : (12 ≤ i7 → QR (some (vL l5)) w) ∧ (¬ 12 ≤ i7 → ∃ a60 : Nat, r3 = some a60 ∧ ∃ x60 : Nat, gf w a60 [4, 5, 6, 7] 1 (vR (some x60)) ∧ ∃ x65 : Int32, gI w x60 i7 x65 ∧ (x65 = (-1) → wp (KX0_since) rc rs QR QX 52 [(0, vR (some h0)), (1, vI i1), (2, vI i2), (3, vR (some a60)), (4, vI i4), (5, vL (l5 + 0)), (7, vI (i7 + 1))] [] w) ∧ (¬ x65 = (-1) → ∃ x77 : Nat, gf w h0 [0] 1 (vR (some x77)) ∧ ∃ x82 : Int32, gI w x77 x65 x82 ∧ (x82 ≤ i4 → wp (KX0_since) rc rs QR QX 52 [(0, vR (some h0)), (1, vI i1), (2, vI i2), (3, vR (some a60)), (4, vI i4), (5, vL (l5 + 0)), (7, vI (i7 + 1))] [] w) ∧ (¬ x82 ≤ i4 → ∃ x89 : Nat, gf w h0 [0] 0 (vR (some x89)) ∧ ∃ x94 : Int32, gI w x89 x65 x94 ∧ wp (KX0_since) rc rs QR QX 52 [(0, vR (some h0)), (1, vI i1), (2, vI i2), (3, vR (some a60)), (4, vI i4), (5, vL (l5 + (Int32.toInt64 x94))), (7, vI (i7 + 1))] [] w)))) : wp (KX0_since) rc rs QR QX 52 [(0, vR (some h0)), (1, vI i1), (2, vI i2), (3, vR r3), (4, vI i4), (5, vL l5), (7, vI i7)] [] w := by
  refine wp_iload (n := 54) (i := 7) (q := 6) dX0_since_52 rfl rfl ?_
  refine wp_bipush (n := 56) (v := 12) dX0_since_54 rfl (by decide) ?_
  refine wp_icmp_ge (n := 59) (t := 109) dX0_since_56 rfl (by decide) (fun c56 => ?_) (fun c56 => ?_)
  · replace h := h.1 c56
    refine wp_lload (n := 111) (i := 5) (q := 5) dX0_since_109 rfl rfl ?_
    exact wp_lreturn dX0_since_111 rfl h
  · replace h := h.2 c56
    refine wp_aload_n (n := 60) (i := 3) (q := 3) dX0_since_59 rfl rfl rfl ?_
    obtain ⟨a60, ea60, h⟩ := h
    rw [ea60]
    obtain ⟨x60, g60, h⟩ := h
    refine wp_gf (n := 63) dX0_since_60 rfl fl_X0_119 g60 ?_
    refine wp_iload (n := 65) (i := 7) (q := 6) dX0_since_63 rfl rfl ?_
    obtain ⟨x65, g65, h⟩ := h
    refine wp_gI (n := 66) dX0_since_65 rfl g65 ?_
    refine wp_istore (n := 68) (i := 8) (ls' := [(8, vI x65), (0, vR (some h0)), (1, vI i1), (2, vI i2), (3, vR (some a60)), (4, vI i4), (5, vL l5), (7, vI i7)]) dX0_since_66 rfl (Nat.le_of_ble_eq_true rfl) rfl ?_
    refine wp_lload (n := 70) (i := 5) (q := 6) dX0_since_68 rfl rfl ?_
    refine wp_iload (n := 72) (i := 8) (q := 0) dX0_since_70 rfl rfl ?_
    refine wp_iconst (n := 73) (v := (-1)) dX0_since_72 rfl (by decide) ?_
    refine wp_icmp_eq (n := 76) (t := 99) dX0_since_73 rfl (by decide) (fun c73 => ?_) (fun c73 => ?_)
    · replace h := h.1 c73
      refine wp_lconst (n := 100) (v := 0) dX0_since_99 rfl (by decide) ?_
      refine wp_ladd (n := 101) dX0_since_100 rfl ?_
      refine wp_lstore (n := 103) (i := 5) (ls' := [(5, vL (l5 + 0)), (8, vI x65), (0, vR (some h0)), (1, vI i1), (2, vI i2), (3, vR (some a60)), (4, vI i4), (7, vI i7)]) dX0_since_101 rfl (Nat.le_of_ble_eq_true rfl) rfl ?_
      refine wp_iinc (n := 106) (i := 7) (q := 7) (v := i7 + 1) (ls' := [(7, vI (i7 + 1)), (5, vL (l5 + 0)), (8, vI x65), (0, vR (some h0)), (1, vI i1), (2, vI i2), (3, vR (some a60)), (4, vI i4)]) dX0_since_103 rfl rfl rfl (Nat.le_of_ble_eq_true rfl) rfl ?_
      refine wp_goto (t := 52) dX0_since_106 (by decide) ?_
      exact wp_sub [3, 4, 5, 6, 7, 1, 0] rfl h
    · replace h := h.2 c73
      refine wp_aload_n (n := 77) (i := 0) (q := 1) dX0_since_76 rfl rfl rfl ?_
      obtain ⟨x77, g77, h⟩ := h
      refine wp_gf (n := 80) dX0_since_77 rfl fl_X0_13 g77 ?_
      refine wp_iload (n := 82) (i := 8) (q := 0) dX0_since_80 rfl rfl ?_
      obtain ⟨x82, g82, h⟩ := h
      refine wp_gI (n := 83) dX0_since_82 rfl g82 ?_
      refine wp_iload (n := 85) (i := 4) (q := 5) dX0_since_83 rfl rfl ?_
      refine wp_icmp_le (n := 88) (t := 99) dX0_since_85 rfl (by decide) (fun c85 => ?_) (fun c85 => ?_)
      · replace h := h.1 c85
        refine wp_lconst (n := 100) (v := 0) dX0_since_99 rfl (by decide) ?_
        refine wp_ladd (n := 101) dX0_since_100 rfl ?_
        refine wp_lstore (n := 103) (i := 5) (ls' := [(5, vL (l5 + 0)), (8, vI x65), (0, vR (some h0)), (1, vI i1), (2, vI i2), (3, vR (some a60)), (4, vI i4), (7, vI i7)]) dX0_since_101 rfl (Nat.le_of_ble_eq_true rfl) rfl ?_
        refine wp_iinc (n := 106) (i := 7) (q := 7) (v := i7 + 1) (ls' := [(7, vI (i7 + 1)), (5, vL (l5 + 0)), (8, vI x65), (0, vR (some h0)), (1, vI i1), (2, vI i2), (3, vR (some a60)), (4, vI i4)]) dX0_since_103 rfl rfl rfl (Nat.le_of_ble_eq_true rfl) rfl ?_
        refine wp_goto (t := 52) dX0_since_106 (by decide) ?_
        exact wp_sub [3, 4, 5, 6, 7, 1, 0] rfl h
      · replace h := h.2 c85
        refine wp_aload_n (n := 89) (i := 0) (q := 1) dX0_since_88 rfl rfl rfl ?_
        obtain ⟨x89, g89, h⟩ := h
        refine wp_gf (n := 92) dX0_since_89 rfl fl_X0_9 g89 ?_
        refine wp_iload (n := 94) (i := 8) (q := 0) dX0_since_92 rfl rfl ?_
        obtain ⟨x94, g94, h⟩ := h
        refine wp_gI (n := 95) dX0_since_94 rfl g94 ?_
        refine wp_i2l (n := 96) dX0_since_95 rfl ?_
        refine wp_goto (t := 100) dX0_since_96 (by decide) ?_
        refine wp_ladd (n := 101) dX0_since_100 rfl ?_
        refine wp_lstore (n := 103) (i := 5) (ls' := [(5, vL (l5 + (Int32.toInt64 x94))), (8, vI x65), (0, vR (some h0)), (1, vI i1), (2, vI i2), (3, vR (some a60)), (4, vI i4), (7, vI i7)]) dX0_since_101 rfl (Nat.le_of_ble_eq_true rfl) rfl ?_
        refine wp_iinc (n := 106) (i := 7) (q := 7) (v := i7 + 1) (ls' := [(7, vI (i7 + 1)), (5, vL (l5 + (Int32.toInt64 x94))), (8, vI x65), (0, vR (some h0)), (1, vI i1), (2, vI i2), (3, vR (some a60)), (4, vI i4)]) dX0_since_103 rfl rfl rfl (Nat.le_of_ble_eq_true rfl) rfl ?_
        refine wp_goto (t := 52) dX0_since_106 (by decide) ?_
        exact wp_sub [3, 4, 5, 6, 7, 1, 0] rfl h
set_option maxHeartbeats 1000000 in
theorem sg_X0_slot_0 {h0 : Nat} {i1 : Int32} {i2 : Int32} {rc rs : Nat} {QR : Option aV → aW → Prop} {QX : String → aW → Prop} {w : aW} (h : ct (KX0_in) 0 0 [vL (Int32.toInt64 i2), vL 0, vL 11] w (fun v6 w6 => ∃ x6 : Int32, v6 = some (vI x6) ∧ (¬ x6 = 0 → 1 ≤ rc ∧ 6 ≤ rs ∧ isO w6 h0 0 ∧ ct (KX0_thingAt) 1 6 [vR (some h0), vI i1] w6 (fun v17 w17 => ∃ x17 : Option Nat, v17 = some (vR x17) ∧ (x17 = none → 1 ≤ (rc - 1) ∧ 8 ≤ (rs - 6) ∧ QR (some (vI (-11))) w17) ∧ (∀ a20 : Nat, x17 = some a20 → ((ck w17 a20 [4, 5, 6, 7] ∧ ∃ x23 : Nat, gf w17 a20 [4, 5, 6, 7] 1 (vR (some x23)) ∧ ∃ x27 : Int32, gI w17 x23 i2 x27 ∧ QR (some (vI x27)) w17) ∨ (ck w17 a20 [8] ∧ 3 ≤ (rc - 1) ∧ 950 ≤ (rs - 6) ∧ QR (some (vI (-13))) w17)))) (fun E17 w17 => (E17 = "java/lang/IndexOutOfBoundsException" ∧ QR (some (vI (-12))) w17))) ∧ (x6 = 0 → QR (some (vI (-2))) w6)) (fun E6 w6 => False)) : wp (KX0_slot) rc rs QR QX 0 [(0, vR (some h0)), (1, vI i1), (2, vI i2)] [] w := by
  refine wp_iload_n (n := 1) (i := 2) (q := 2) dX0_slot_0 rfl rfl rfl ?_
  refine wp_i2l (n := 2) dX0_slot_1 rfl ?_
  refine wp_lconst (n := 3) (v := 0) dX0_slot_2 rfl (by decide) ?_
  refine wp_ldc2 (n := 6) dX0_slot_3 rfl q450 ?_
  refine wp_call (n := 9) (K' := KX0_in) (rc' := rc) (rs' := rs) (aRun_S (K' := KX0_in) (As := [vL (Int32.toInt64 i2), vL 0, vL 11]) (rest := []) dX0_slot_6 (aCal_of kf_X0_in (Nat.le_of_ble_eq_true rfl)) rfl q228 q229 ar_X0_in rfl (Nat.le_of_ble_eq_true rfl)) rfl (Nat.le_of_eq (Nat.zero_add _)) (Nat.le_of_eq (Nat.zero_add _)) (fun v6 w6 h => ?_) (fun E6 w6 h => ?_) h
  · obtain ⟨x6, rfl, h⟩ := h
    refine wp_if_ne (n := 12) (t := 15) dX0_slot_9 rfl (by decide) (fun c9 => ?_) (fun c9 => ?_)
    · replace h := h.1 c9
      refine wp_aload_n (n := 16) (i := 0) (q := 0) dX0_slot_15 rfl rfl rfl ?_
      refine wp_iload_n (n := 17) (i := 1) (q := 1) dX0_slot_16 rfl rfl rfl ?_
      obtain ⟨b17, bb17, h⟩ := h
      obtain ⟨⟨fs17, o17⟩, h⟩ := h
      refine wp_call (n := 20) (K' := KX0_thingAt) (rc' := rc - 1) (rs' := rs - 6) (aRun_V (K' := KX0_thingAt) (As := [vI i1]) (rest := []) (b := h0) (c0 := .inr (0, fs17)) dX0_slot_17 (aCal_of kf_X0_thingAt (Nat.le_of_ble_eq_true rfl)) q451 q453 qs4 ar_X0_thingAt o17 (by decide : 0 < 9) rfl (Nat.le_of_ble_eq_true rfl)) rfl (by omega) (by omega) (fun v17 w17 h => ?_) (fun E17 w17 h => ?_) h
      · obtain ⟨x17, rfl, h⟩ := h
        rcases opt_c x17 with ea20 | ⟨a20, ea20⟩
        · replace h := h.1 ea20
          rw [ea20]
          refine wp_castN (n := 23) dX0_slot_20 rfl ?_
          obtain ⟨b1, b2, h⟩ := h
          refine wp_getfNull (rc' := 0) (rs' := 0) dX0_slot_23 (fl_X0_119 4 (by decide)) (by omega) (by omega) (Nat.le_of_ble_eq_true rfl) ?_
          refine wpx_catch (nm := "java/lang/NullPointerException") [(15, 28, 29, 53)] (15, 28, 33, 169) [(15, 28, 37, 171)] rfl (fun z hz => by have hz : z ∈ ([(15, 28, 29, 53)] : List (Nat × Nat × Nat × Nat)) := hz; simp only [List.mem_cons, List.not_mem_nil, or_false] at hz; subst hz; exact Or.inr ⟨by decide, "java/lang/IndexOutOfBoundsException", q320, nc_NullPointerException_IndexOutOfBoundsException⟩) (by decide) (by decide) q411 q433 (fun q9 => ?_)
          refine wp_astore_n (n := 34) (i := 3) (ls' := [(3, vR (some q9)), (0, vR (some h0)), (1, vI i1), (2, vI i2)]) dX0_slot_33 rfl rfl (Nat.le_of_ble_eq_true rfl) rfl ?_
          refine wp_bipush (n := 36) (v := (-11)) dX0_slot_34 rfl (by decide) ?_
          exact wp_ireturn dX0_slot_36 rfl h
        · replace h := h.2 a20 ea20
          rw [ea20]
          rcases h with h | h
          · obtain ⟨k20, h⟩ := h
            refine wp_ckY (n := 23) dX0_slot_20 rfl q659 cok_Holder k20 ?_
            obtain ⟨x23, g23, h⟩ := h
            refine wp_gf (n := 26) dX0_slot_23 rfl fl_X0_119 g23 ?_
            refine wp_iload_n (n := 27) (i := 2) (q := 2) dX0_slot_26 rfl rfl rfl ?_
            obtain ⟨x27, g27, h⟩ := h
            refine wp_gI (n := 28) dX0_slot_27 rfl g27 ?_
            exact wp_ireturn dX0_slot_28 rfl h
          · obtain ⟨k20, b1, b2, h⟩ := h
            refine wp_ckX (rc' := 0) (rs' := 0) dX0_slot_20 q659 cno_Holder sn_Holder k20 (by omega) (by omega) (Nat.le_of_ble_eq_true rfl) ?_
            refine wpx_catch (nm := "java/lang/ClassCastException") [(15, 28, 29, 53), (15, 28, 33, 169)] (15, 28, 37, 171) [] rfl (fun z hz => by have hz : z ∈ ([(15, 28, 29, 53), (15, 28, 33, 169)] : List (Nat × Nat × Nat × Nat)) := hz; simp only [List.mem_cons, List.not_mem_nil, or_false] at hz; rcases hz with rfl | rfl; exact Or.inr ⟨by decide, "java/lang/IndexOutOfBoundsException", q320, nc_ClassCastException_IndexOutOfBoundsException⟩; exact Or.inr ⟨by decide, "java/lang/NullPointerException", q411, nc_ClassCastException_NullPointerException⟩) (by decide) (by decide) q436 q448 (fun q9 => ?_)
            refine wp_astore_n (n := 38) (i := 3) (ls' := [(3, vR (some q9)), (0, vR (some h0)), (1, vI i1), (2, vI i2)]) dX0_slot_37 rfl rfl (Nat.le_of_ble_eq_true rfl) rfl ?_
            refine wp_bipush (n := 40) (v := (-13)) dX0_slot_38 rfl (by decide) ?_
            exact wp_ireturn dX0_slot_40 rfl h
      · obtain ⟨rfl, h⟩ := h
        refine wpx_catch (nm := "java/lang/IndexOutOfBoundsException") [] (15, 28, 29, 53) [(15, 28, 33, 169), (15, 28, 37, 171)] rfl (fun z hz => absurd hz List.not_mem_nil) (by decide) (by decide) q320 q459 (fun q9 => ?_)
        refine wp_astore_n (n := 30) (i := 3) (ls' := [(3, vR (some q9)), (0, vR (some h0)), (1, vI i1), (2, vI i2)]) dX0_slot_29 rfl rfl (Nat.le_of_ble_eq_true rfl) rfl ?_
        refine wp_bipush (n := 32) (v := (-12)) dX0_slot_30 rfl (by decide) ?_
        exact wp_ireturn dX0_slot_32 rfl h
    · replace h := h.2 c9
      refine wp_bipush (n := 14) (v := (-2)) dX0_slot_12 rfl (by decide) ?_
      exact wp_ireturn dX0_slot_14 rfl h
  · exact h.elim
set_option maxHeartbeats 1000000 in
theorem sg_X0_space_0 {h0 : Nat} {i1 : Int32} {rc rs : Nat} {QR : Option aV → aW → Prop} {QX : String → aW → Prop} {w : aW} (h : isO w h0 0 ∧ ct (KX0_holderAt) 0 0 [vR (some h0), vI i1] w (fun v2 w2 => ∃ x2 : Option Nat, v2 = some (vR x2) ∧ (x2 = none → QR (some (vL (-4611686018427387904))) w2) ∧ (∀ a7 : Nat, x2 = some a7 → 1 ≤ rc ∧ 8 ≤ rs ∧ isO w2 h0 0 ∧ ct (KX0_spaceOf) 1 8 [vR (some h0), vR (some a7)] w2 (fun v18 w18 => ∃ x18 : Int64, v18 = some (vL x18) ∧ QR (some (vL x18)) w18) (fun E18 w18 => (E18 = "java/lang/NullPointerException" ∧ QX "java/lang/NullPointerException" w18)))) (fun E2 w2 => False)) : wp (KX0_space) rc rs QR QX 0 [(0, vR (some h0)), (1, vI i1)] [] w := by
  refine wp_aload_n (n := 1) (i := 0) (q := 0) dX0_space_0 rfl rfl rfl ?_
  refine wp_iload_n (n := 2) (i := 1) (q := 1) dX0_space_1 rfl rfl rfl ?_
  obtain ⟨⟨fs2, o2⟩, h⟩ := h
  refine wp_call (n := 5) (K' := KX0_holderAt) (rc' := rc) (rs' := rs) (aRun_V (K' := KX0_holderAt) (As := [vI i1]) (rest := []) (b := h0) (c0 := .inr (0, fs2)) dX0_space_2 (aCal_of kf_X0_holderAt (Nat.le_of_ble_eq_true rfl)) q655 q657 qs21 ar_X0_holderAt o2 (by decide : 0 < 9) rfl (Nat.le_of_ble_eq_true rfl)) rfl (Nat.le_of_eq (Nat.zero_add _)) (Nat.le_of_eq (Nat.zero_add _)) (fun v2 w2 h => ?_) (fun E2 w2 h => ?_) h
  · obtain ⟨x2, rfl, h⟩ := h
    refine wp_astore_n (n := 6) (i := 2) (ls' := [(2, vR x2), (0, vR (some h0)), (1, vI i1)]) dX0_space_5 rfl rfl (Nat.le_of_ble_eq_true rfl) rfl ?_
    refine wp_aload_n (n := 7) (i := 2) (q := 0) dX0_space_6 rfl rfl rfl ?_
    rcases opt_c x2 with ea7 | ⟨a7, ea7⟩
    · replace h := h.1 ea7
      rw [ea7]
      refine wp_ifnonnull (n := 10) (t := 16) dX0_space_7 rfl (by decide) (fun z zz => nomatch zz) (fun _ => ?_)
      refine wp_ldc2 (n := 13) dX0_space_10 rfl q797 ?_
      refine wp_goto (t := 21) dX0_space_13 (by decide) ?_
      exact wp_lreturn dX0_space_21 rfl h
    · replace h := h.2 a7 ea7
      rw [ea7]
      refine wp_ifnonnull (n := 10) (t := 16) dX0_space_7 rfl (by decide) (fun _ _ => ?_) (fun zz => nomatch zz)
      refine wp_aload_n (n := 17) (i := 0) (q := 1) dX0_space_16 rfl rfl rfl ?_
      refine wp_aload_n (n := 18) (i := 2) (q := 0) dX0_space_17 rfl rfl rfl ?_
      obtain ⟨b18, bb18, h⟩ := h
      obtain ⟨⟨fs18, o18⟩, h⟩ := h
      refine wp_call (n := 21) (K' := KX0_spaceOf) (rc' := rc - 1) (rs' := rs - 8) (aRun_V (K' := KX0_spaceOf) (As := [vR (some a7)]) (rest := []) (b := h0) (c0 := .inr (0, fs18)) dX0_space_18 (aCal_of kf_X0_spaceOf (Nat.le_of_ble_eq_true rfl)) q480 q482 qs7 ar_X0_spaceOf o18 (by decide : 0 < 9) rfl (Nat.le_of_ble_eq_true rfl)) rfl (by omega) (by omega) (fun v18 w18 h => ?_) (fun E18 w18 h => ?_) h
      · obtain ⟨x18, rfl, h⟩ := h
        exact wp_lreturn dX0_space_21 rfl h
      · obtain ⟨rfl, h⟩ := h
        exact wpx_out (fun z hz => absurd hz List.not_mem_nil) h
  · exact h.elim
set_option maxHeartbeats 1000000 in
theorem sg_X0_tag_0 {h0 : Nat} {i1 : Int32} {i2 : Int32} {rc rs : Nat} {QR : Option aV → aW → Prop} {QX : String → aW → Prop} {w : aW} (h : ct (KX0_in) 0 0 [vL (Int32.toInt64 i2), vL 0, vL 9] w (fun v6 w6 => ∃ x6 : Int32, v6 = some (vI x6) ∧ (¬ x6 = 0 → 1 ≤ rc ∧ 6 ≤ rs ∧ isO w6 h0 0 ∧ ct (KX0_thingAt) 1 6 [vR (some h0), vI i1] w6 (fun v17 w17 => ∃ x17 : Option Nat, v17 = some (vR x17) ∧ (x17 = none → 1 ≤ (rc - 1) ∧ 8 ≤ (rs - 6) ∧ QR (some (vI (-11))) w17) ∧ (∀ a20 : Nat, x17 = some a20 → ((ck w17 a20 [7] ∧ isO w17 a20 7 ∧ ct (KX8_tags) 0 0 [vR (some a20)] w17 (fun v25 w25 => ∃ x25 : Int32, v25 = some (vI x25) ∧ isO w25 a20 7 ∧ ct (KX8_tagsAre) 0 0 [vR (some a20), vI i2] w25 (fun v32 w32 => v32 = none ∧ QR (some (vI x25)) w32) (fun E32 w32 => False)) (fun E25 w25 => False)) ∨ (ck w17 a20 [4, 5, 6, 8] ∧ 3 ≤ (rc - 1) ∧ 950 ≤ (rs - 6) ∧ QR (some (vI (-13))) w17)))) (fun E17 w17 => (E17 = "java/lang/IndexOutOfBoundsException" ∧ QR (some (vI (-12))) w17))) ∧ (x6 = 0 → QR (some (vI (-2))) w6)) (fun E6 w6 => False)) : wp (KX0_tag) rc rs QR QX 0 [(0, vR (some h0)), (1, vI i1), (2, vI i2)] [] w := by
  refine wp_iload_n (n := 1) (i := 2) (q := 2) dX0_tag_0 rfl rfl rfl ?_
  refine wp_i2l (n := 2) dX0_tag_1 rfl ?_
  refine wp_lconst (n := 3) (v := 0) dX0_tag_2 rfl (by decide) ?_
  refine wp_ldc2 (n := 6) dX0_tag_3 rfl q583 ?_
  refine wp_call (n := 9) (K' := KX0_in) (rc' := rc) (rs' := rs) (aRun_S (K' := KX0_in) (As := [vL (Int32.toInt64 i2), vL 0, vL 9]) (rest := []) dX0_tag_6 (aCal_of kf_X0_in (Nat.le_of_ble_eq_true rfl)) rfl q228 q229 ar_X0_in rfl (Nat.le_of_ble_eq_true rfl)) rfl (Nat.le_of_eq (Nat.zero_add _)) (Nat.le_of_eq (Nat.zero_add _)) (fun v6 w6 h => ?_) (fun E6 w6 h => ?_) h
  · obtain ⟨x6, rfl, h⟩ := h
    refine wp_if_ne (n := 12) (t := 15) dX0_tag_9 rfl (by decide) (fun c9 => ?_) (fun c9 => ?_)
    · replace h := h.1 c9
      refine wp_aload_n (n := 16) (i := 0) (q := 0) dX0_tag_15 rfl rfl rfl ?_
      refine wp_iload_n (n := 17) (i := 1) (q := 1) dX0_tag_16 rfl rfl rfl ?_
      obtain ⟨b17, bb17, h⟩ := h
      obtain ⟨⟨fs17, o17⟩, h⟩ := h
      refine wp_call (n := 20) (K' := KX0_thingAt) (rc' := rc - 1) (rs' := rs - 6) (aRun_V (K' := KX0_thingAt) (As := [vI i1]) (rest := []) (b := h0) (c0 := .inr (0, fs17)) dX0_tag_17 (aCal_of kf_X0_thingAt (Nat.le_of_ble_eq_true rfl)) q451 q453 qs4 ar_X0_thingAt o17 (by decide : 0 < 9) rfl (Nat.le_of_ble_eq_true rfl)) rfl (by omega) (by omega) (fun v17 w17 h => ?_) (fun E17 w17 h => ?_) h
      · obtain ⟨x17, rfl, h⟩ := h
        rcases opt_c x17 with ea20 | ⟨a20, ea20⟩
        · replace h := h.1 ea20
          rw [ea20]
          refine wp_castN (n := 23) dX0_tag_20 rfl ?_
          refine wp_astore_n (n := 24) (i := 3) (ls' := [(3, vR none), (0, vR (some h0)), (1, vI i1), (2, vI i2)]) dX0_tag_23 rfl rfl (Nat.le_of_ble_eq_true rfl) rfl ?_
          refine wp_aload_n (n := 25) (i := 3) (q := 0) dX0_tag_24 rfl rfl rfl ?_
          obtain ⟨b1, b2, h⟩ := h
          refine wp_invokeNull (rc' := 0) (rs' := 0) (As := []) (rest := []) dX0_tag_25 q584 q585 q587 q586 ⟨by decide, by decide⟩ (by decide +kernel) rfl (by omega) (by omega) (Nat.le_of_ble_eq_true rfl) ?_
          refine wpx_catch (nm := "java/lang/NullPointerException") [(15, 37, 38, 53)] (15, 37, 42, 169) [(15, 37, 46, 171)] rfl (fun z hz => by have hz : z ∈ ([(15, 37, 38, 53)] : List (Nat × Nat × Nat × Nat)) := hz; simp only [List.mem_cons, List.not_mem_nil, or_false] at hz; subst hz; exact Or.inr ⟨by decide, "java/lang/IndexOutOfBoundsException", q320, nc_NullPointerException_IndexOutOfBoundsException⟩) (by decide) (by decide) q411 q433 (fun q9 => ?_)
          refine wp_astore_n (n := 43) (i := 3) (ls' := [(3, vR (some q9)), (0, vR (some h0)), (1, vI i1), (2, vI i2)]) dX0_tag_42 rfl rfl (Nat.le_of_ble_eq_true rfl) rfl ?_
          refine wp_bipush (n := 45) (v := (-11)) dX0_tag_43 rfl (by decide) ?_
          exact wp_ireturn dX0_tag_45 rfl h
        · replace h := h.2 a20 ea20
          rw [ea20]
          rcases h with h | h
          · obtain ⟨k20, h⟩ := h
            refine wp_ckY (n := 23) dX0_tag_20 rfl q532 cok_Tagged k20 ?_
            refine wp_astore_n (n := 24) (i := 3) (ls' := [(3, vR (some a20)), (0, vR (some h0)), (1, vI i1), (2, vI i2)]) dX0_tag_23 rfl rfl (Nat.le_of_ble_eq_true rfl) rfl ?_
            refine wp_aload_n (n := 25) (i := 3) (q := 0) dX0_tag_24 rfl rfl rfl ?_
            obtain ⟨⟨fs25, o25⟩, h⟩ := h
            refine wp_call (n := 28) (K' := KX8_tags) (rc' := rc - 1) (rs' := rs - 6) (aRun_V (K' := KX8_tags) (As := []) (rest := []) (b := a20) (c0 := .inr (7, fs25)) dX0_tag_25 (aCal_of kf_X8_tags (Nat.le_of_ble_eq_true rfl)) q584 q585 q586 ar_X8_tags o25 (by decide : 7 < 9) rfl (Nat.le_of_ble_eq_true rfl)) rfl (Nat.le_of_eq (Nat.zero_add _)) (Nat.le_of_eq (Nat.zero_add _)) (fun v25 w25 h => ?_) (fun E25 w25 h => ?_) h
            · obtain ⟨x25, rfl, h⟩ := h
              refine wp_istore (n := 30) (i := 4) (ls' := [(4, vI x25), (3, vR (some a20)), (0, vR (some h0)), (1, vI i1), (2, vI i2)]) dX0_tag_28 rfl (Nat.le_of_ble_eq_true rfl) rfl ?_
              refine wp_aload_n (n := 31) (i := 3) (q := 1) dX0_tag_30 rfl rfl rfl ?_
              refine wp_iload_n (n := 32) (i := 2) (q := 4) dX0_tag_31 rfl rfl rfl ?_
              obtain ⟨⟨fs32, o32⟩, h⟩ := h
              refine wp_call (n := 35) (K' := KX8_tagsAre) (rc' := rc - 1) (rs' := rs - 6) (aRun_V (K' := KX8_tagsAre) (As := [vI i2]) (rest := []) (b := a20) (c0 := .inr (7, fs32)) dX0_tag_32 (aCal_of kf_X8_tagsAre (Nat.le_of_ble_eq_true rfl)) q588 q589 q590 ar_X8_tagsAre o32 (by decide : 7 < 9) rfl (Nat.le_of_ble_eq_true rfl)) rfl (Nat.le_of_eq (Nat.zero_add _)) (Nat.le_of_eq (Nat.zero_add _)) (fun v32 w32 h => ?_) (fun E32 w32 h => ?_) h
              · obtain ⟨rfl, h⟩ := h
                refine wp_iload (n := 37) (i := 4) (q := 0) dX0_tag_35 rfl rfl ?_
                exact wp_ireturn dX0_tag_37 rfl h
              · exact h.elim
            · exact h.elim
          · obtain ⟨k20, b1, b2, h⟩ := h
            refine wp_ckX (rc' := 0) (rs' := 0) dX0_tag_20 q532 cno_Tagged sn_Tagged k20 (by omega) (by omega) (Nat.le_of_ble_eq_true rfl) ?_
            refine wpx_catch (nm := "java/lang/ClassCastException") [(15, 37, 38, 53), (15, 37, 42, 169)] (15, 37, 46, 171) [] rfl (fun z hz => by have hz : z ∈ ([(15, 37, 38, 53), (15, 37, 42, 169)] : List (Nat × Nat × Nat × Nat)) := hz; simp only [List.mem_cons, List.not_mem_nil, or_false] at hz; rcases hz with rfl | rfl; exact Or.inr ⟨by decide, "java/lang/IndexOutOfBoundsException", q320, nc_ClassCastException_IndexOutOfBoundsException⟩; exact Or.inr ⟨by decide, "java/lang/NullPointerException", q411, nc_ClassCastException_NullPointerException⟩) (by decide) (by decide) q436 q448 (fun q9 => ?_)
            refine wp_astore_n (n := 47) (i := 3) (ls' := [(3, vR (some q9)), (0, vR (some h0)), (1, vI i1), (2, vI i2)]) dX0_tag_46 rfl rfl (Nat.le_of_ble_eq_true rfl) rfl ?_
            refine wp_bipush (n := 49) (v := (-13)) dX0_tag_47 rfl (by decide) ?_
            exact wp_ireturn dX0_tag_49 rfl h
      · obtain ⟨rfl, h⟩ := h
        refine wpx_catch (nm := "java/lang/IndexOutOfBoundsException") [] (15, 37, 38, 53) [(15, 37, 42, 169), (15, 37, 46, 171)] rfl (fun z hz => absurd hz List.not_mem_nil) (by decide) (by decide) q320 q459 (fun q9 => ?_)
        refine wp_astore_n (n := 39) (i := 3) (ls' := [(3, vR (some q9)), (0, vR (some h0)), (1, vI i1), (2, vI i2)]) dX0_tag_38 rfl rfl (Nat.le_of_ble_eq_true rfl) rfl ?_
        refine wp_bipush (n := 41) (v := (-12)) dX0_tag_39 rfl (by decide) ?_
        exact wp_ireturn dX0_tag_41 rfl h
    · replace h := h.2 c9
      refine wp_bipush (n := 14) (v := (-2)) dX0_tag_12 rfl (by decide) ?_
      exact wp_ireturn dX0_tag_14 rfl h
  · exact h.elim
set_option maxHeartbeats 1000000 in
theorem sg_X0_takenFor_0 {r0 : Option Nat} {i1 : Int32} {rc rs : Nat} {QR : Option aV → aW → Prop} {QX : String → aW → Prop} {w : aW} (h : (i1 = 0 → (r0 = none → 1 ≤ rc ∧ 8 ≤ rs ∧ QX "java/lang/NullPointerException" w) ∧ (∀ a33 : Nat, r0 = some a33 → ((ck w a33 [4, 5] ∧ ∃ x36 : Int32, gf w a33 [4, 5] 0 (vI x36) ∧ QR (some (vI x36)) w) ∨ (ck w a33 [6, 7, 8] ∧ 3 ≤ rc ∧ 950 ≤ rs ∧ QX "java/lang/ClassCastException" w)))) ∧ (i1 = 1 → (r0 = none → 1 ≤ rc ∧ 8 ≤ rs ∧ QX "java/lang/NullPointerException" w) ∧ (∀ a41 : Nat, r0 = some a41 → ((ck w a41 [5] ∧ ∃ x44 : Int32, gf w a41 [5] 0 (vI x44) ∧ QR (some (vI x44)) w) ∨ (ck w a41 [4, 6, 7, 8] ∧ 3 ≤ rc ∧ 950 ≤ rs ∧ QX "java/lang/ClassCastException" w)))) ∧ (i1 = 2 → (r0 = none → 1 ≤ rc ∧ 8 ≤ rs ∧ QX "java/lang/NullPointerException" w) ∧ (∀ a49 : Nat, r0 = some a49 → ((ck w a49 [6, 7] ∧ ∃ x52 : Int32, gf w a49 [6, 7] 0 (vI x52) ∧ QR (some (vI x52)) w) ∨ (ck w a49 [4, 5, 8] ∧ 3 ≤ rc ∧ 950 ≤ rs ∧ QX "java/lang/ClassCastException" w)))) ∧ (i1 = 3 → (r0 = none → 1 ≤ rc ∧ 8 ≤ rs ∧ QX "java/lang/NullPointerException" w) ∧ (∀ a57 : Nat, r0 = some a57 → ((ck w a57 [7] ∧ ∃ x60 : Int32, gf w a57 [7] 0 (vI x60) ∧ QR (some (vI x60)) w) ∨ (ck w a57 [4, 5, 6, 8] ∧ 3 ≤ rc ∧ 950 ≤ rs ∧ QX "java/lang/ClassCastException" w)))) ∧ (¬ i1 = 0 → ¬ i1 = 1 → ¬ i1 = 2 → ¬ i1 = 3 → (r0 = none → 1 ≤ rc ∧ 8 ≤ rs ∧ QX "java/lang/NullPointerException" w) ∧ (∀ a65 : Nat, r0 = some a65 → ((ck w a65 [8] ∧ ∃ x68 : Int32, gf w a65 [8] 0 (vI x68) ∧ QR (some (vI x68)) w) ∨ (ck w a65 [4, 5, 6, 7] ∧ 3 ≤ rc ∧ 950 ≤ rs ∧ QX "java/lang/ClassCastException" w))))) : wp (KX0_takenFor) rc rs QR QX 0 [(0, vR r0), (1, vI i1)] [] w := by
  refine wp_iload_n (n := 1) (i := 1) (q := 1) dX0_takenFor_0 rfl rfl rfl ?_
  by_cases e1_0 : i1 = 0
  · replace h := h.1 e1_0
    refine wp_tableIn (t := 32) dX0_takenFor_1 (by rw [e1_0]; decide) (by rw [e1_0]; decide) (off := 31) (by rw [e1_0]; decide) (by decide) ?_
    refine wp_aload_n (n := 33) (i := 0) (q := 0) dX0_takenFor_32 rfl rfl rfl ?_
    rcases opt_c r0 with ea33 | ⟨a33, ea33⟩
    · replace h := h.1 ea33
      rw [ea33]
      refine wp_castN (n := 36) dX0_takenFor_33 rfl ?_
      obtain ⟨b1, b2, h⟩ := h
      refine wp_getfNull (rc' := 0) (rs' := 0) dX0_takenFor_36 (fl_X0_288 4 (by decide)) (by omega) (by omega) (Nat.le_of_ble_eq_true rfl) ?_
      exact wpx_out (fun z hz => absurd hz List.not_mem_nil) h
    · replace h := h.2 a33 ea33
      rw [ea33]
      rcases h with h | h
      · obtain ⟨k33, h⟩ := h
        refine wp_ckY (n := 36) dX0_takenFor_33 rfl q235 cok_Folder k33 ?_
        obtain ⟨x36, g36, h⟩ := h
        refine wp_gf (n := 39) dX0_takenFor_36 rfl fl_X0_288 g36 ?_
        exact wp_ireturn dX0_takenFor_39 rfl h
      · obtain ⟨k33, b1, b2, h⟩ := h
        refine wp_ckX (rc' := 0) (rs' := 0) dX0_takenFor_33 q235 cno_Folder sn_Folder k33 (by omega) (by omega) (Nat.le_of_ble_eq_true rfl) ?_
        exact wpx_out (fun z hz => absurd hz List.not_mem_nil) h
  by_cases e1_1 : i1 = 1
  · replace h := h.2.1 e1_1
    refine wp_tableIn (t := 40) dX0_takenFor_1 (by rw [e1_1]; decide) (by rw [e1_1]; decide) (off := 39) (by rw [e1_1]; decide) (by decide) ?_
    refine wp_aload_n (n := 41) (i := 0) (q := 0) dX0_takenFor_40 rfl rfl rfl ?_
    rcases opt_c r0 with ea41 | ⟨a41, ea41⟩
    · replace h := h.1 ea41
      rw [ea41]
      refine wp_castN (n := 44) dX0_takenFor_41 rfl ?_
      obtain ⟨b1, b2, h⟩ := h
      refine wp_getfNull (rc' := 0) (rs' := 0) dX0_takenFor_44 (fl_X0_289 5 (by decide)) (by omega) (by omega) (Nat.le_of_ble_eq_true rfl) ?_
      exact wpx_out (fun z hz => absurd hz List.not_mem_nil) h
    · replace h := h.2 a41 ea41
      rw [ea41]
      rcases h with h | h
      · obtain ⟨k41, h⟩ := h
        refine wp_ckY (n := 44) dX0_takenFor_41 rfl q296 cok_Bound k41 ?_
        obtain ⟨x44, g44, h⟩ := h
        refine wp_gf (n := 47) dX0_takenFor_44 rfl fl_X0_289 g44 ?_
        exact wp_ireturn dX0_takenFor_47 rfl h
      · obtain ⟨k41, b1, b2, h⟩ := h
        refine wp_ckX (rc' := 0) (rs' := 0) dX0_takenFor_41 q296 cno_Bound sn_Bound k41 (by omega) (by omega) (Nat.le_of_ble_eq_true rfl) ?_
        exact wpx_out (fun z hz => absurd hz List.not_mem_nil) h
  by_cases e1_2 : i1 = 2
  · replace h := h.2.2.1 e1_2
    refine wp_tableIn (t := 48) dX0_takenFor_1 (by rw [e1_2]; decide) (by rw [e1_2]; decide) (off := 47) (by rw [e1_2]; decide) (by decide) ?_
    refine wp_aload_n (n := 49) (i := 0) (q := 0) dX0_takenFor_48 rfl rfl rfl ?_
    rcases opt_c r0 with ea49 | ⟨a49, ea49⟩
    · replace h := h.1 ea49
      rw [ea49]
      refine wp_castN (n := 52) dX0_takenFor_49 rfl ?_
      obtain ⟨b1, b2, h⟩ := h
      refine wp_getfNull (rc' := 0) (rs' := 0) dX0_takenFor_52 (fl_X0_197 6 (by decide)) (by omega) (by omega) (Nat.le_of_ble_eq_true rfl) ?_
      exact wpx_out (fun z hz => absurd hz List.not_mem_nil) h
    · replace h := h.2 a49 ea49
      rw [ea49]
      rcases h with h | h
      · obtain ⟨k49, h⟩ := h
        refine wp_ckY (n := 52) dX0_takenFor_49 rfl q119 cok_Snapshot k49 ?_
        obtain ⟨x52, g52, h⟩ := h
        refine wp_gf (n := 55) dX0_takenFor_52 rfl fl_X0_197 g52 ?_
        exact wp_ireturn dX0_takenFor_55 rfl h
      · obtain ⟨k49, b1, b2, h⟩ := h
        refine wp_ckX (rc' := 0) (rs' := 0) dX0_takenFor_49 q119 cno_Snapshot sn_Snapshot k49 (by omega) (by omega) (Nat.le_of_ble_eq_true rfl) ?_
        exact wpx_out (fun z hz => absurd hz List.not_mem_nil) h
  by_cases e1_3 : i1 = 3
  · replace h := h.2.2.2.1 e1_3
    refine wp_tableIn (t := 56) dX0_takenFor_1 (by rw [e1_3]; decide) (by rw [e1_3]; decide) (off := 55) (by rw [e1_3]; decide) (by decide) ?_
    refine wp_aload_n (n := 57) (i := 0) (q := 0) dX0_takenFor_56 rfl rfl rfl ?_
    rcases opt_c r0 with ea57 | ⟨a57, ea57⟩
    · replace h := h.1 ea57
      rw [ea57]
      refine wp_castN (n := 60) dX0_takenFor_57 rfl ?_
      obtain ⟨b1, b2, h⟩ := h
      refine wp_getfNull (rc' := 0) (rs' := 0) dX0_takenFor_60 (fl_X0_290 7 (by decide)) (by omega) (by omega) (Nat.le_of_ble_eq_true rfl) ?_
      exact wpx_out (fun z hz => absurd hz List.not_mem_nil) h
    · replace h := h.2 a57 ea57
      rw [ea57]
      rcases h with h | h
      · obtain ⟨k57, h⟩ := h
        refine wp_ckY (n := 60) dX0_takenFor_57 rfl q532 cok_Tagged k57 ?_
        obtain ⟨x60, g60, h⟩ := h
        refine wp_gf (n := 63) dX0_takenFor_60 rfl fl_X0_290 g60 ?_
        exact wp_ireturn dX0_takenFor_63 rfl h
      · obtain ⟨k57, b1, b2, h⟩ := h
        refine wp_ckX (rc' := 0) (rs' := 0) dX0_takenFor_57 q532 cno_Tagged sn_Tagged k57 (by omega) (by omega) (Nat.le_of_ble_eq_true rfl) ?_
        exact wpx_out (fun z hz => absurd hz List.not_mem_nil) h
  replace h := h.2.2.2.2 e1_0 e1_1 e1_2 e1_3
  have f1 : i1.toInt < 0 ∨ 3 < i1.toInt := by
    by_cases q1 : i1.toInt < 0
    · exact Or.inl q1
    · by_cases q2 : 3 < i1.toInt
      · exact Or.inr q2
      · exfalso
        have q3 : i1.toInt = 0 ∨ i1.toInt = 1 ∨ i1.toInt = 2 ∨ i1.toInt = 3 := by omega
        rcases q3 with q3 | q3 | q3 | q3
        · exact e1_0 (Int32.toInt_inj.mp (q3.trans (by decide)))
        · exact e1_1 (Int32.toInt_inj.mp (q3.trans (by decide)))
        · exact e1_2 (Int32.toInt_inj.mp (q3.trans (by decide)))
        · exact e1_3 (Int32.toInt_inj.mp (q3.trans (by decide)))
  refine wp_tableOut (t := 64) dX0_takenFor_1 f1 (by decide) ?_
  refine wp_aload_n (n := 65) (i := 0) (q := 0) dX0_takenFor_64 rfl rfl rfl ?_
  rcases opt_c r0 with ea65 | ⟨a65, ea65⟩
  · replace h := h.1 ea65
    rw [ea65]
    refine wp_castN (n := 68) dX0_takenFor_65 rfl ?_
    obtain ⟨b1, b2, h⟩ := h
    refine wp_getfnNull (rc' := 0) (rs' := 0) dX0_takenFor_68 (fl_X0_62 8 (by decide)) (by omega) (by omega) (Nat.le_of_ble_eq_true rfl) ?_
    exact wpx_out (fun z hz => absurd hz List.not_mem_nil) h
  · replace h := h.2 a65 ea65
    rw [ea65]
    rcases h with h | h
    · obtain ⟨k65, h⟩ := h
      refine wp_ckY (n := 68) dX0_takenFor_65 rfl q596 cok_Bookmark k65 ?_
      obtain ⟨x68, g68, h⟩ := h
      refine wp_gfn (n := 71) dX0_takenFor_68 rfl fl_X0_62 g68 ?_
      exact wp_ireturn dX0_takenFor_71 rfl h
    · obtain ⟨k65, b1, b2, h⟩ := h
      refine wp_ckX (rc' := 0) (rs' := 0) dX0_takenFor_65 q596 cno_Bookmark sn_Bookmark k65 (by omega) (by omega) (Nat.le_of_ble_eq_true rfl) ?_
      exact wpx_out (fun z hz => absurd hz List.not_mem_nil) h
set_option maxHeartbeats 1000000 in
theorem sg_X0_taken_0 {h0 : Nat} {i1 : Int32} {i2 : Int32} {rc rs : Nat} {QR : Option aV → aW → Prop} {QX : String → aW → Prop} {w : aW} (h : ct (KX0_in) 0 0 [vL (Int32.toInt64 i2), vL 0, vL 4] w (fun v6 w6 => ∃ x6 : Int32, v6 = some (vI x6) ∧ (¬ x6 = 0 → 1 ≤ rc ∧ 6 ≤ rs ∧ isO w6 h0 0 ∧ ct (KX0_thingAt) 1 6 [vR (some h0), vI i1] w6 (fun v17 w17 => ∃ x17 : Option Nat, v17 = some (vR x17) ∧ 3 ≤ (rc - 1) ∧ 950 ≤ (rs - 6) ∧ ct (KX0_takenFor) 3 950 [vR x17, vI i2] w17 (fun v21 w21 => ∃ x21 : Int32, v21 = some (vI x21) ∧ QR (some (vI x21)) w21) (fun E21 w21 => (E21 = "java/lang/NullPointerException" ∧ QR (some (vI (-11))) w21) ∨ (E21 = "java/lang/ClassCastException" ∧ QR (some (vI (-13))) w21))) (fun E17 w17 => (E17 = "java/lang/IndexOutOfBoundsException" ∧ QR (some (vI (-12))) w17))) ∧ (x6 = 0 → QR (some (vI (-2))) w6)) (fun E6 w6 => False)) : wp (KX0_taken) rc rs QR QX 0 [(0, vR (some h0)), (1, vI i1), (2, vI i2)] [] w := by
  refine wp_iload_n (n := 1) (i := 2) (q := 2) dX0_taken_0 rfl rfl rfl ?_
  refine wp_i2l (n := 2) dX0_taken_1 rfl ?_
  refine wp_lconst (n := 3) (v := 0) dX0_taken_2 rfl (by decide) ?_
  refine wp_ldc2 (n := 6) dX0_taken_3 rfl q782 ?_
  refine wp_call (n := 9) (K' := KX0_in) (rc' := rc) (rs' := rs) (aRun_S (K' := KX0_in) (As := [vL (Int32.toInt64 i2), vL 0, vL 4]) (rest := []) dX0_taken_6 (aCal_of kf_X0_in (Nat.le_of_ble_eq_true rfl)) rfl q228 q229 ar_X0_in rfl (Nat.le_of_ble_eq_true rfl)) rfl (Nat.le_of_eq (Nat.zero_add _)) (Nat.le_of_eq (Nat.zero_add _)) (fun v6 w6 h => ?_) (fun E6 w6 h => ?_) h
  · obtain ⟨x6, rfl, h⟩ := h
    refine wp_if_ne (n := 12) (t := 15) dX0_taken_9 rfl (by decide) (fun c9 => ?_) (fun c9 => ?_)
    · replace h := h.1 c9
      refine wp_aload_n (n := 16) (i := 0) (q := 0) dX0_taken_15 rfl rfl rfl ?_
      refine wp_iload_n (n := 17) (i := 1) (q := 1) dX0_taken_16 rfl rfl rfl ?_
      obtain ⟨b17, bb17, h⟩ := h
      obtain ⟨⟨fs17, o17⟩, h⟩ := h
      refine wp_call (n := 20) (K' := KX0_thingAt) (rc' := rc - 1) (rs' := rs - 6) (aRun_V (K' := KX0_thingAt) (As := [vI i1]) (rest := []) (b := h0) (c0 := .inr (0, fs17)) dX0_taken_17 (aCal_of kf_X0_thingAt (Nat.le_of_ble_eq_true rfl)) q451 q453 qs4 ar_X0_thingAt o17 (by decide : 0 < 9) rfl (Nat.le_of_ble_eq_true rfl)) rfl (by omega) (by omega) (fun v17 w17 h => ?_) (fun E17 w17 h => ?_) h
      · obtain ⟨x17, rfl, h⟩ := h
        refine wp_iload_n (n := 21) (i := 2) (q := 2) dX0_taken_20 rfl rfl rfl ?_
        obtain ⟨b21, bb21, h⟩ := h
        refine wp_call (n := 24) (K' := KX0_takenFor) (rc' := rc - 1 - 3) (rs' := rs - 6 - 950) (aRun_S (K' := KX0_takenFor) (As := [vR x17, vI i2]) (rest := []) dX0_taken_21 (aCal_of kf_X0_takenFor (Nat.le_of_ble_eq_true rfl)) rfl q783 q784 ar_X0_takenFor rfl (Nat.le_of_ble_eq_true rfl)) rfl (by omega) (by omega) (fun v21 w21 h => ?_) (fun E21 w21 h => ?_) h
        · obtain ⟨x21, rfl, h⟩ := h
          exact wp_ireturn dX0_taken_24 rfl h
        · rcases h with h | h
          · obtain ⟨rfl, h⟩ := h
            refine wpx_catch (nm := "java/lang/NullPointerException") [(15, 24, 25, 53)] (15, 24, 29, 169) [(15, 24, 33, 171)] rfl (fun z hz => by have hz : z ∈ ([(15, 24, 25, 53)] : List (Nat × Nat × Nat × Nat)) := hz; simp only [List.mem_cons, List.not_mem_nil, or_false] at hz; subst hz; exact Or.inr ⟨by decide, "java/lang/IndexOutOfBoundsException", q320, nc_NullPointerException_IndexOutOfBoundsException⟩) (by decide) (by decide) q411 q433 (fun q9 => ?_)
            refine wp_astore_n (n := 30) (i := 3) (ls' := [(3, vR (some q9)), (0, vR (some h0)), (1, vI i1), (2, vI i2)]) dX0_taken_29 rfl rfl (Nat.le_of_ble_eq_true rfl) rfl ?_
            refine wp_bipush (n := 32) (v := (-11)) dX0_taken_30 rfl (by decide) ?_
            exact wp_ireturn dX0_taken_32 rfl h
          · obtain ⟨rfl, h⟩ := h
            refine wpx_catch (nm := "java/lang/ClassCastException") [(15, 24, 25, 53), (15, 24, 29, 169)] (15, 24, 33, 171) [] rfl (fun z hz => by have hz : z ∈ ([(15, 24, 25, 53), (15, 24, 29, 169)] : List (Nat × Nat × Nat × Nat)) := hz; simp only [List.mem_cons, List.not_mem_nil, or_false] at hz; rcases hz with rfl | rfl; exact Or.inr ⟨by decide, "java/lang/IndexOutOfBoundsException", q320, nc_ClassCastException_IndexOutOfBoundsException⟩; exact Or.inr ⟨by decide, "java/lang/NullPointerException", q411, nc_ClassCastException_NullPointerException⟩) (by decide) (by decide) q436 q448 (fun q9 => ?_)
            refine wp_astore_n (n := 34) (i := 3) (ls' := [(3, vR (some q9)), (0, vR (some h0)), (1, vI i1), (2, vI i2)]) dX0_taken_33 rfl rfl (Nat.le_of_ble_eq_true rfl) rfl ?_
            refine wp_bipush (n := 36) (v := (-13)) dX0_taken_34 rfl (by decide) ?_
            exact wp_ireturn dX0_taken_36 rfl h
      · obtain ⟨rfl, h⟩ := h
        refine wpx_catch (nm := "java/lang/IndexOutOfBoundsException") [] (15, 24, 25, 53) [(15, 24, 29, 169), (15, 24, 33, 171)] rfl (fun z hz => absurd hz List.not_mem_nil) (by decide) (by decide) q320 q459 (fun q9 => ?_)
        refine wp_astore_n (n := 26) (i := 3) (ls' := [(3, vR (some q9)), (0, vR (some h0)), (1, vI i1), (2, vI i2)]) dX0_taken_25 rfl rfl (Nat.le_of_ble_eq_true rfl) rfl ?_
        refine wp_bipush (n := 28) (v := (-12)) dX0_taken_26 rfl (by decide) ?_
        exact wp_ireturn dX0_taken_28 rfl h
    · replace h := h.2 c9
      refine wp_bipush (n := 14) (v := (-2)) dX0_taken_12 rfl (by decide) ?_
      exact wp_ireturn dX0_taken_14 rfl h
  · exact h.elim
set_option maxHeartbeats 1000000 in
theorem sg_X0_tick_0 {h0 : Nat} {rc rs : Nat} {QR : Option aV → aW → Prop} {QX : String → aW → Prop} {w : aW} (h : ∃ x1 : Int32, gf w h0 [0] 2 (vI x1) ∧ (x1 < 100000 → ∃ x14 : Int32, gf w h0 [0] 2 (vI x14) ∧ pf w h0 [0] 2 (vI (x14 + 1)) (fun w19 => ∃ x23 : Int32, gf w19 h0 [0] 2 (vI x23) ∧ QR (some (vI x23)) w19)) ∧ (¬ x1 < 100000 → QR (some (vI (-3))) w)) : wp (KX0_tick) rc rs QR QX 0 [(0, vR (some h0))] [] w := by
  refine wp_aload_n (n := 1) (i := 0) (q := 0) dX0_tick_0 rfl rfl rfl ?_
  obtain ⟨x1, g1, h⟩ := h
  refine wp_gf (n := 4) dX0_tick_1 rfl fl_X0_16 g1 ?_
  refine wp_ldc (n := 6) dX0_tick_4 rfl q699 ?_
  refine wp_icmp_lt (n := 9) (t := 12) dX0_tick_6 rfl (by decide) (fun c6 => ?_) (fun c6 => ?_)
  · replace h := h.1 c6
    refine wp_aload_n (n := 13) (i := 0) (q := 0) dX0_tick_12 rfl rfl rfl ?_
    refine wp_dup (n := 14) dX0_tick_13 rfl rfl ?_
    obtain ⟨x14, g14, h⟩ := h
    refine wp_gf (n := 17) dX0_tick_14 rfl fl_X0_16 g14 ?_
    refine wp_iconst (n := 18) (v := 1) dX0_tick_17 rfl (by decide) ?_
    refine wp_iadd (n := 19) dX0_tick_18 rfl ?_
    refine wp_pf (n := 22) dX0_tick_19 rfl (pt_X0_16 _) rfl rfl (pf_mono h (fun w19 h => ?_))
    refine wp_aload_n (n := 23) (i := 0) (q := 0) dX0_tick_22 rfl rfl rfl ?_
    obtain ⟨x23, g23, h⟩ := h
    refine wp_gf (n := 26) dX0_tick_23 rfl fl_X0_16 g23 ?_
    exact wp_ireturn dX0_tick_26 rfl h
  · replace h := h.2 c6
    refine wp_bipush (n := 11) (v := (-3)) dX0_tick_9 rfl (by decide) ?_
    exact wp_ireturn dX0_tick_11 rfl h
set_option maxHeartbeats 1000000 in
theorem sg_X0_toldOfMark_0 {i0 : Int32} {rc rs : Nat} {QR : Option aV → aW → Prop} {QX : String → aW → Prop} {w : aW} (h : (i0 = 5 → QR (some (vI 0)) w) ∧ (¬ i0 = 5 → (i0 = 6 → QR (some (vI 0)) w) ∧ (¬ i0 = 6 → (i0 = 7 → QR (some (vI 0)) w) ∧ (¬ i0 = 7 → (¬ i0 = 9 → QR (some (vI (-1))) w) ∧ (i0 = 9 → QR (some (vI 0)) w))))) : wp (KX0_toldOfMark) rc rs QR QX 0 [(0, vI i0)] [] w := by
  refine wp_iload_n (n := 1) (i := 0) (q := 0) dX0_toldOfMark_0 rfl rfl rfl ?_
  refine wp_iconst (n := 2) (v := 5) dX0_toldOfMark_1 rfl (by decide) ?_
  refine wp_icmp_eq (n := 5) (t := 23) dX0_toldOfMark_2 rfl (by decide) (fun c2 => ?_) (fun c2 => ?_)
  · replace h := h.1 c2
    refine wp_iconst (n := 24) (v := 0) dX0_toldOfMark_23 rfl (by decide) ?_
    refine wp_goto (t := 28) dX0_toldOfMark_24 (by decide) ?_
    exact wp_ireturn dX0_toldOfMark_28 rfl h
  · replace h := h.2 c2
    refine wp_iload_n (n := 6) (i := 0) (q := 0) dX0_toldOfMark_5 rfl rfl rfl ?_
    refine wp_bipush (n := 8) (v := 6) dX0_toldOfMark_6 rfl (by decide) ?_
    refine wp_icmp_eq (n := 11) (t := 23) dX0_toldOfMark_8 rfl (by decide) (fun c8 => ?_) (fun c8 => ?_)
    · replace h := h.1 c8
      refine wp_iconst (n := 24) (v := 0) dX0_toldOfMark_23 rfl (by decide) ?_
      refine wp_goto (t := 28) dX0_toldOfMark_24 (by decide) ?_
      exact wp_ireturn dX0_toldOfMark_28 rfl h
    · replace h := h.2 c8
      refine wp_iload_n (n := 12) (i := 0) (q := 0) dX0_toldOfMark_11 rfl rfl rfl ?_
      refine wp_bipush (n := 14) (v := 7) dX0_toldOfMark_12 rfl (by decide) ?_
      refine wp_icmp_eq (n := 17) (t := 23) dX0_toldOfMark_14 rfl (by decide) (fun c14 => ?_) (fun c14 => ?_)
      · replace h := h.1 c14
        refine wp_iconst (n := 24) (v := 0) dX0_toldOfMark_23 rfl (by decide) ?_
        refine wp_goto (t := 28) dX0_toldOfMark_24 (by decide) ?_
        exact wp_ireturn dX0_toldOfMark_28 rfl h
      · replace h := h.2 c14
        refine wp_iload_n (n := 18) (i := 0) (q := 0) dX0_toldOfMark_17 rfl rfl rfl ?_
        refine wp_bipush (n := 20) (v := 9) dX0_toldOfMark_18 rfl (by decide) ?_
        refine wp_icmp_ne (n := 23) (t := 27) dX0_toldOfMark_20 rfl (by decide) (fun c20 => ?_) (fun c20 => ?_)
        · replace h := h.1 c20
          refine wp_iconst (n := 28) (v := (-1)) dX0_toldOfMark_27 rfl (by decide) ?_
          exact wp_ireturn dX0_toldOfMark_28 rfl h
        · replace h := h.2 c20
          refine wp_iconst (n := 24) (v := 0) dX0_toldOfMark_23 rfl (by decide) ?_
          refine wp_goto (t := 28) dX0_toldOfMark_24 (by decide) ?_
          exact wp_ireturn dX0_toldOfMark_28 rfl h
set_option maxHeartbeats 1000000 in
theorem sg_X4_holdsMany_0 {h0 : Nat} {rc rs : Nat} {QR : Option aV → aW → Prop} {QX : String → aW → Prop} {w : aW} (h : wp (KX4_holdsMany) rc rs QR QX 4 [(0, vR (some h0)), (1, vI 0), (2, vI 0)] [] w) : wp (KX4_holdsMany) rc rs QR QX 0 [(0, vR (some h0))] [] w := by
  refine wp_iconst (n := 1) (v := 0) dX4_holdsMany_0 rfl (by decide) ?_
  refine wp_istore_n (n := 2) (i := 1) (ls' := [(1, vI 0), (0, vR (some h0))]) dX4_holdsMany_1 rfl rfl (Nat.le_of_ble_eq_true rfl) rfl ?_
  refine wp_iconst (n := 3) (v := 0) dX4_holdsMany_2 rfl (by decide) ?_
  refine wp_istore_n (n := 4) (i := 2) (ls' := [(2, vI 0), (1, vI 0), (0, vR (some h0))]) dX4_holdsMany_3 rfl rfl (Nat.le_of_ble_eq_true rfl) rfl ?_
  exact wp_sub [2, 1, 0] rfl h
set_option maxHeartbeats 1000000 in
theorem sg_X4_holdsMany_4 {h0 : Nat} {i1 : Int32} {i2 : Int32} {rc rs : Nat} {QR : Option aV → aW → Prop} {QX : String → aW → Prop} {w : aW} (h : (12 ≤ i2 → QR (some (vI i1)) w) ∧ (¬ 12 ≤ i2 → ∃ x12 : Nat, gf w h0 [4, 5, 6, 7] 1 (vR (some x12)) ∧ ∃ x16 : Int32, gI w x12 i2 x16 ∧ (¬ x16 = (-1) → wp (KX4_holdsMany) rc rs QR QX 4 [(0, vR (some h0)), (1, vI (i1 + 1)), (2, vI (i2 + 1))] [] w) ∧ (x16 = (-1) → wp (KX4_holdsMany) rc rs QR QX 4 [(0, vR (some h0)), (1, vI (i1 + 0)), (2, vI (i2 + 1))] [] w))) : wp (KX4_holdsMany) rc rs QR QX 4 [(0, vR (some h0)), (1, vI i1), (2, vI i2)] [] w := by
  refine wp_iload_n (n := 5) (i := 2) (q := 2) dX4_holdsMany_4 rfl rfl rfl ?_
  refine wp_bipush (n := 7) (v := 12) dX4_holdsMany_5 rfl (by decide) ?_
  refine wp_icmp_ge (n := 10) (t := 34) dX4_holdsMany_7 rfl (by decide) (fun c7 => ?_) (fun c7 => ?_)
  · replace h := h.1 c7
    refine wp_iload_n (n := 35) (i := 1) (q := 1) dX4_holdsMany_34 rfl rfl rfl ?_
    exact wp_ireturn dX4_holdsMany_35 rfl h
  · replace h := h.2 c7
    refine wp_iload_n (n := 11) (i := 1) (q := 1) dX4_holdsMany_10 rfl rfl rfl ?_
    refine wp_aload_n (n := 12) (i := 0) (q := 0) dX4_holdsMany_11 rfl rfl rfl ?_
    obtain ⟨x12, g12, h⟩ := h
    refine wp_gf (n := 15) dX4_holdsMany_12 rfl fl_X4_9 g12 ?_
    refine wp_iload_n (n := 16) (i := 2) (q := 2) dX4_holdsMany_15 rfl rfl rfl ?_
    obtain ⟨x16, g16, h⟩ := h
    refine wp_gI (n := 17) dX4_holdsMany_16 rfl g16 ?_
    refine wp_iconst (n := 18) (v := (-1)) dX4_holdsMany_17 rfl (by decide) ?_
    refine wp_icmp_ne (n := 21) (t := 25) dX4_holdsMany_18 rfl (by decide) (fun c18 => ?_) (fun c18 => ?_)
    · replace h := h.1 c18
      refine wp_iconst (n := 26) (v := 1) dX4_holdsMany_25 rfl (by decide) ?_
      refine wp_iadd (n := 27) dX4_holdsMany_26 rfl ?_
      refine wp_istore_n (n := 28) (i := 1) (ls' := [(1, vI (i1 + 1)), (0, vR (some h0)), (2, vI i2)]) dX4_holdsMany_27 rfl rfl (Nat.le_of_ble_eq_true rfl) rfl ?_
      refine wp_iinc (n := 31) (i := 2) (q := 2) (v := i2 + 1) (ls' := [(2, vI (i2 + 1)), (1, vI (i1 + 1)), (0, vR (some h0))]) dX4_holdsMany_28 rfl rfl rfl (Nat.le_of_ble_eq_true rfl) rfl ?_
      refine wp_goto (t := 4) dX4_holdsMany_31 (by decide) ?_
      exact wp_sub [2, 1, 0] rfl h
    · replace h := h.2 c18
      refine wp_iconst (n := 22) (v := 0) dX4_holdsMany_21 rfl (by decide) ?_
      refine wp_goto (t := 26) dX4_holdsMany_22 (by decide) ?_
      refine wp_iadd (n := 27) dX4_holdsMany_26 rfl ?_
      refine wp_istore_n (n := 28) (i := 1) (ls' := [(1, vI (i1 + 0)), (0, vR (some h0)), (2, vI i2)]) dX4_holdsMany_27 rfl rfl (Nat.le_of_ble_eq_true rfl) rfl ?_
      refine wp_iinc (n := 31) (i := 2) (q := 2) (v := i2 + 1) (ls' := [(2, vI (i2 + 1)), (1, vI (i1 + 0)), (0, vR (some h0))]) dX4_holdsMany_28 rfl rfl rfl (Nat.le_of_ble_eq_true rfl) rfl ?_
      refine wp_goto (t := 4) dX4_holdsMany_31 (by decide) ?_
      exact wp_sub [2, 1, 0] rfl h
set_option maxHeartbeats 1000000 in
theorem sg_X4_quota_0 {h0 : Nat} {rc rs : Nat} {QR : Option aV → aW → Prop} {QX : String → aW → Prop} {w : aW} (h : QR (some (vI (-1))) w) : wp (KX4_quota) rc rs QR QX 0 [(0, vR (some h0))] [] w := by
  refine wp_iconst (n := 1) (v := (-1)) dX4_quota_0 rfl (by decide) ?_
  exact wp_ireturn dX4_quota_1 rfl h
set_option maxHeartbeats 1000000 in
theorem sg_X6_quota_0 {h0 : Nat} {rc rs : Nat} {QR : Option aV → aW → Prop} {QX : String → aW → Prop} {w : aW} (h : ∃ x1 : Int32, gf w h0 [5] 6 (vI x1) ∧ QR (some (vI x1)) w) : wp (KX6_quota) rc rs QR QX 0 [(0, vR (some h0))] [] w := by
  refine wp_aload_n (n := 1) (i := 0) (q := 0) dX6_quota_0 rfl rfl rfl ?_
  obtain ⟨x1, g1, h⟩ := h
  refine wp_gf (n := 4) dX6_quota_1 rfl fl_X6_7 g1 ?_
  exact wp_ireturn dX6_quota_4 rfl h
set_option maxHeartbeats 1000000 in
theorem sg_X0_toldOf_0 {h0 : Nat} {r1 : Option Nat} {i2 : Int32} {rc rs : Nat} {QR : Option aV → aW → Prop} {QX : String → aW → Prop} {w : aW} (h : (i2 = 2 → ∃ a45 : Nat, r1 = some a45 ∧ ∃ x45 : Option Nat, gf w a45 [4, 5, 6, 7] 5 (vR x45) ∧ ct (KX0_numberOf) 0 0 [vR x45] w (fun v48 w48 => ∃ x48 : Int32, v48 = some (vI x48) ∧ QR (some (vI x48)) w48) (fun E48 w48 => False)) ∧ (i2 = 3 → (r1 = none → QR (some (vI (-1))) w) ∧ (∀ a53 : Nat, r1 = some a53 → ((ck w a53 [6, 7] ∧ ck w a53 [6, 7] ∧ ∃ x63 : Nat, gf w a53 [6, 7] 6 (vR (some x63)) ∧ ∃ x66 : Int32, gf w x63 [4, 5] 4 (vI x66) ∧ QR (some (vI x66)) w) ∨ (ck w a53 [4, 5, 8] ∧ QR (some (vI (-1))) w)))) ∧ (i2 = 4 → (r1 = none → QR (some (vI (-1))) w) ∧ (∀ a75 : Nat, r1 = some a75 → ((ck w a75 [4, 5] ∧ ck w a75 [4, 5] ∧ 1 ≤ rc ∧ 8 ≤ rs ∧ ct (KX0_originOf) 1 8 [vR (some a75)] w (fun v85 w85 => ∃ x85 : Option Nat, v85 = some (vR x85) ∧ ct (KX0_numberOf) 0 0 [vR x85] w85 (fun v88 w88 => ∃ x88 : Int32, v88 = some (vI x88) ∧ QR (some (vI x88)) w88) (fun E88 w88 => False)) (fun E85 w85 => (E85 = "java/lang/NullPointerException" ∧ QX "java/lang/NullPointerException" w85))) ∨ (ck w a75 [6, 7, 8] ∧ QR (some (vI (-1))) w)))) ∧ (i2 = 5 → (r1 = none → QR (some (vI 0)) w) ∧ (∀ a97 : Nat, r1 = some a97 → ((ck w a97 [6, 7] ∧ ck w a97 [6, 7] ∧ isO w h0 0 ∧ ct (KX0_nextMany) 0 0 [vR (some h0), vR (some a97)] w (fun v108 w108 => ∃ x108 : Int32, v108 = some (vI x108) ∧ QR (some (vI x108)) w108) (fun E108 w108 => False)) ∨ (ck w a97 [4, 5, 8] ∧ QR (some (vI 0)) w)))) ∧ (i2 = 6 → ∃ a117 : Nat, r1 = some a117 ∧ ck w a117 [4, 5, 6, 7] ∧ ct (KX4_holdsMany) 0 0 [vR (some a117)] w (fun v117 w117 => ∃ x117 : Int32, v117 = some (vI x117) ∧ QR (some (vI x117)) w117) (fun E117 w117 => False)) ∧ (i2 = 7 → ∃ a122 : Nat, r1 = some a122 ∧ ((ck w a122 [4, 5, 6] ∧ ct (KX4_tags) 0 0 [vR (some a122)] w (fun v122 w122 => ∃ x122 : Int32, v122 = some (vI x122) ∧ QR (some (vI x122)) w122) (fun E122 w122 => False)) ∨ (isO w a122 7 ∧ ct (KX8_tags) 0 0 [vR (some a122)] w (fun v122 w122 => ∃ x122 : Int32, v122 = some (vI x122) ∧ QR (some (vI x122)) w122) (fun E122 w122 => False)))) ∧ (i2 = 8 → ∃ a127 : Nat, r1 = some a127 ∧ ((ck w a127 [4, 6, 7] ∧ ct (KX4_quota) 0 0 [vR (some a127)] w (fun v127 w127 => ∃ x127 : Int32, v127 = some (vI x127) ∧ QR (some (vI x127)) w127) (fun E127 w127 => False)) ∨ (isO w a127 5 ∧ ct (KX6_quota) 0 0 [vR (some a127)] w (fun v127 w127 => ∃ x127 : Int32, v127 = some (vI x127) ∧ QR (some (vI x127)) w127) (fun E127 w127 => False)))) ∧ (¬ i2 = 2 → ¬ i2 = 3 → ¬ i2 = 4 → ¬ i2 = 5 → ¬ i2 = 6 → ¬ i2 = 7 → ¬ i2 = 8 → (r1 = none → QR (some (vI 0)) w) ∧ (∀ a132 : Nat, r1 = some a132 → ((ck w a132 [4, 5] ∧ ck w a132 [4, 5] ∧ isO w h0 0 ∧ ct (KX0_ownMany) 0 0 [vR (some h0), vR (some a132)] w (fun v143 w143 => ∃ x143 : Int32, v143 = some (vI x143) ∧ QR (some (vI x143)) w143) (fun E143 w143 => False)) ∨ (ck w a132 [6, 7, 8] ∧ QR (some (vI 0)) w))))) : wp (KX0_toldOf) rc rs QR QX 0 [(0, vR (some h0)), (1, vR r1), (2, vI i2)] [] w := by
  refine wp_iload_n (n := 1) (i := 2) (q := 2) dX0_toldOf_0 rfl rfl rfl ?_
  by_cases e1_0 : i2 = 2
  · replace h := h.1 e1_0
    refine wp_tableIn (t := 44) dX0_toldOf_1 (by rw [e1_0]; decide) (by rw [e1_0]; decide) (off := 43) (by rw [e1_0]; decide) (by decide) ?_
    refine wp_aload_n (n := 45) (i := 1) (q := 1) dX0_toldOf_44 rfl rfl rfl ?_
    obtain ⟨a45, ea45, h⟩ := h
    rw [ea45]
    obtain ⟨x45, g45, h⟩ := h
    refine wp_gf (n := 48) dX0_toldOf_45 rfl fl_X0_88 g45 ?_
    refine wp_call (n := 51) (K' := KX0_numberOf) (rc' := rc) (rs' := rs) (aRun_S (K' := KX0_numberOf) (As := [vR x45]) (rest := []) dX0_toldOf_48 (aCal_of kf_X0_numberOf (Nat.le_of_ble_eq_true rfl)) rfl q734 q735 ar_X0_numberOf rfl (Nat.le_of_ble_eq_true rfl)) rfl (Nat.le_of_eq (Nat.zero_add _)) (Nat.le_of_eq (Nat.zero_add _)) (fun v48 w48 h => ?_) (fun E48 w48 h => ?_) h
    · obtain ⟨x48, rfl, h⟩ := h
      exact wp_ireturn dX0_toldOf_51 rfl h
    · exact h.elim
  by_cases e1_1 : i2 = 3
  · replace h := h.2.1 e1_1
    refine wp_tableIn (t := 52) dX0_toldOf_1 (by rw [e1_1]; decide) (by rw [e1_1]; decide) (off := 51) (by rw [e1_1]; decide) (by decide) ?_
    refine wp_aload_n (n := 53) (i := 1) (q := 1) dX0_toldOf_52 rfl rfl rfl ?_
    rcases opt_c r1 with ea53 | ⟨a53, ea53⟩
    · replace h := h.1 ea53
      rw [ea53]
      refine wp_instN (n := 56) dX0_toldOf_53 rfl ?_
      refine wp_if_eq (n := 59) (t := 72) dX0_toldOf_56 rfl (by decide) (fun _ => ?_) (fun z => absurd z (by decide))
      refine wp_iconst (n := 73) (v := (-1)) dX0_toldOf_72 rfl (by decide) ?_
      exact wp_ireturn dX0_toldOf_73 rfl h
    · replace h := h.2 a53 ea53
      rw [ea53]
      rcases h with h | h
      · obtain ⟨k53, h⟩ := h
        refine wp_ciY (n := 56) dX0_toldOf_53 rfl q119 cok_Snapshot k53 ?_
        refine wp_if_eq (n := 59) (t := 72) dX0_toldOf_56 rfl (by decide) (fun z => absurd z (by decide)) (fun _ => ?_)
        refine wp_aload_n (n := 60) (i := 1) (q := 1) dX0_toldOf_59 rfl rfl rfl ?_
        obtain ⟨k60, h⟩ := h
        refine wp_ckY (n := 63) dX0_toldOf_60 rfl q119 cok_Snapshot k60 ?_
        obtain ⟨x63, g63, h⟩ := h
        refine wp_gf (n := 66) dX0_toldOf_63 rfl fl_X0_95 g63 ?_
        obtain ⟨x66, g66, h⟩ := h
        refine wp_gf (n := 69) dX0_toldOf_66 rfl fl_X0_177 g66 ?_
        refine wp_goto (t := 73) dX0_toldOf_69 (by decide) ?_
        exact wp_ireturn dX0_toldOf_73 rfl h
      · obtain ⟨k53, h⟩ := h
        refine wp_ciX (n := 56) dX0_toldOf_53 rfl q119 cno_Snapshot k53 ?_
        refine wp_if_eq (n := 59) (t := 72) dX0_toldOf_56 rfl (by decide) (fun _ => ?_) (fun z => absurd z (by decide))
        refine wp_iconst (n := 73) (v := (-1)) dX0_toldOf_72 rfl (by decide) ?_
        exact wp_ireturn dX0_toldOf_73 rfl h
  by_cases e1_2 : i2 = 4
  · replace h := h.2.2.1 e1_2
    refine wp_tableIn (t := 74) dX0_toldOf_1 (by rw [e1_2]; decide) (by rw [e1_2]; decide) (off := 73) (by rw [e1_2]; decide) (by decide) ?_
    refine wp_aload_n (n := 75) (i := 1) (q := 1) dX0_toldOf_74 rfl rfl rfl ?_
    rcases opt_c r1 with ea75 | ⟨a75, ea75⟩
    · replace h := h.1 ea75
      rw [ea75]
      refine wp_instN (n := 78) dX0_toldOf_75 rfl ?_
      refine wp_if_eq (n := 81) (t := 94) dX0_toldOf_78 rfl (by decide) (fun _ => ?_) (fun z => absurd z (by decide))
      refine wp_iconst (n := 95) (v := (-1)) dX0_toldOf_94 rfl (by decide) ?_
      exact wp_ireturn dX0_toldOf_95 rfl h
    · replace h := h.2 a75 ea75
      rw [ea75]
      rcases h with h | h
      · obtain ⟨k75, h⟩ := h
        refine wp_ciY (n := 78) dX0_toldOf_75 rfl q235 cok_Folder k75 ?_
        refine wp_if_eq (n := 81) (t := 94) dX0_toldOf_78 rfl (by decide) (fun z => absurd z (by decide)) (fun _ => ?_)
        refine wp_aload_n (n := 82) (i := 1) (q := 1) dX0_toldOf_81 rfl rfl rfl ?_
        obtain ⟨k82, h⟩ := h
        refine wp_ckY (n := 85) dX0_toldOf_82 rfl q235 cok_Folder k82 ?_
        obtain ⟨b85, bb85, h⟩ := h
        refine wp_call (n := 88) (K' := KX0_originOf) (rc' := rc - 1) (rs' := rs - 8) (aRun_S (K' := KX0_originOf) (As := [vR (some a75)]) (rest := []) dX0_toldOf_85 (aCal_of kf_X0_originOf (Nat.le_of_ble_eq_true rfl)) rfl q684 q685 ar_X0_originOf rfl (Nat.le_of_ble_eq_true rfl)) rfl (by omega) (by omega) (fun v85 w85 h => ?_) (fun E85 w85 h => ?_) h
        · obtain ⟨x85, rfl, h⟩ := h
          refine wp_call (n := 91) (K' := KX0_numberOf) (rc' := rc - 1) (rs' := rs - 8) (aRun_S (K' := KX0_numberOf) (As := [vR x85]) (rest := []) dX0_toldOf_88 (aCal_of kf_X0_numberOf (Nat.le_of_ble_eq_true rfl)) rfl q734 q735 ar_X0_numberOf rfl (Nat.le_of_ble_eq_true rfl)) rfl (Nat.le_of_eq (Nat.zero_add _)) (Nat.le_of_eq (Nat.zero_add _)) (fun v88 w88 h => ?_) (fun E88 w88 h => ?_) h
          · obtain ⟨x88, rfl, h⟩ := h
            refine wp_goto (t := 95) dX0_toldOf_91 (by decide) ?_
            exact wp_ireturn dX0_toldOf_95 rfl h
          · exact h.elim
        · obtain ⟨rfl, h⟩ := h
          exact wpx_out (fun z hz => absurd hz List.not_mem_nil) h
      · obtain ⟨k75, h⟩ := h
        refine wp_ciX (n := 78) dX0_toldOf_75 rfl q235 cno_Folder k75 ?_
        refine wp_if_eq (n := 81) (t := 94) dX0_toldOf_78 rfl (by decide) (fun _ => ?_) (fun z => absurd z (by decide))
        refine wp_iconst (n := 95) (v := (-1)) dX0_toldOf_94 rfl (by decide) ?_
        exact wp_ireturn dX0_toldOf_95 rfl h
  by_cases e1_3 : i2 = 5
  · replace h := h.2.2.2.1 e1_3
    refine wp_tableIn (t := 96) dX0_toldOf_1 (by rw [e1_3]; decide) (by rw [e1_3]; decide) (off := 95) (by rw [e1_3]; decide) (by decide) ?_
    refine wp_aload_n (n := 97) (i := 1) (q := 1) dX0_toldOf_96 rfl rfl rfl ?_
    rcases opt_c r1 with ea97 | ⟨a97, ea97⟩
    · replace h := h.1 ea97
      rw [ea97]
      refine wp_instN (n := 100) dX0_toldOf_97 rfl ?_
      refine wp_if_eq (n := 103) (t := 114) dX0_toldOf_100 rfl (by decide) (fun _ => ?_) (fun z => absurd z (by decide))
      refine wp_iconst (n := 115) (v := 0) dX0_toldOf_114 rfl (by decide) ?_
      exact wp_ireturn dX0_toldOf_115 rfl h
    · replace h := h.2 a97 ea97
      rw [ea97]
      rcases h with h | h
      · obtain ⟨k97, h⟩ := h
        refine wp_ciY (n := 100) dX0_toldOf_97 rfl q119 cok_Snapshot k97 ?_
        refine wp_if_eq (n := 103) (t := 114) dX0_toldOf_100 rfl (by decide) (fun z => absurd z (by decide)) (fun _ => ?_)
        refine wp_aload_n (n := 104) (i := 0) (q := 0) dX0_toldOf_103 rfl rfl rfl ?_
        refine wp_aload_n (n := 105) (i := 1) (q := 1) dX0_toldOf_104 rfl rfl rfl ?_
        obtain ⟨k105, h⟩ := h
        refine wp_ckY (n := 108) dX0_toldOf_105 rfl q119 cok_Snapshot k105 ?_
        obtain ⟨⟨fs108, o108⟩, h⟩ := h
        refine wp_call (n := 111) (K' := KX0_nextMany) (rc' := rc) (rs' := rs) (aRun_V (K' := KX0_nextMany) (As := [vR (some a97)]) (rest := []) (b := h0) (c0 := .inr (0, fs108)) dX0_toldOf_108 (aCal_of kf_X0_nextMany (Nat.le_of_ble_eq_true rfl)) q651 q653 qs20 ar_X0_nextMany o108 (by decide : 0 < 9) rfl (Nat.le_of_ble_eq_true rfl)) rfl (Nat.le_of_eq (Nat.zero_add _)) (Nat.le_of_eq (Nat.zero_add _)) (fun v108 w108 h => ?_) (fun E108 w108 h => ?_) h
        · obtain ⟨x108, rfl, h⟩ := h
          refine wp_goto (t := 115) dX0_toldOf_111 (by decide) ?_
          exact wp_ireturn dX0_toldOf_115 rfl h
        · exact h.elim
      · obtain ⟨k97, h⟩ := h
        refine wp_ciX (n := 100) dX0_toldOf_97 rfl q119 cno_Snapshot k97 ?_
        refine wp_if_eq (n := 103) (t := 114) dX0_toldOf_100 rfl (by decide) (fun _ => ?_) (fun z => absurd z (by decide))
        refine wp_iconst (n := 115) (v := 0) dX0_toldOf_114 rfl (by decide) ?_
        exact wp_ireturn dX0_toldOf_115 rfl h
  by_cases e1_4 : i2 = 6
  · replace h := h.2.2.2.2.1 e1_4
    refine wp_tableIn (t := 116) dX0_toldOf_1 (by rw [e1_4]; decide) (by rw [e1_4]; decide) (off := 115) (by rw [e1_4]; decide) (by decide) ?_
    refine wp_aload_n (n := 117) (i := 1) (q := 1) dX0_toldOf_116 rfl rfl rfl ?_
    obtain ⟨a117, ea117, h⟩ := h
    rw [ea117]
    obtain ⟨⟨cc117, o117, kk117⟩, h⟩ := h
    have run117 : aRun (KX0_toldOf) (KX4_holdsMany) 117 [vR (some a117)] [vR (some a117)] [] w := by
      simp only [List.mem_cons, List.not_mem_nil, or_false] at kk117
      rcases kk117 with kk117 | kk117 | kk117 | kk117
      · obtain ⟨fs117, rfl⟩ := kd_o kk117 (by decide)
        exact (aRun_U (K' := KX4_holdsMany) (As := []) (rest := []) (b := a117) (x := ⟨"DeadListPool$Holder", "holdsMany", "()I"⟩) (owner := "DeadListPool$Holder") (c0 := .inr (4, fs117)) dX0_toldOf_117 (aCal_of kf_X4_holdsMany (Nat.le_of_ble_eq_true rfl)) rfl q737 q739 q741 q738 (Or.inl ⟨_, _, _, q738, q744⟩) ⟨by decide, by decide⟩ ar_X4_holdsMany o117 (by decide : 4 < 9) rfl (Nat.le_of_ble_eq_true rfl))
      · obtain ⟨fs117, rfl⟩ := kd_o kk117 (by decide)
        exact (aRun_U (K' := KX4_holdsMany) (As := []) (rest := []) (b := a117) (x := ⟨"DeadListPool$Holder", "holdsMany", "()I"⟩) (owner := "DeadListPool$Holder") (c0 := .inr (5, fs117)) dX0_toldOf_117 (aCal_of kf_X4_holdsMany (Nat.le_of_ble_eq_true rfl)) rfl q737 q739 q740 q738 (Or.inl ⟨_, _, _, q738, q744⟩) ⟨by decide, by decide⟩ ar_X4_holdsMany o117 (by decide : 5 < 9) rfl (Nat.le_of_ble_eq_true rfl))
      · obtain ⟨fs117, rfl⟩ := kd_o kk117 (by decide)
        exact (aRun_U (K' := KX4_holdsMany) (As := []) (rest := []) (b := a117) (x := ⟨"DeadListPool$Holder", "holdsMany", "()I"⟩) (owner := "DeadListPool$Holder") (c0 := .inr (6, fs117)) dX0_toldOf_117 (aCal_of kf_X4_holdsMany (Nat.le_of_ble_eq_true rfl)) rfl q737 q739 q742 q738 (Or.inl ⟨_, _, _, q738, q744⟩) ⟨by decide, by decide⟩ ar_X4_holdsMany o117 (by decide : 6 < 9) rfl (Nat.le_of_ble_eq_true rfl))
      · obtain ⟨fs117, rfl⟩ := kd_o kk117 (by decide)
        exact (aRun_U (K' := KX4_holdsMany) (As := []) (rest := []) (b := a117) (x := ⟨"DeadListPool$Holder", "holdsMany", "()I"⟩) (owner := "DeadListPool$Holder") (c0 := .inr (7, fs117)) dX0_toldOf_117 (aCal_of kf_X4_holdsMany (Nat.le_of_ble_eq_true rfl)) rfl q737 q739 q743 q738 (Or.inl ⟨_, _, _, q738, q744⟩) ⟨by decide, by decide⟩ ar_X4_holdsMany o117 (by decide : 7 < 9) rfl (Nat.le_of_ble_eq_true rfl))
    refine wp_call (n := 120) (K' := KX4_holdsMany) (rc' := rc) (rs' := rs) run117 rfl (Nat.le_of_eq (Nat.zero_add _)) (Nat.le_of_eq (Nat.zero_add _)) (fun v117 w117 h => ?_) (fun E117 w117 h => ?_) h
    · obtain ⟨x117, rfl, h⟩ := h
      exact wp_ireturn dX0_toldOf_120 rfl h
    · exact h.elim
  by_cases e1_5 : i2 = 7
  · replace h := h.2.2.2.2.2.1 e1_5
    refine wp_tableIn (t := 121) dX0_toldOf_1 (by rw [e1_5]; decide) (by rw [e1_5]; decide) (off := 120) (by rw [e1_5]; decide) (by decide) ?_
    refine wp_aload_n (n := 122) (i := 1) (q := 1) dX0_toldOf_121 rfl rfl rfl ?_
    obtain ⟨a122, ea122, h⟩ := h
    rw [ea122]
    rcases h with h | h
    · obtain ⟨⟨cc122, o122, kk122⟩, h⟩ := h
      have run122 : aRun (KX0_toldOf) (KX4_tags) 122 [vR (some a122)] [vR (some a122)] [] w := by
        simp only [List.mem_cons, List.not_mem_nil, or_false] at kk122
        rcases kk122 with kk122 | kk122 | kk122
        · obtain ⟨fs122, rfl⟩ := kd_o kk122 (by decide)
          exact (aRun_U (K' := KX4_tags) (As := []) (rest := []) (b := a122) (x := ⟨"DeadListPool$Holder", "tags", "()I"⟩) (owner := "DeadListPool$Holder") (c0 := .inr (4, fs122)) dX0_toldOf_122 (aCal_of kf_X4_tags (Nat.le_of_ble_eq_true rfl)) rfl q745 q1383 q1385 q649 (Or.inr q646) ⟨by decide, by decide⟩ ar_X4_tags o122 (by decide : 4 < 9) rfl (Nat.le_of_ble_eq_true rfl))
        · obtain ⟨fs122, rfl⟩ := kd_o kk122 (by decide)
          exact (aRun_U (K' := KX4_tags) (As := []) (rest := []) (b := a122) (x := ⟨"DeadListPool$Holder", "tags", "()I"⟩) (owner := "DeadListPool$Holder") (c0 := .inr (5, fs122)) dX0_toldOf_122 (aCal_of kf_X4_tags (Nat.le_of_ble_eq_true rfl)) rfl q745 q1383 q1384 q649 (Or.inr q646) ⟨by decide, by decide⟩ ar_X4_tags o122 (by decide : 5 < 9) rfl (Nat.le_of_ble_eq_true rfl))
        · obtain ⟨fs122, rfl⟩ := kd_o kk122 (by decide)
          exact (aRun_U (K' := KX4_tags) (As := []) (rest := []) (b := a122) (x := ⟨"DeadListPool$Holder", "tags", "()I"⟩) (owner := "DeadListPool$Holder") (c0 := .inr (6, fs122)) dX0_toldOf_122 (aCal_of kf_X4_tags (Nat.le_of_ble_eq_true rfl)) rfl q745 q1383 q1386 q649 (Or.inr q646) ⟨by decide, by decide⟩ ar_X4_tags o122 (by decide : 6 < 9) rfl (Nat.le_of_ble_eq_true rfl))
      refine wp_call (n := 125) (K' := KX4_tags) (rc' := rc) (rs' := rs) run122 rfl (Nat.le_of_eq (Nat.zero_add _)) (Nat.le_of_eq (Nat.zero_add _)) (fun v122 w122 h => ?_) (fun E122 w122 h => ?_) h
      · obtain ⟨x122, rfl, h⟩ := h
        exact wp_ireturn dX0_toldOf_125 rfl h
      · exact h.elim
    · obtain ⟨⟨fs122, o122⟩, h⟩ := h
      refine wp_call (n := 125) (K' := KX8_tags) (rc' := rc) (rs' := rs) (aRun_U (K' := KX8_tags) (As := []) (rest := []) (b := a122) (x := ⟨"DeadListPool$Holder", "tags", "()I"⟩) (owner := "DeadListPool$Holder") (c0 := .inr (7, fs122)) dX0_toldOf_122 (aCal_of kf_X8_tags (Nat.le_of_ble_eq_true rfl)) rfl q745 q1383 q1387 q585 (Or.inr q646) ⟨by decide, by decide⟩ ar_X8_tags o122 (by decide : 7 < 9) rfl (Nat.le_of_ble_eq_true rfl)) rfl (Nat.le_of_eq (Nat.zero_add _)) (Nat.le_of_eq (Nat.zero_add _)) (fun v122 w122 h => ?_) (fun E122 w122 h => ?_) h
      · obtain ⟨x122, rfl, h⟩ := h
        exact wp_ireturn dX0_toldOf_125 rfl h
      · exact h.elim
  by_cases e1_6 : i2 = 8
  · replace h := h.2.2.2.2.2.2.1 e1_6
    refine wp_tableIn (t := 126) dX0_toldOf_1 (by rw [e1_6]; decide) (by rw [e1_6]; decide) (off := 125) (by rw [e1_6]; decide) (by decide) ?_
    refine wp_aload_n (n := 127) (i := 1) (q := 1) dX0_toldOf_126 rfl rfl rfl ?_
    obtain ⟨a127, ea127, h⟩ := h
    rw [ea127]
    rcases h with h | h
    · obtain ⟨⟨cc127, o127, kk127⟩, h⟩ := h
      have run127 : aRun (KX0_toldOf) (KX4_quota) 127 [vR (some a127)] [vR (some a127)] [] w := by
        simp only [List.mem_cons, List.not_mem_nil, or_false] at kk127
        rcases kk127 with kk127 | kk127 | kk127
        · obtain ⟨fs127, rfl⟩ := kd_o kk127 (by decide)
          exact (aRun_U (K' := KX4_quota) (As := []) (rest := []) (b := a127) (x := ⟨"DeadListPool$Holder", "quota", "()I"⟩) (owner := "DeadListPool$Holder") (c0 := .inr (4, fs127)) dX0_toldOf_127 (aCal_of kf_X4_quota (Nat.le_of_ble_eq_true rfl)) rfl q746 q748 q752 q747 (Or.inl ⟨_, _, _, q747, q755⟩) ⟨by decide, by decide⟩ ar_X4_quota o127 (by decide : 4 < 9) rfl (Nat.le_of_ble_eq_true rfl))
        · obtain ⟨fs127, rfl⟩ := kd_o kk127 (by decide)
          exact (aRun_U (K' := KX4_quota) (As := []) (rest := []) (b := a127) (x := ⟨"DeadListPool$Holder", "quota", "()I"⟩) (owner := "DeadListPool$Holder") (c0 := .inr (6, fs127)) dX0_toldOf_127 (aCal_of kf_X4_quota (Nat.le_of_ble_eq_true rfl)) rfl q746 q748 q753 q747 (Or.inl ⟨_, _, _, q747, q755⟩) ⟨by decide, by decide⟩ ar_X4_quota o127 (by decide : 6 < 9) rfl (Nat.le_of_ble_eq_true rfl))
        · obtain ⟨fs127, rfl⟩ := kd_o kk127 (by decide)
          exact (aRun_U (K' := KX4_quota) (As := []) (rest := []) (b := a127) (x := ⟨"DeadListPool$Holder", "quota", "()I"⟩) (owner := "DeadListPool$Holder") (c0 := .inr (7, fs127)) dX0_toldOf_127 (aCal_of kf_X4_quota (Nat.le_of_ble_eq_true rfl)) rfl q746 q748 q754 q747 (Or.inl ⟨_, _, _, q747, q755⟩) ⟨by decide, by decide⟩ ar_X4_quota o127 (by decide : 7 < 9) rfl (Nat.le_of_ble_eq_true rfl))
      refine wp_call (n := 130) (K' := KX4_quota) (rc' := rc) (rs' := rs) run127 rfl (Nat.le_of_eq (Nat.zero_add _)) (Nat.le_of_eq (Nat.zero_add _)) (fun v127 w127 h => ?_) (fun E127 w127 h => ?_) h
      · obtain ⟨x127, rfl, h⟩ := h
        exact wp_ireturn dX0_toldOf_130 rfl h
      · exact h.elim
    · obtain ⟨⟨fs127, o127⟩, h⟩ := h
      refine wp_call (n := 130) (K' := KX6_quota) (rc' := rc) (rs' := rs) (aRun_U (K' := KX6_quota) (As := []) (rest := []) (b := a127) (x := ⟨"DeadListPool$Holder", "quota", "()I"⟩) (owner := "DeadListPool$Holder") (c0 := .inr (5, fs127)) dX0_toldOf_127 (aCal_of kf_X6_quota (Nat.le_of_ble_eq_true rfl)) rfl q746 q748 q749 q750 (Or.inl ⟨_, _, _, q747, q755⟩) ⟨by decide, by decide⟩ ar_X6_quota o127 (by decide : 5 < 9) rfl (Nat.le_of_ble_eq_true rfl)) rfl (Nat.le_of_eq (Nat.zero_add _)) (Nat.le_of_eq (Nat.zero_add _)) (fun v127 w127 h => ?_) (fun E127 w127 h => ?_) h
      · obtain ⟨x127, rfl, h⟩ := h
        exact wp_ireturn dX0_toldOf_130 rfl h
      · exact h.elim
  replace h := h.2.2.2.2.2.2.2 e1_0 e1_1 e1_2 e1_3 e1_4 e1_5 e1_6
  have f1 : i2.toInt < 2 ∨ 8 < i2.toInt := by
    by_cases q1 : i2.toInt < 2
    · exact Or.inl q1
    · by_cases q2 : 8 < i2.toInt
      · exact Or.inr q2
      · exfalso
        have q3 : i2.toInt = 2 ∨ i2.toInt = 3 ∨ i2.toInt = 4 ∨ i2.toInt = 5 ∨ i2.toInt = 6 ∨ i2.toInt = 7 ∨ i2.toInt = 8 := by omega
        rcases q3 with q3 | q3 | q3 | q3 | q3 | q3 | q3
        · exact e1_0 (Int32.toInt_inj.mp (q3.trans (by decide)))
        · exact e1_1 (Int32.toInt_inj.mp (q3.trans (by decide)))
        · exact e1_2 (Int32.toInt_inj.mp (q3.trans (by decide)))
        · exact e1_3 (Int32.toInt_inj.mp (q3.trans (by decide)))
        · exact e1_4 (Int32.toInt_inj.mp (q3.trans (by decide)))
        · exact e1_5 (Int32.toInt_inj.mp (q3.trans (by decide)))
        · exact e1_6 (Int32.toInt_inj.mp (q3.trans (by decide)))
  refine wp_tableOut (t := 131) dX0_toldOf_1 f1 (by decide) ?_
  refine wp_aload_n (n := 132) (i := 1) (q := 1) dX0_toldOf_131 rfl rfl rfl ?_
  rcases opt_c r1 with ea132 | ⟨a132, ea132⟩
  · replace h := h.1 ea132
    rw [ea132]
    refine wp_instN (n := 135) dX0_toldOf_132 rfl ?_
    refine wp_if_eq (n := 138) (t := 149) dX0_toldOf_135 rfl (by decide) (fun _ => ?_) (fun z => absurd z (by decide))
    refine wp_iconst (n := 150) (v := 0) dX0_toldOf_149 rfl (by decide) ?_
    exact wp_ireturn dX0_toldOf_150 rfl h
  · replace h := h.2 a132 ea132
    rw [ea132]
    rcases h with h | h
    · obtain ⟨k132, h⟩ := h
      refine wp_ciY (n := 135) dX0_toldOf_132 rfl q235 cok_Folder k132 ?_
      refine wp_if_eq (n := 138) (t := 149) dX0_toldOf_135 rfl (by decide) (fun z => absurd z (by decide)) (fun _ => ?_)
      refine wp_aload_n (n := 139) (i := 0) (q := 0) dX0_toldOf_138 rfl rfl rfl ?_
      refine wp_aload_n (n := 140) (i := 1) (q := 1) dX0_toldOf_139 rfl rfl rfl ?_
      obtain ⟨k140, h⟩ := h
      refine wp_ckY (n := 143) dX0_toldOf_140 rfl q235 cok_Folder k140 ?_
      obtain ⟨⟨fs143, o143⟩, h⟩ := h
      refine wp_call (n := 146) (K' := KX0_ownMany) (rc' := rc) (rs' := rs) (aRun_V (K' := KX0_ownMany) (As := [vR (some a132)]) (rest := []) (b := h0) (c0 := .inr (0, fs143)) dX0_toldOf_143 (aCal_of kf_X0_ownMany (Nat.le_of_ble_eq_true rfl)) q628 q630 qs16 ar_X0_ownMany o143 (by decide : 0 < 9) rfl (Nat.le_of_ble_eq_true rfl)) rfl (Nat.le_of_eq (Nat.zero_add _)) (Nat.le_of_eq (Nat.zero_add _)) (fun v143 w143 h => ?_) (fun E143 w143 h => ?_) h
      · obtain ⟨x143, rfl, h⟩ := h
        refine wp_goto (t := 150) dX0_toldOf_146 (by decide) ?_
        exact wp_ireturn dX0_toldOf_150 rfl h
      · exact h.elim
    · obtain ⟨k132, h⟩ := h
      refine wp_ciX (n := 135) dX0_toldOf_132 rfl q235 cno_Folder k132 ?_
      refine wp_if_eq (n := 138) (t := 149) dX0_toldOf_135 rfl (by decide) (fun _ => ?_) (fun z => absurd z (by decide))
      refine wp_iconst (n := 150) (v := 0) dX0_toldOf_149 rfl (by decide) ?_
      exact wp_ireturn dX0_toldOf_150 rfl h
set_option maxHeartbeats 1000000 in
theorem sg_X0_told_0 {h0 : Nat} {i1 : Int32} {i2 : Int32} {rc rs : Nat} {QR : Option aV → aW → Prop} {QX : String → aW → Prop} {w : aW} (h : ct (KX0_in) 0 0 [vL (Int32.toInt64 i2), vL 0, vL 9] w (fun v6 w6 => ∃ x6 : Int32, v6 = some (vI x6) ∧ (¬ x6 = 0 → ct (KX0_in) 0 0 [vL (Int32.toInt64 i1), vL 0, vL 19] w6 (fun v21 w21 => ∃ x21 : Int32, v21 = some (vI x21) ∧ (¬ x21 = 0 → ∃ x31 : Nat, gf w21 h0 [0] 4 (vR (some x31)) ∧ ∃ x35 : Option Nat, gR w21 x31 2 i1 x35 ∧ (x35 = none → QR (some (vI (-11))) w21) ∧ (∀ a38 : Nat, x35 = some a38 → (2 ≤ i2 → ((ck w21 a38 [8] ∧ ct (KX0_toldOfMark) 0 0 [vI i2] w21 (fun v73 w73 => ∃ x73 : Int32, v73 = some (vI x73) ∧ QR (some (vI x73)) w73) (fun E73 w73 => False)) ∨ (ck w21 a38 [4, 5, 6, 7] ∧ ck w21 a38 [4, 5, 6, 7] ∧ 1 ≤ rc ∧ 8 ≤ rs ∧ isO w21 h0 0 ∧ ct (KX0_toldOf) 1 8 [vR (some h0), vR (some a38), vI i2] w21 (fun v85 w85 => ∃ x85 : Int32, v85 = some (vI x85) ∧ QR (some (vI x85)) w85) (fun E85 w85 => False)))) ∧ (¬ 2 ≤ i2 → (¬ i2 = 0 → ct (KX0_madeOf) 0 0 [vR (some a38)] w21 (fun v61 w61 => ∃ x61 : Int32, v61 = some (vI x61) ∧ QR (some (vI x61)) w61) (fun E61 w61 => False)) ∧ (i2 = 0 → ct (KX0_kindOf) 0 0 [vR (some a38)] w21 (fun v54 w54 => ∃ x54 : Int32, v54 = some (vI x54) ∧ QR (some (vI x54)) w54) (fun E54 w54 => False))))) ∧ (x21 = 0 → QR (some (vI (-12))) w21)) (fun E21 w21 => False)) ∧ (x6 = 0 → QR (some (vI (-2))) w6)) (fun E6 w6 => False)) : wp (KX0_told) rc rs QR QX 0 [(0, vR (some h0)), (1, vI i1), (2, vI i2)] [] w := by
  refine wp_iload_n (n := 1) (i := 2) (q := 2) dX0_told_0 rfl rfl rfl ?_
  refine wp_i2l (n := 2) dX0_told_1 rfl ?_
  refine wp_lconst (n := 3) (v := 0) dX0_told_2 rfl (by decide) ?_
  refine wp_ldc2 (n := 6) dX0_told_3 rfl q583 ?_
  refine wp_call (n := 9) (K' := KX0_in) (rc' := rc) (rs' := rs) (aRun_S (K' := KX0_in) (As := [vL (Int32.toInt64 i2), vL 0, vL 9]) (rest := []) dX0_told_6 (aCal_of kf_X0_in (Nat.le_of_ble_eq_true rfl)) rfl q228 q229 ar_X0_in rfl (Nat.le_of_ble_eq_true rfl)) rfl (Nat.le_of_eq (Nat.zero_add _)) (Nat.le_of_eq (Nat.zero_add _)) (fun v6 w6 h => ?_) (fun E6 w6 h => ?_) h
  · obtain ⟨x6, rfl, h⟩ := h
    refine wp_if_ne (n := 12) (t := 15) dX0_told_9 rfl (by decide) (fun c9 => ?_) (fun c9 => ?_)
    · replace h := h.1 c9
      refine wp_iload_n (n := 16) (i := 1) (q := 1) dX0_told_15 rfl rfl rfl ?_
      refine wp_i2l (n := 17) dX0_told_16 rfl ?_
      refine wp_lconst (n := 18) (v := 0) dX0_told_17 rfl (by decide) ?_
      refine wp_ldc2 (n := 21) dX0_told_18 rfl q623 ?_
      refine wp_call (n := 24) (K' := KX0_in) (rc' := rc) (rs' := rs) (aRun_S (K' := KX0_in) (As := [vL (Int32.toInt64 i1), vL 0, vL 19]) (rest := []) dX0_told_21 (aCal_of kf_X0_in (Nat.le_of_ble_eq_true rfl)) rfl q228 q229 ar_X0_in rfl (Nat.le_of_ble_eq_true rfl)) rfl (Nat.le_of_eq (Nat.zero_add _)) (Nat.le_of_eq (Nat.zero_add _)) (fun v21 w21 h => ?_) (fun E21 w21 h => ?_) h
      · obtain ⟨x21, rfl, h⟩ := h
        refine wp_if_ne (n := 27) (t := 30) dX0_told_24 rfl (by decide) (fun c24 => ?_) (fun c24 => ?_)
        · replace h := h.1 c24
          refine wp_aload_n (n := 31) (i := 0) (q := 0) dX0_told_30 rfl rfl rfl ?_
          obtain ⟨x31, g31, h⟩ := h
          refine wp_gf (n := 34) dX0_told_31 rfl fl_X0_20 g31 ?_
          refine wp_iload_n (n := 35) (i := 1) (q := 1) dX0_told_34 rfl rfl rfl ?_
          obtain ⟨x35, g35, h⟩ := h
          refine wp_gR (n := 36) dX0_told_35 rfl (by decide) g35 ?_
          refine wp_astore_n (n := 37) (i := 3) (ls' := [(3, vR x35), (0, vR (some h0)), (1, vI i1), (2, vI i2)]) dX0_told_36 rfl rfl (Nat.le_of_ble_eq_true rfl) rfl ?_
          refine wp_aload_n (n := 38) (i := 3) (q := 0) dX0_told_37 rfl rfl rfl ?_
          rcases opt_c x35 with ea38 | ⟨a38, ea38⟩
          · replace h := h.1 ea38
            rw [ea38]
            refine wp_ifnonnull (n := 41) (t := 44) dX0_told_38 rfl (by decide) (fun z zz => nomatch zz) (fun _ => ?_)
            refine wp_bipush (n := 43) (v := (-11)) dX0_told_41 rfl (by decide) ?_
            exact wp_ireturn dX0_told_43 rfl h
          · replace h := h.2 a38 ea38
            rw [ea38]
            refine wp_ifnonnull (n := 41) (t := 44) dX0_told_38 rfl (by decide) (fun _ _ => ?_) (fun zz => nomatch zz)
            refine wp_iload_n (n := 45) (i := 2) (q := 3) dX0_told_44 rfl rfl rfl ?_
            refine wp_iconst (n := 46) (v := 2) dX0_told_45 rfl (by decide) ?_
            refine wp_icmp_ge (n := 49) (t := 65) dX0_told_46 rfl (by decide) (fun c46 => ?_) (fun c46 => ?_)
            · replace h := h.1 c46
              refine wp_aload_n (n := 66) (i := 3) (q := 0) dX0_told_65 rfl rfl rfl ?_
              rcases h with h | h
              · obtain ⟨k66, h⟩ := h
                refine wp_ciY (n := 69) dX0_told_66 rfl q596 cok_Bookmark k66 ?_
                refine wp_if_eq (n := 72) (t := 79) dX0_told_69 rfl (by decide) (fun z => absurd z (by decide)) (fun _ => ?_)
                refine wp_iload_n (n := 73) (i := 2) (q := 3) dX0_told_72 rfl rfl rfl ?_
                refine wp_call (n := 76) (K' := KX0_toldOfMark) (rc' := rc) (rs' := rs) (aRun_S (K' := KX0_toldOfMark) (As := [vI i2]) (rest := []) dX0_told_73 (aCal_of kf_X0_toldOfMark (Nat.le_of_ble_eq_true rfl)) rfl q727 q728 ar_X0_toldOfMark rfl (Nat.le_of_ble_eq_true rfl)) rfl (Nat.le_of_eq (Nat.zero_add _)) (Nat.le_of_eq (Nat.zero_add _)) (fun v73 w73 h => ?_) (fun E73 w73 h => ?_) h
                · obtain ⟨x73, rfl, h⟩ := h
                  refine wp_goto (t := 88) dX0_told_76 (by decide) ?_
                  exact wp_ireturn dX0_told_88 rfl h
                · exact h.elim
              · obtain ⟨k66, h⟩ := h
                refine wp_ciX (n := 69) dX0_told_66 rfl q596 cno_Bookmark k66 ?_
                refine wp_if_eq (n := 72) (t := 79) dX0_told_69 rfl (by decide) (fun _ => ?_) (fun z => absurd z (by decide))
                refine wp_aload_n (n := 80) (i := 0) (q := 1) dX0_told_79 rfl rfl rfl ?_
                refine wp_aload_n (n := 81) (i := 3) (q := 0) dX0_told_80 rfl rfl rfl ?_
                obtain ⟨k81, h⟩ := h
                refine wp_ckY (n := 84) dX0_told_81 rfl q659 cok_Holder k81 ?_
                refine wp_iload_n (n := 85) (i := 2) (q := 3) dX0_told_84 rfl rfl rfl ?_
                obtain ⟨b85, bb85, h⟩ := h
                obtain ⟨⟨fs85, o85⟩, h⟩ := h
                refine wp_call (n := 88) (K' := KX0_toldOf) (rc' := rc - 1) (rs' := rs - 8) (aRun_V (K' := KX0_toldOf) (As := [vR (some a38), vI i2]) (rest := []) (b := h0) (c0 := .inr (0, fs85)) dX0_told_85 (aCal_of kf_X0_toldOf (Nat.le_of_ble_eq_true rfl)) q730 q732 qs27 ar_X0_toldOf o85 (by decide : 0 < 9) rfl (Nat.le_of_ble_eq_true rfl)) rfl (by omega) (by omega) (fun v85 w85 h => ?_) (fun E85 w85 h => ?_) h
                · obtain ⟨x85, rfl, h⟩ := h
                  exact wp_ireturn dX0_told_88 rfl h
                · exact h.elim
            · replace h := h.2 c46
              refine wp_iload_n (n := 50) (i := 2) (q := 3) dX0_told_49 rfl rfl rfl ?_
              refine wp_if_ne (n := 53) (t := 60) dX0_told_50 rfl (by decide) (fun c50 => ?_) (fun c50 => ?_)
              · replace h := h.1 c50
                refine wp_aload_n (n := 61) (i := 3) (q := 0) dX0_told_60 rfl rfl rfl ?_
                refine wp_call (n := 64) (K' := KX0_madeOf) (rc' := rc) (rs' := rs) (aRun_S (K' := KX0_madeOf) (As := [vR (some a38)]) (rest := []) dX0_told_61 (aCal_of kf_X0_madeOf (Nat.le_of_ble_eq_true rfl)) rfl q724 q725 ar_X0_madeOf rfl (Nat.le_of_ble_eq_true rfl)) rfl (Nat.le_of_eq (Nat.zero_add _)) (Nat.le_of_eq (Nat.zero_add _)) (fun v61 w61 h => ?_) (fun E61 w61 h => ?_) h
                · obtain ⟨x61, rfl, h⟩ := h
                  exact wp_ireturn dX0_told_64 rfl h
                · exact h.elim
              · replace h := h.2 c50
                refine wp_aload_n (n := 54) (i := 3) (q := 0) dX0_told_53 rfl rfl rfl ?_
                refine wp_call (n := 57) (K' := KX0_kindOf) (rc' := rc) (rs' := rs) (aRun_S (K' := KX0_kindOf) (As := [vR (some a38)]) (rest := []) dX0_told_54 (aCal_of kf_X0_kindOf (Nat.le_of_ble_eq_true rfl)) rfl q704 q705 ar_X0_kindOf rfl (Nat.le_of_ble_eq_true rfl)) rfl (Nat.le_of_eq (Nat.zero_add _)) (Nat.le_of_eq (Nat.zero_add _)) (fun v54 w54 h => ?_) (fun E54 w54 h => ?_) h
                · obtain ⟨x54, rfl, h⟩ := h
                  refine wp_goto (t := 64) dX0_told_57 (by decide) ?_
                  exact wp_ireturn dX0_told_64 rfl h
                · exact h.elim
        · replace h := h.2 c24
          refine wp_bipush (n := 29) (v := (-12)) dX0_told_27 rfl (by decide) ?_
          exact wp_ireturn dX0_told_29 rfl h
      · exact h.elim
    · replace h := h.2 c9
      refine wp_bipush (n := 14) (v := (-2)) dX0_told_12 rfl (by decide) ?_
      exact wp_ireturn dX0_told_14 rfl h
  · exact h.elim
