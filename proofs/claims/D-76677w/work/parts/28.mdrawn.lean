/-! ===== the reference: apply, by lot, images ===== -/
set_option maxRecDepth 100000
theorem MS.tr {m0 m1 m2 : MT} {P Q : PT} {S T : ST} (h : MS m0 P S m1) (k : MS m1 Q T m2) : MS m0 Q T m2 := ⟨k.1, k.2.1, k.2.2.1.trans h.2.2.1, k.2.2.2.trans h.2.2.2⟩
noncomputable def o_app (P : PT) (t : Nat) (sl sz : Int64) : Int32 × PT := if sl < 0 ∨ 11 < sl ∨ sz < 0 ∨ 1000000000 < sz then (0, P) else if sz = 0 then (1, (o_erased P t sl.toInt32.toNatClampNeg).2) else (if (o_written P t sl.toInt32.toNatClampNeg sz.toInt32).1 < 0 then 0 else 1, (o_written P t sl.toInt32.toNatClampNeg sz.toInt32).2)
noncomputable def apS (t : Nat) (F : Nat → Int64) : Nat → Nat → Nat → PT → Nat × PT
  | 0, _, c, P => (c, P)
  | j + 1, i, c, P => apS t F j (i + 2) (c + (if (o_app P t (F i) (F (i + 1))).1 = 0 then 0 else 1)) (o_app P t (F i) (F (i + 1))).2
noncomputable def o_apply (P : PT) (S : ST) (x s sort : Int32) : Int32 × PT := if inI s 0 3 ∧ inI sort 0 1 then (if ask P x 0 = 0 then (if S.1 s.toNatClampNeg = -1 then (-11, P) else if S.1 s.toNatClampNeg = sort then (if (S.2.1 s.toNatClampNeg).toNatClampNeg % 2 = 1 then -12 else nI (apS x.toNatClampNeg (S.2.2 s.toNatClampNeg) ((S.2.1 s.toNatClampNeg).toNatClampNeg / 2) 0 0 P).1, (apS x.toNatClampNeg (S.2.2 s.toNatClampNeg) ((S.2.1 s.toNatClampNeg).toNatClampNeg / 2) 0 0 P).2) else (-13, P)) else (ask P x 0, P)) else (-2, P)
theorem i64_n {l : Int64} (h1 : ¬ l < 0) (h2 : ¬ 11 < l) : ∃ k : Nat, k ≤ 11 ∧ l.toInt32 = nI k := by
  rw [Int64.lt_iff_toInt_lt] at h1 h2
  have e1 : (0 : Int64).toInt = 0 := by decide
  have e2 : (11 : Int64).toInt = 11 := by decide
  rw [e1] at h1
  rw [e2] at h2
  refine ⟨l.toInt.toNat, by omega, ?_⟩
  apply Int32.toInt_inj.mp
  rw [Int64.toInt_toInt32, nI_toInt (by omega), Int.toNat_of_nonneg (by omega)]
  apply Int.bmod_eq_of_le <;> omega
theorem SO.gc {P : PT} (h : SO P) : SO (gcP P) := h
theorem SO.written {P : PT} (h : SO P) {t k : Nat} {sz : Int32} : SO (o_written P t k sz).2 := by
  by_cases c : lB P = 96 ∨ ovr P t k sz
  · rw [o_written_f c]
    exact h
  · rw [o_written_w c]
    have : lB P < 96 := by
      have := lB_le P
      have : ¬ lB P = 96 := fun z => c (Or.inl z)
      omega
    exact (h.wr this).gc
theorem SO.app {P : PT} (h : SO P) {t : Nat} {sl sz : Int64} : SO (o_app P t sl sz).2 := by
  unfold o_app
  split
  · exact h
  · split
    · exact h.er.gc
    · exact h.written
theorem odd_e : ∀ N : Fin 41, ((nI N.val - nI N.val / 2 * 2) = 1 ↔ N.val % 2 = 1) := by decide +kernel
/-! the lot: behind a choice, so that nothing unfolds it -/
theorem nx_x : ∃ f : Int32 → Int32, ∀ z, f z = (z * 1103515245) + 12345 := ⟨fun z => (z * 1103515245) + 12345, fun _ => rfl⟩
noncomputable def nx : Int32 → Int32 := Classical.choose nx_x
theorem nx_e (z : Int32) : nx z = (z * 1103515245) + 12345 := Classical.choose_spec nx_x z
theorem lv_x : ∃ f : Int32 → Int32, ∀ x, f x = ((x.toUInt32 >>> (Int32.toUInt32 9 &&& Int32.toUInt32 31)).toInt32) - ((x.toUInt32 >>> (Int32.toUInt32 9 &&& Int32.toUInt32 31)).toInt32) / 24 * 24 := ⟨fun x => ((x.toUInt32 >>> (Int32.toUInt32 9 &&& Int32.toUInt32 31)).toInt32) - ((x.toUInt32 >>> (Int32.toUInt32 9 &&& Int32.toUInt32 31)).toInt32) / 24 * 24, fun _ => rfl⟩
noncomputable def lv : Int32 → Int32 := Classical.choose lv_x
theorem lv_e (x : Int32) : lv x = ((x.toUInt32 >>> (Int32.toUInt32 9 &&& Int32.toUInt32 31)).toInt32) - ((x.toUInt32 >>> (Int32.toUInt32 9 &&& Int32.toUInt32 31)).toInt32) / 24 * 24 := Classical.choose_spec lv_x x
def rm (y k : Int32) : Int32 := y - y / k * k
noncomputable def o_draws (P : PT) (x y z : Int32) : PT :=
  if ¬ 8 ≤ x then (o_write P (rm y 20) (rm z 12) (1 + y)).2 else if ¬ 11 ≤ x then (o_erase P (rm y 20) (rm z 12)).2 else if ¬ 15 ≤ x then (o_snap P (rm y 20) (z / 20)).2 else if ¬ 19 ≤ x then (o_remove P (rm y 20)).2
  else if ¬ 21 ≤ x then (o_fork P (rm y 20)).2 else if x = 21 then (o_promote P (chl P (rm y 20).toNatClampNeg) (rm y 20)).2 else if x = 22 then (o_rollback P (rm y 20)).2 else (o_files P (-1)).2
noncomputable def drS : Nat → PT → Int32 → PT
  | 0, P, _ => P
  | k + 1, P, z => drS k (o_draws P (lv (nx z)) (lv (nx (nx z))) (lv (nx (nx (nx z))))) (nx (nx (nx z)))
theorem drS_s (k : Nat) (P : PT) (z : Int32) : drS (k + 1) P z = drS k (o_draws P (lv (nx z)) (lv (nx (nx z))) (lv (nx (nx (nx z))))) (nx (nx (nx z))) := rfl
/-- what the walks ask of a state -/
def good (P : PT) : Prop := SO P ∧ PO P ∧ (∀ t, t < 20 → ¬ P_prev P t = nI t) ∧ ∀ t, t < 20 → hK (P_kind P t) → Ch P (P_prev P t) (chl P t)
noncomputable def r_drawn (P : PT) (seed n what : Int32) : Int64 := if inI n 0 60 ∧ inI what 0 3 then (if what = 0 then (nI (nTh (drS n.toNatClampNeg P seed))).toInt64 else if what = 1 then (nI (nBk (drS n.toNatClampNeg P seed))).toInt64 else if what = 2 then (P_freed (drS n.toNatClampNeg P seed) - P_freed P).toInt64 else sm (szs (drS n.toNatClampNeg P seed)) 96) else NOL
theorem Enc.pt {s s' : Nat → Int32} {P : PT} (h : Enc s P) (e : ∀ i, i < 554 → s' i = s i) : Enc s' P := by
  obtain ⟨a1, a2, a3, a4, a5, a6, a7, a8, a9, a10, a11⟩ := h
  refine ⟨(e _ (by omega)).trans a1, (e _ (by omega)).trans a2, fun j hj => (e _ (by omega)).trans (a3 j hj), fun j hj => (e _ (by omega)).trans (a4 j hj), fun j hj => (e _ (by omega)).trans (a5 j hj), fun j hj => (e _ (by omega)).trans (a6 j hj), fun j hj => (e _ (by omega)).trans (a7 j hj), fun j hj => (e _ (by omega)).trans (a8 j hj), fun j i hj hi => (e _ (by omega)).trans (a9 j i hj hi), fun j hj => (e _ (by omega)).trans (a10 j hj), fun j hj => (e _ (by omega)).trans (a11 j hj)⟩
section MX
variable {g : GT} {w : aW} {P : PT} {S : ST} {m0 m : MT} {QR : Option aV → aW → Prop} {QX : String → aW → Prop} {rc rs : Nat}
theorem c_X3_isApplied (hV : V (G_M_ g m) w) (hM : MR m0 P m) (hO : SO P) {t : Nat} (ht : t < 20) {sl sz : Int64} (h : ∀ m' w', V (G_M_ g m') w' → MR m0 (o_app P t sl sz).2 m' → QR (some (vI (o_app P t sl sz).1)) w') : ct KX3_isApplied 0 0 [vR (some (g_m g)), vI (nI t), vL sl, vL sz] w QR QX := by
  have h0 := h m w hV
  unfold o_app at h h0
  refine st_X3_isApplied (sg_X3_isApplied_0 ⟨fun c => ?_, fun c1 => ⟨fun c => ?_, fun c2 => ⟨fun c => ?_, fun c3 => ⟨fun c4 => ⟨fun c5 => ⟨hV.mO, ?_⟩, fun c5 => ⟨hV.mO, ?_⟩⟩, fun c => ?_⟩⟩⟩⟩)
  · rw [if_pos (Or.inl c)] at h0
    exact h0 hM
  · rw [if_pos (Or.inr (Or.inl c))] at h0
    exact h0 hM
  · rw [if_pos (Or.inr (Or.inr (Or.inl c)))] at h0
    exact h0 hM
  · have hn : ¬ (sl < 0 ∨ 11 < sl ∨ sz < 0 ∨ 1000000000 < sz) := by
      rintro (z | z | z | z)
      · exact c1 z
      · exact c2 z
      · exact c3 z
      · exact c4 z
    rw [if_neg hn, if_neg c5] at h
    obtain ⟨k, hk, e⟩ := i64_n c1 c2
    rw [e] at h ⊢
    rw [nI_clamp (by omega)] at h
    refine c_X3_written hV hM hO ht (by omega) (fun m' w' h1 M1 => ⟨_, rfl, fun c => ?_, fun c => ?_⟩)
    · have := h m' w' h1 M1
      rwa [if_pos c] at this
    · have := h m' w' h1 M1
      rwa [if_neg c] at this
  · have hn : ¬ (sl < 0 ∨ 11 < sl ∨ sz < 0 ∨ 1000000000 < sz) := by
      rintro (z | z | z | z)
      · exact c1 z
      · exact c2 z
      · exact c3 z
      · exact c4 z
    rw [if_neg hn, if_pos c5] at h
    obtain ⟨k, hk, e⟩ := i64_n c1 c2
    rw [e] at h ⊢
    rw [nI_clamp (by omega)] at h
    exact c_X3_erased hV hM hO ht (by omega) (fun m' w' h1 M1 => ⟨_, rfl, h m' w' h1 M1⟩)
  · rw [if_pos (Or.inr (Or.inr (Or.inr c)))] at h0
    exact h0 hM
theorem lp_apply {t s N : Nat} (ht : t < 20) (hs : s < 4) (hN : N ≤ 40) (hSn : S.2.1 s = nI N) {i3 i4 : Int32} : ∀ j i c P m1 w1, 2 * j + i + (N % 2) = N → i % 2 = 0 → SO P → V (G_M_ g m1) w1 → MS m0 P S m1 → (∀ m' w', V (G_M_ g m') w' → MS m0 (apS t (S.2.2 s) j i c P).2 S m' → QR (some (vI (if N % 2 = 1 then -12 else nI (apS t (S.2.2 s) j i c P).1))) w') → wp KX3_apply rc rs QR QX 77 [(0, vR (some (g_m g))), (1, vI (nI t)), (2, vI (nI s)), (3, vI i3), (4, vI i4), (5, vI (nI c)), (6, vI (nI i))] [] w1 := by
  intro j
  induction j with
  | zero =>
    intro i c P m1 w1 hj hi hO hV hM h
    have gn := g_sn hV hM.2.1 hs
    rw [hSn] at gn
    have ho := odd_e ⟨N, by omega⟩
    refine sg_X3_apply_77 ⟨_, hV.mf_msizes, _, gn, fun _ => ⟨_, hV.mf_msizes, _, gn, fun c2 => ?_, fun c2 => ?_⟩, fun c2 => ?_⟩
    · have := h m1 w1 hV hM
      rwa [if_neg (fun z => c2 (ho.mpr z))] at this
    · have := h m1 w1 hV hM
      rwa [if_pos (ho.mp c2)] at this
    · rw [nI_1] at c2
      exact absurd (nI_le (by omega) (by omega)) c2
  | succ j ih =>
    intro i c P m1 w1 hj hi hO hV hM h
    have gn := g_sn hV hM.2.1 hs
    rw [hSn] at gn
    refine sg_X3_apply_77 ⟨_, hV.mf_msizes, _, gn, fun c2 => ?_, fun _ => ⟨_, hV.mf_items, _, g_item hV hM.2.1 hs (by omega) (ix_item s i), _, hV.mf_items, _, g_item hV hM.2.1 hs (by omega) (ix_item1 s i), hV.mO, c_X3_isApplied (m0 := m1) hV (MR.rf hM.1) hO ht (fun m2 w2 h2 M2 => ⟨_, rfl, fun c3 => ?_, fun c3 => ?_⟩)⟩⟩
    · rw [nI_1] at c2
      exact absurd c2 (nI_ge (by omega) (by omega))
    · have e : apS t (S.2.2 s) (j + 1) i c P = apS t (S.2.2 s) j (i + 2) c (o_app P t (S.2.2 s i) (S.2.2 s (i + 1))).2 := by
        show apS t (S.2.2 s) j (i + 2) (c + (if _ then 0 else 1)) _ = _
        rw [if_pos c3]
        rfl
      rw [e] at h
      rw [i_0, nI_2]
      exact ih (i + 2) c _ m2 w2 (by omega) (by omega) hO.app h2 (hM.tr (M2.1.ms hM.2.1)) h
    · have e : apS t (S.2.2 s) (j + 1) i c P = apS t (S.2.2 s) j (i + 2) (c + 1) (o_app P t (S.2.2 s i) (S.2.2 s (i + 1))).2 := by
        show apS t (S.2.2 s) j (i + 2) (c + (if _ then 0 else 1)) _ = _
        rw [if_neg c3]
      rw [e] at h
      rw [nI_1, nI_2]
      exact ih (i + 2) (c + 1) _ m2 w2 (by omega) (by omega) hO.app h2 (hM.tr (M2.1.ms hM.2.1)) h
theorem c_X3_apply (hV : V (G_M_ g m) w) (hM : MS m0 P S m) (hO : SO P) (hS : SV S) {x s sort : Int32} (h : ∀ m' w', V (G_M_ g m') w' → MS m0 (o_apply P S x s sort).2 S m' → QR (some (vI (o_apply P S x s sort).1)) w') : ct KX3_apply 0 0 [vR (some (g_m g)), vI x, vI s, vI sort] w QR QX := by
  have h0 := h m w hV
  unfold o_apply at h h0
  refine st_X3_apply (sg_X3_apply_0 (c_X3_isSheet ⟨_, rfl, fun c => ?_, fun c => c_X3_in ⟨_, rfl, fun c2 => ⟨hV.mO, c_X3_asked hV hM.1 ⟨_, rfl, fun c3 => ?_, fun c3 => ?_⟩⟩, fun c2 => ?_⟩⟩))
  · rw [if_neg (fun z => b2i_0.mp c z.1)] at h0
    exact h0 hM
  · have c1 := b2i_n0.mp c
    have c4 := b2i_n0.mp c2
    obtain ⟨s, hs, rfl⟩ := inI_n (H := 3) c1 rfl rfl (by decide)
    obtain ⟨t, ht, rfl, hk⟩ := (ask_0 (by decide)).mp c3
    have hs4 : s < 4 := by omega
    rw [if_pos ⟨c1, c4⟩, if_pos c3, nI_clamp (by omega), nI_clamp (by omega)] at h h0
    have gs1 := g_sort hV hM.2.1 hs4
    refine ⟨_, hV.mf_sorts, _, gs1, fun c5 => ⟨_, hV.mf_sorts, _, gs1, fun c6 => absurd c5 c6, fun _ => ?_⟩, fun c5 => ⟨_, hV.mf_sorts, _, gs1, fun c6 => ⟨_, hV.mf_sorts, _, gs1, fun _ => ?_, fun c7 => absurd c7 c5⟩, fun c6 => ?_⟩⟩
    · rw [if_pos c5] at h0
      exact h0 hM
    · obtain ⟨N, hN, en⟩ := hS.at hs4 c5
      rw [if_neg c5, if_pos c6, en, nI_clamp (by omega)] at h
      exact lp_apply ht hs4 hN en (N / 2) 0 0 P m w (by omega) rfl hO hV hM h
    · rw [if_neg c5, if_neg c6] at h0
      exact h0 hM
  · rw [if_pos ⟨b2i_n0.mp c, b2i_n0.mp c2⟩, if_neg c3] at h0
    exact h0 hM
  · rw [if_neg (fun z => b2i_0.mp c2 z.2)] at h0
    exact h0 hM
theorem c_X3_lots (hV : V (G_M_ g m) w) (h : ∀ w', V (G_M_ g (M_lot_ m (nx (M_lot m)))) w' → QR (some (vI (lv (nx (M_lot m))))) w') : ct KX3_lots 0 0 [vR (some (g_m g))] w QR QX :=
  by
  rw [lv_e, nx_e] at h
  exact st_X3_lots (sg_X3_lots_0 ⟨_, hV.mf_lot, hV.mpf_lot (fun w' h' => ⟨_, h'.mf_lot, h w' h'⟩)⟩)
theorem c_X3_draws (hV : V (G_M_ g m) w) (hM : MR m0 P m) (hg : good P) {x y z : Int32} (h : ∀ m' w', V (G_M_ g m') w' → MR m0 (o_draws P x y z) m' → QR none w') : ct KX3_draws 0 0 [vR (some (g_m g)), vI x, vI y, vI z] w QR QX := by
  obtain ⟨hO, hP, hne, hch⟩ := hg
  have hC : ∀ t, t < 20 → rm y 20 = nI t → fK (P_kind P t) → Ch P (P_prev P t) (chl P (rm y 20).toNatClampNeg) := by
    intro t ht e hk
    rw [e, nI_clamp (by omega)]
    exact hch t ht (Or.inl hk)
  unfold o_draws at h
  refine st_X3_draws (sg_X3_draws_0 ⟨fun c1 => ⟨fun c2 => ⟨fun c3 => ⟨fun c4 => ⟨fun c5 => ⟨fun c6 => ⟨fun c7 => ⟨hV.mO, c_X3_files hV hM (fun m' w' h1 M1 => ⟨_, rfl, h m' w' h1 ?_⟩)⟩, fun c7 => ⟨hV.mO, c_X3_rollback (x := rm y 20) hV hM hO hP (fun m' w' h1 M1 => ⟨_, rfl, h m' w' h1 ?_⟩)⟩⟩, fun c6 => ⟨hV.mO, c_X3_promote (x := rm y 20) hV hM hC (fun m' w' h1 M1 => ⟨_, rfl, h m' w' h1 ?_⟩)⟩⟩, fun c5 => ⟨hV.mO, c_X3_fork (x := rm y 20) hV hM (fun m' w' h1 M1 => ⟨_, rfl, h m' w' h1 ?_⟩)⟩⟩, fun c4 => ⟨hV.mO, c_X3_remove (x := rm y 20) hV hM hO hne (fun m' w' h1 M1 => ⟨_, rfl, h m' w' h1 ?_⟩)⟩⟩, fun c3 => ⟨hV.mO, c_X3_snap (x := rm y 20) hV hM (fun m' w' h1 M1 => ⟨_, rfl, h m' w' h1 ?_⟩)⟩⟩, fun c2 => ⟨hV.mO, c_X3_erase (x := rm y 20) (k := rm z 12) hV hM hO (fun m' w' h1 M1 => ⟨_, rfl, h m' w' h1 ?_⟩)⟩⟩, fun c1 => ⟨hV.mO, c_X3_write (x := rm y 20) (k := rm z 12) hV hM hO (fun m' w' h1 M1 => ⟨_, rfl, h m' w' h1 ?_⟩)⟩⟩)
  · rwa [if_neg (fun z => z c1), if_neg (fun z => z c2), if_neg (fun z => z c3), if_neg (fun z => z c4), if_neg (fun z => z c5), if_neg c6, if_neg c7]
  · rwa [if_neg (fun z => z c1), if_neg (fun z => z c2), if_neg (fun z => z c3), if_neg (fun z => z c4), if_neg (fun z => z c5), if_neg (by rw [c7]; decide), if_pos c7]
  · rwa [if_neg (fun z => z c1), if_neg (fun z => z c2), if_neg (fun z => z c3), if_neg (fun z => z c4), if_neg (fun z => z c5), if_pos c6]
  · rwa [if_neg (fun z => z c1), if_neg (fun z => z c2), if_neg (fun z => z c3), if_neg (fun z => z c4), if_pos c5]
  · rwa [if_neg (fun z => z c1), if_neg (fun z => z c2), if_neg (fun z => z c3), if_pos c4]
  · rwa [if_neg (fun z => z c1), if_neg (fun z => z c2), if_pos c3]
  · rwa [if_neg (fun z => z c1), if_pos c2]
  · rwa [if_pos c1]
/-- all but the row: sheets, image; and the frame is s0 -/
def MK (m0 : MT) (S : ST) (s0 : Nat → Int32) (m : MT) : Prop := SE m S ∧ M_image m = M_image m0 ∧ M_hasImage m = M_hasImage m0 ∧ ∀ i, i < 554 → M_frame m i = s0 i
theorem lp_dr26 (hM : MS m0 P S m) {seed i2 i3 : Int32} (h : ∀ m' w', V (G_M_ g m') w' → Enc (M_s m') P → MK m0 S (M_s m) m' → M_lot m' = seed → wp KX3_drawn rc rs QR QX 62 [(0, vR (some (g_m g))), (1, vI seed), (2, vI i2), (3, vI i3), (4, vI 0)] [] w') : ∀ n k m1 w1, k + n = 554 → V (G_M_ g m1) w1 → M_s m1 = M_s m → SE m1 S → M_image m1 = M_image m0 → M_hasImage m1 = M_hasImage m0 → (∀ i, i < k → M_frame m1 i = M_s m i) → wp KX3_drawn rc rs QR QX 26 [(0, vR (some (g_m g))), (1, vI seed), (2, vI i2), (3, vI i3), (4, vI (nI k))] [] w1 := by
  intro n
  induction n with
  | zero =>
    intro k m1 w1 hk hV h1 h2 h3 h4 h5
    refine sg_X3_drawn_26 (lpc (N := 554) rfl (by decide) hk (fun _ => hV.mpf_lot (fun w2 hV2 => ?_)) (fun m e => by omega))
    have : k = 554 := by omega
    subst this
    refine h _ w2 hV2 ?_ ⟨h2, h3, h4, h5⟩ rfl
    show Enc (M_s m1) P
    rw [h1]
    exact hM.1
  | succ n ih =>
    intro k m1 w1 hk hV h1 h2 h3 h4 h5
    have gk := hV.mg_s (vp_in_nI (by omega : k < 554) (by decide))
    rw [nI_clamp (by omega)] at gk
    refine sg_X3_drawn_26 (lpc (N := 554) rfl (by decide) hk (fun e => by omega) (fun m e hk2 => ⟨_, hV.mf_frame, _, hV.mf_s, _, gk, hV.mp_frame (vp_in_nI hk2 (by decide)) (fun w2 hV2 => ?_)⟩))
    rw [nI_clamp (by omega)] at hV2
    rw [nI_1]
    refine ih (k + 1) _ w2 (by omega) hV2 h1 h2 h3 h4 (fun i hi => ?_)
    show upd (M_frame m1) k (M_s m1 k) i = _
    by_cases e : i = k
    · subst e
      rw [pk_us, h1]
    · rw [pk_un e]
      exact h5 i (by omega)
theorem Enc.lot {x : Int32} (h : Enc (M_s m) P) : Enc (M_s (M_lot_ m x)) P := h
theorem MK.lot {s0 : Nat → Int32} {x : Int32} (h : MK m0 S s0 m) : MK m0 S s0 (M_lot_ m x) := h
theorem M_lot_g (m : MT) (x : Int32) : M_lot (M_lot_ m x) = x := rfl
theorem u_lots {s0 : Nat → Int32} (hV : V (G_M_ g m) w) (hE : Enc (M_s m) P) (hM : MK m0 S s0 m) (h : ∀ m' w', V (G_M_ g m') w' → Enc (M_s m') P → MK m0 S s0 m' → M_lot m' = nx (M_lot m) → QR (some (vI (lv (nx (M_lot m))))) w') : ct KX3_lots 0 0 [vR (some (g_m g))] w QR QX := c_X3_lots hV (fun w' h' => h (M_lot_ m (nx (M_lot m))) w' h' hE.lot hM.lot (M_lot_g m _))
theorem lp_dr62 {s0 : Nat → Int32} {J : Nat → PT → Prop} (hJ1 : ∀ B P, J B P → good P) (hJ2 : ∀ B P x y z, J B P → J (B + 1) (o_draws P x y z)) {N : Nat} (hN : N < 2 ^ 31) {i1 i3 : Int32} : ∀ n k B P m1 w1, k + n = N → V (G_M_ g m1) w1 → Enc (M_s m1) P → MK m0 S s0 m1 → J B P → (∀ m' w', V (G_M_ g m') w' → Enc (M_s m') (drS n P (M_lot m1)) → MK m0 S s0 m' → wp KX3_drawn rc rs QR QX 108 [(0, vR (some (g_m g))), (1, vI i1), (2, vI (nI N)), (3, vI i3), (4, vL 0), (6, vI 0)] [] w') → wp KX3_drawn rc rs QR QX 62 [(0, vR (some (g_m g))), (1, vI i1), (2, vI (nI N)), (3, vI i3), (4, vI (nI k))] [] w1 := by
  intro n
  induction n with
  | zero =>
    intro k B P m1 w1 hk hV hE hM hJ h
    exact sg_X3_drawn_62 (lpc (N := N) rfl hN hk (fun _ => h m1 w1 hV hE hM) (fun m e => by omega))
  | succ n ih =>
    intro k B P m1 w1 hk hV hE hM hJ h
    refine sg_X3_drawn_62 (lpc (N := N) rfl hN hk (fun e => by omega) (fun m e hk2 => ⟨hV.mO, u_lots hV hE hM (fun m2 w2 h2 E2 M2 l2 => ⟨_, rfl, h2.mO, u_lots h2 E2 M2 (fun m3 w3 h3 E3 M3 l3 => ⟨_, rfl, h3.mO, u_lots h3 E3 M3 (fun m4 w4 h4 E4 M4 l4 => ⟨_, rfl, h4.mO, ?_⟩)⟩)⟩)⟩))
    rw [l3, l2]
    refine c_X3_draws (P := P) h4 (MR.rf E4) (hJ1 B P hJ) (fun m5 w5 h5 M5 => ⟨rfl, ?_⟩)
    rw [nI_1]
    refine ih (k + 1) (B + 1) _ m5 w5 (by omega) h5 M5.e ?_ (hJ2 B P _ _ _ hJ) (fun m' w' h6 E6 M6 => h m' w' h6 ?_ M6)
    · obtain ⟨a1, a2, a3, a4⟩ := M4
      obtain ⟨b1, b2, b3, b4, b5, b6, b7, b8⟩ := M5.1
      refine ⟨?_, b2.trans a2, b4.trans a3, fun i hi => (congrFun b3 i).trans (a4 i hi)⟩
      intro s hs
      rw [b5, b6, b7]
      exact a1 s hs
    · have e5 : M_lot m5 = nx (nx (nx (M_lot m1))) := by
        rw [M5.1.2.2.2.2.2.2.2, l4, l3, l2]
      rw [e5] at E6
      rw [drS_s]
      exact E6
theorem lp_dr192 {s0 : Nat → Int32} {P0 : PT} (h0 : Enc s0 P0) {i1 i2 i3 : Int32} {l4 l6 : Int64} (h : ∀ m' w', V (G_M_ g m') w' → MS m0 P0 S m' → QR (some (vL l6)) w') : ∀ n k m1 w1, k + n = 554 → V (G_M_ g m1) w1 → MK m0 S s0 m1 → (∀ i, i < k → M_s m1 i = s0 i) → wp KX3_drawn rc rs QR QX 192 [(0, vR (some (g_m g))), (1, vI i1), (2, vI i2), (3, vI i3), (4, vL l4), (6, vL l6), (8, vI (nI k))] [] w1 := by
  intro n
  induction n with
  | zero =>
    intro k m1 w1 hk hV hM hs
    refine sg_X3_drawn_192 (lpc (N := 554) rfl (by decide) hk (fun _ => h m1 w1 hV ⟨h0.pt (fun i hi => hs i (by omega)), hM.1, hM.2.1, hM.2.2.1⟩) (fun m e => by omega))
  | succ n ih =>
    intro k m1 w1 hk hV hM hs
    have gk := hV.mg_frame (vp_in_nI (by omega : k < 554) (by decide))
    rw [nI_clamp (by omega)] at gk
    refine sg_X3_drawn_192 (lpc (N := 554) rfl (by decide) hk (fun e => by omega) (fun m e hk2 => ⟨_, hV.mf_s, _, hV.mf_frame, _, gk, hV.mp_s (vp_in_nI hk2 (by decide)) (fun w2 hV2 => ?_)⟩))
    rw [nI_clamp (by omega)] at hV2
    rw [nI_1]
    refine ih (k + 1) _ w2 (by omega) hV2 hM (fun i hi => ?_)
    show upd (M_s m1) k (M_frame m1 k) i = _
    by_cases e : i = k
    · subst e
      rw [pk_us]
      exact hM.2.2.2 i (by omega)
    · rw [pk_un e]
      exact hs i (by omega)
theorem lp_dr108 (hV : V (G_M_ g m) w) (hE : Enc (M_s m) P) {s0 : Nat → Int32} {P0 : PT} (h0 : Enc s0 P0) (hM : MK m0 S s0 m) {i1 i2 i3 : Int32} (h : ∀ m' w', V (G_M_ g m') w' → MS m0 P0 S m' → QR (some (vL (if i3 = 0 then (nI (nTh P)).toInt64 else if i3 = 1 then (nI (nBk P)).toInt64 else if i3 = 2 then (P_freed P - P_freed P0).toInt64 else sm (szs P) 96))) w') : ∀ n k, k + n = 96 → wp KX3_drawn rc rs QR QX 108 [(0, vR (some (g_m g))), (1, vI i1), (2, vI i2), (3, vI i3), (4, vL (sm (szs P) k)), (6, vI (nI k))] [] w := by
  intro n
  induction n with
  | zero =>
    intro k hk
    have : k = 96 := by omega
    subst this
    have go : ∀ v, v = (if i3 = 0 then (nI (nTh P)).toInt64 else if i3 = 1 then (nI (nBk P)).toInt64 else if i3 = 2 then (P_freed P - P_freed P0).toInt64 else sm (szs P) 96) → wp KX3_drawn rc rs QR QX 192 [(0, vR (some (g_m g))), (1, vI i1), (2, vI i2), (3, vI i3), (4, vL (sm (szs P) 96)), (6, vL v), (8, vI 0)] [] w := by
      intro v hv
      rw [← hv] at h
      exact lp_dr192 h0 h 554 0 m w rfl hV hM (fun i hi => by omega)
    refine sg_X3_drawn_108 (lpc (N := 96) rfl (by decide) hk (fun _ => ⟨fun c => ⟨fun c2 => ⟨fun c3 => go _ ?_, fun c3 => ⟨_, hV.mf_s, _, g_freed hV hE, _, hV.mf_frame, P_freed P0, ?_, go _ ?_⟩⟩, fun c2 => ⟨hV.mO, u_blocks hV hE ⟨_, rfl, go _ ?_⟩⟩⟩, fun c => ⟨hV.mO, u_things hV hE ⟨_, rfl, go _ ?_⟩⟩⟩) (fun m e => by omega))
    · rw [if_neg c, if_neg c2, if_neg c3]
    · have := hV.mg_frame (i := 1) (vp_in_nI (n := 1) (by decide) (by decide))
      have e : M_frame m 1 = P_freed P0 := (hM.2.2.2 1 (by omega)).trans h0.2.1
      rw [← e]
      exact this
    · rw [if_neg c, if_neg c2, if_pos c3]
    · rw [if_neg c, if_pos c2]
    · rw [if_pos c]
  | succ n ih =>
    intro k hk
    have ih1 := ih (k + 1) (by omega)
    refine sg_X3_drawn_108 (lpc (N := 96) rfl (by decide) hk (fun e => by omega) (fun m e hk2 => ⟨_, hV.mf_s, _, g_size hV hE hk2, ?_⟩))
    rw [nI_1]
    exact ih1
theorem c_X3_drawn (hV : V (G_M_ g m) w) (hM : MS m0 P S m) {J : Nat → PT → Prop} (hJ1 : ∀ B P, J B P → good P) (hJ2 : ∀ B P x y z, J B P → J (B + 1) (o_draws P x y z)) {B : Nat} (hJ : J B P) {seed n what : Int32} (h : ∀ m' w', V (G_M_ g m') w' → MS m0 P S m' → QR (some (vL (r_drawn P seed n what))) w') : ct KX3_drawn 0 0 [vR (some (g_m g)), vI seed, vI n, vI what] w QR QX := by
  have h0 := h m w hV hM
  unfold r_drawn at h h0
  refine st_X3_drawn (sg_X3_drawn_0 (c_X3_in ⟨_, rfl, fun c => ?_, fun c => c_X3_in ⟨_, rfl, fun c2 => ?_, fun c2 => ?_⟩⟩))
  · rwa [if_neg (fun z => b2i_0.mp c z.1)] at h0
  · have c1 := b2i_n0.mp c
    have c3 := b2i_n0.mp c2
    obtain ⟨N, hN, rfl⟩ := inI_n (H := 60) c1 rfl rfl (by decide)
    rw [if_pos ⟨c1, c3⟩, nI_clamp (by omega)] at h
    refine lp_dr26 (m := m) hM (fun m1 w1 h1 E1 M1 hl => ?_) 554 0 m w rfl hV rfl hM.2.1 hM.2.2.1 hM.2.2.2 (fun i hi => by omega)
    refine lp_dr62 hJ1 hJ2 (by omega) N 0 B P m1 w1 (by omega) h1 E1 M1 hJ (fun m2 w2 h2 E2 M2 => ?_)
    rw [hl] at E2
    exact lp_dr108 h2 E2 hM.1 M2 h 96 0 rfl
  · rwa [if_neg (fun z => b2i_0.mp c2 z.2)] at h0
/-- .. the image is P, too -/
def MI (m0 : MT) (P : PT) (S : ST) (m : MT) : Prop := Enc (M_s m) P ∧ Enc (M_image m) P ∧ SE m S ∧ M_hasImage m = 1
theorem lp_image (hM : MS m0 P S m) (h : ∀ m' w', V (G_M_ g m') w' → MI m0 P S m' → QR (some (vI (nI (nTh P)))) w') : ∀ n k m1 w1, k + n = 554 → V (G_M_ g m1) w1 → M_s m1 = M_s m → SE m1 S → (∀ i, i < k → M_image m1 i = M_s m i) → wp KX3_image rc rs QR QX 2 [(0, vR (some (g_m g))), (1, vI (nI k))] [] w1 := by
  intro n
  induction n with
  | zero =>
    intro k m1 w1 hk hV h1 h2 h5
    have he : Enc (M_s m1) P := by
      rw [h1]
      exact hM.1
    refine sg_X3_image_2 (lpc (N := 554) rfl (by decide) hk (fun _ => hV.mpf_hasImage (fun w2 hV2 => ⟨hV2.mO, u_things hV2 he ⟨_, rfl, h _ w2 hV2 ⟨he, hM.1.pt (fun i hi => h5 i (by omega)), h2, rfl⟩⟩⟩)) (fun m e => by omega))
  | succ n ih =>
    intro k m1 w1 hk hV h1 h2 h5
    have gk := hV.mg_s (vp_in_nI (by omega : k < 554) (by decide))
    rw [nI_clamp (by omega)] at gk
    refine sg_X3_image_2 (lpc (N := 554) rfl (by decide) hk (fun e => by omega) (fun m e hk2 => ⟨_, hV.mf_image, _, hV.mf_s, _, gk, hV.mp_image (vp_in_nI hk2 (by decide)) (fun w2 hV2 => ?_)⟩))
    rw [nI_clamp (by omega)] at hV2
    rw [nI_1]
    refine ih (k + 1) _ w2 (by omega) hV2 h1 h2 (fun i hi => ?_)
    show upd (M_image m1) k (M_s m1 k) i = _
    by_cases e : i = k
    · subst e
      rw [pk_us, h1]
    · rw [pk_un e]
      exact h5 i (by omega)
theorem c_X3_image (hV : V (G_M_ g m) w) (hM : MS m0 P S m) (h : ∀ m' w', V (G_M_ g m') w' → MI m0 P S m' → QR (some (vI (nI (nTh P)))) w') : ct KX3_image 0 0 [vR (some (g_m g))] w QR QX :=
  st_X3_image (sg_X3_image_0 (lp_image (m := m) hM h 554 0 m w rfl hV rfl hM.2.1 (fun i hi => by omega)))
theorem lp_back {Pi : PT} (hi : Enc (M_image m) Pi) (h : ∀ m' w', V (G_M_ g m') w' → Enc (M_s m') Pi → M_image m' = M_image m → SE m' S → M_hasImage m' = M_hasImage m → QR (some (vI (nI (nTh Pi)))) w') : ∀ n k m1 w1, k + n = 554 → V (G_M_ g m1) w1 → M_image m1 = M_image m → SE m1 S → M_hasImage m1 = M_hasImage m → (∀ i, i < k → M_s m1 i = M_image m i) → wp KX3_back rc rs QR QX 12 [(0, vR (some (g_m g))), (1, vI (nI k))] [] w1 := by
  intro n
  induction n with
  | zero =>
    intro k m1 w1 hk hV h1 h2 h3 h5
    have he : Enc (M_s m1) Pi := hi.pt (fun i hi => h5 i (by omega))
    exact sg_X3_back_12 (lpc (N := 554) rfl (by decide) hk (fun _ => ⟨hV.mO, u_things hV he ⟨_, rfl, h m1 w1 hV he h1 h2 h3⟩⟩) (fun m e => by omega))
  | succ n ih =>
    intro k m1 w1 hk hV h1 h2 h3 h5
    have gk := hV.mg_image (vp_in_nI (by omega : k < 554) (by decide))
    rw [nI_clamp (by omega)] at gk
    refine sg_X3_back_12 (lpc (N := 554) rfl (by decide) hk (fun e => by omega) (fun m e hk2 => ⟨_, hV.mf_s, _, hV.mf_image, _, gk, hV.mp_s (vp_in_nI hk2 (by decide)) (fun w2 hV2 => ?_)⟩))
    rw [nI_clamp (by omega)] at hV2
    rw [nI_1]
    refine ih (k + 1) _ w2 (by omega) hV2 h1 h2 h3 (fun i hi => ?_)
    show upd (M_s m1) k (M_image m1 k) i = _
    by_cases e : i = k
    · subst e
      rw [pk_us, h1]
    · rw [pk_un e]
      exact h5 i (by omega)
theorem c_X3_back (hV : V (G_M_ g m) w) (hS : SE m S) {Pi : PT} (hi : ¬ M_hasImage m = 0 → Enc (M_image m) Pi) (h : if M_hasImage m = 0 then QR (some (vI (-3))) w else ∀ m' w', V (G_M_ g m') w' → Enc (M_s m') Pi → M_image m' = M_image m → SE m' S → M_hasImage m' = M_hasImage m → QR (some (vI (nI (nTh Pi)))) w') : ct KX3_back 0 0 [vR (some (g_m g))] w QR QX := by
  refine st_X3_back (sg_X3_back_0 ⟨_, hV.mf_hasImage, fun c => ?_, fun c => ?_⟩)
  · have c' : ¬ M_hasImage m = 0 := c
    rw [if_neg c'] at h
    exact lp_back (m := m) (hi c') h 554 0 m w rfl hV rfl hS rfl (fun i hi => by omega)
  · have c' : M_hasImage m = 0 := c
    rwa [if_pos c'] at h
end MX
