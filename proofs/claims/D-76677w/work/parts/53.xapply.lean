/-! ===== the pool's sheets: applied ===== -/
set_option maxRecDepth 100000
set_option maxHeartbeats 400000
theorem i64_g {v : Int64} (h1 : ¬ v < 0) (h2 : ¬ 1000000000 < v) (h3 : ¬ v = 0) : 1 ≤ v.toInt32.toInt ∧ v.toInt32.toInt ≤ 1000000000 := by
  rw [Int64.lt_iff_toInt_lt] at h1 h2
  have e1 : (0 : Int64).toInt = 0 := by decide
  have e2 : (1000000000 : Int64).toInt = 1000000000 := by decide
  rw [e1] at h1
  rw [e2] at h2
  have h4 : v.toInt ≠ 0 := fun z => h3 (Int64.toInt_inj.mp (z.trans e1.symm))
  have : v.toInt32.toInt = v.toInt := by
    rw [Int64.toInt_toInt32]
    apply Int.bmod_eq_of_le <;> omega
  omega
theorem app_k (P : PT) (t : Nat) (sl sz : Int64) : P_kind (o_app P t sl sz).2 = P_kind P := by
  unfold o_app
  split
  · rfl
  · split
    · exact (Z_gcP _).2.2.1.trans (Z_erP _ _ _).2.2.1
    · show P_kind (o_written P t sl.toInt32.toNatClampNeg sz.toInt32).2 = _
      by_cases c : lB P = 96 ∨ ovr P t sl.toInt32.toNatClampNeg sz.toInt32
      · rw [o_written_f c]
      · rw [o_written_w c]
        exact (Z_gcP _).2.2.1.trans (Z_wrP _ _ _ _ _).2.2.1
theorem apS_t {t : Nat} {F : Nat → Int64} {j i c : Nat} {P : PT} (h : (o_app P t (F i) (F (i + 1))).1 = 0) : apS t F (j + 1) i c P = apS t F j (i + 2) c (o_app P t (F i) (F (i + 1))).2 := by
  show apS t F j (i + 2) (c + (if _ then 0 else 1)) _ = _
  rw [if_pos h]
  rfl
theorem apS_f {t : Nat} {F : Nat → Int64} {j i c : Nat} {P : PT} (h : ¬ (o_app P t (F i) (F (i + 1))).1 = 0) : apS t F (j + 1) i c P = apS t F j (i + 2) (c + 1) (o_app P t (F i) (F (i + 1))).2 := by
  show apS t F j (i + 2) (c + (if _ then 0 else 1)) _ = _
  rw [if_neg h]
section XAp
variable {l : LT} {x : XT} {m : MT} {sc : Nat × (Nat → Int32)} {w : aW} {a : AT} {P : PT} {D : DT} {S : ST} {t u : Nat} {QR : Option aV → aW → Prop} {QX : String → aW → Prop} {rc rs B : Nat}
theorem lp_applies {s N : Nat} (hs : s < 4) (ht : t < 20) (hS : SX x S) (hN : N ≤ 40) (en : S.2.1 s = nI N) (ne : ¬ S.1 s = -1) {jj i4 : Int32} (hjj : jj = 0 ↔ S.1 s = 0) : ∀ j i c P D x1 w1 rc rs, 2 * j + i + N % 2 = N → 9 * j + 8 ≤ rc → 1920 * j + 1912 ≤ rs → V (l, x1, m, sc) w1 → XP x1 a P D → GI P D B → fK (P_kind P t) → XF x x1 → (N % 2 = 1 → ∀ x' w' D', V (l, x', m, sc) w' → XP x' a (apS t (S.2.2 s) j i c P).2 D' → GI (apS t (S.2.2 s) j i c P).2 D' B → XF x x' → QX "java/lang/IndexOutOfBoundsException" w') → (¬ N % 2 = 1 → ∀ x' w' D', V (l, x', m, sc) w' → XP x' a (apS t (S.2.2 s) j i c P).2 D' → GI (apS t (S.2.2 s) j i c P).2 D' B → XF x x' → QR (some (vI (nI (apS t (S.2.2 s) j i c P).1))) w') → wp KX0_applies rc rs QR QX 19 [(0, vR (some (L_ad l 0))), (1, vR (some (a.1 t))), (2, vR (X_rows x s)), (3, vI jj), (4, vI i4), (5, vI (nI N)), (6, vI (nI c)), (7, vI (nI i))] [] w1 := by
  intro j
  induction j with
  | zero =>
    intro i c P D x1 w1 rc rs hj hrc hrs hV hX hG hk hF hodd hev
    have er := congrFun hF.2.2.1 s
    have S1 := hS.xf hF
    by_cases co : N % 2 = 1
    · refine sg_X0_applies_19 ⟨fun z => absurd z (nI_ge (by omega) (by omega)), fun _ => ⟨by omega, by omega, ?_⟩⟩
      rw [← er]
      refine c_X0_itemOf hV S1 hs (fun z => absurd z ne) (fun _ z => absurd hjj z) (fun _ _ z => absurd (by rw [en]; exact (inI_m (by omega)).mpr ⟨i, by omega, rfl⟩) z) (fun _ _ _ => ⟨_, rfl, by omega, by omega, ?_⟩)
      rw [nI_1]
      refine c_X0_itemOf hV S1 hs (fun z => absurd z ne) (fun _ z => absurd hjj z) (fun _ _ _ => Or.inl ⟨rfl, hodd co x1 w1 D hV hX hG hF⟩) (fun _ _ z => ?_)
      exfalso
      rw [en] at z
      obtain ⟨k, hk1, hk2⟩ := (inI_m (by omega)).mp z
      have := nIe (by omega) (by omega) hk2
      omega
    · exact sg_X0_applies_19 ⟨fun _ => hev co x1 w1 D hV hX hG hF, fun z => absurd (nI_le (by omega) (by omega)) z⟩
  | succ j ih =>
    intro i c P D x1 w1 rc rs hj hrc hrs hV hX hG hk hF hodd hev
    have er := congrFun hF.2.2.1 s
    have S1 := hS.xf hF
    have in1 : inI (nI i) 0 (S.2.1 s - 1) := by rw [en]; exact (inI_m (by omega)).mpr ⟨i, by omega, rfl⟩
    have in2 : inI (nI (i + 1)) 0 (S.2.1 s - 1) := by rw [en]; exact (inI_m (by omega)).mpr ⟨i + 1, by omega, rfl⟩
    have go : ∀ (v : Int32) x2 w2 P2 D2 rc2 rs2, rc ≤ rc2 + 9 → rs ≤ rs2 + 1920 → P2 = (o_app P t (S.2.2 s i) (S.2.2 s (i + 1))).2 → V (l, x2, m, sc) w2 → XP x2 a P2 D2 → GI P2 D2 B → XF x x2 → v = nI (c + (if (o_app P t (S.2.2 s i) (S.2.2 s (i + 1))).1 = 0 then 0 else 1)) → wp KX0_applies rc2 rs2 QR QX 19 [(0, vR (some (L_ad l 0))), (1, vR (some (a.1 t))), (2, vR (X_rows x s)), (3, vI jj), (4, vI i4), (5, vI (nI N)), (6, vI v), (7, vI (nI i + 2))] [] w2 := by
      intro v x2 w2 P2 D2 rc2 rs2 r1 r2 e h2 X2 G2 F2 ev
      subst e
      subst ev
      rw [nI_2]
      exact ih (i + 2) _ _ D2 x2 w2 rc2 rs2 (by omega) (by omega) (by omega) h2 X2 G2 (by rw [app_k]; exact hk) F2 hodd hev
    refine sg_X0_applies_19 ⟨fun z => absurd z (nI_ge (by omega) (by omega)), fun _ => ⟨by omega, by omega, ?_⟩⟩
    rw [← er]
    refine c_X0_itemOf hV S1 hs (fun z => absurd z ne) (fun _ z => absurd hjj z) (fun _ _ z => absurd in1 z) (fun _ _ _ => ⟨_, rfl, by omega, by omega, ?_⟩)
    rw [nI_1]
    refine c_X0_itemOf hV S1 hs (fun z => absurd z ne) (fun _ z => absurd hjj z) (fun _ _ z => absurd in2 z) (fun _ _ _ => ⟨_, rfl, ?_⟩)
    rw [nI_clamp (by omega), nI_clamp (by omega), er]
    refine c_X0_in ⟨_, rfl, fun c1 => ?_, fun c1 => c_X0_in ⟨_, rfl, fun c2 => ?_, fun c2 => ?_⟩⟩
    · have e : o_app P t (S.2.2 s i) (S.2.2 s (i + 1)) = (0, P) := if_pos (by
        have := b2i_0.mp c1
        by_cases z : S.2.2 s i < 0
        · exact Or.inl z
        · exact Or.inr (Or.inl (Classical.byContradiction (fun z2 => this ⟨z, z2⟩))))
      exact go _ x1 w1 P D _ _ (by omega) (by omega) (by rw [e]) hV hX hG hF (by rw [e, if_pos rfl]; rfl)
    · have e : o_app P t (S.2.2 s i) (S.2.2 s (i + 1)) = (0, P) := if_pos (by
        have := b2i_0.mp c2
        by_cases z : S.2.2 s (i + 1) < 0
        · exact Or.inr (Or.inr (Or.inl z))
        · exact Or.inr (Or.inr (Or.inr (Classical.byContradiction (fun z2 => this ⟨z, z2⟩)))))
      exact go _ x1 w1 P D _ _ (by omega) (by omega) (by rw [e]) hV hX hG hF (by rw [e, if_pos rfl]; rfl)
    · have d1 := b2i_n0.mp c1
      have d2 := b2i_n0.mp c2
      have hn : ¬ (S.2.2 s i < 0 ∨ 11 < S.2.2 s i ∨ S.2.2 s (i + 1) < 0 ∨ 1000000000 < S.2.2 s (i + 1)) := by
        rintro (z | z | z | z)
        · exact d1.1 z
        · exact d1.2 z
        · exact d2.1 z
        · exact d2.2 z
      obtain ⟨k, hk2, ek⟩ := i64_n d1.1 d1.2
      rw [ek]
      refine ⟨fun c3 => ⟨by omega, by omega, hV.xO, ?_⟩, fun c3 => ⟨hV.xO, ?_⟩⟩
      · have e : o_app P t (S.2.2 s i) (S.2.2 s (i + 1)) = (if (o_written P t k (S.2.2 s (i + 1)).toInt32).1 < 0 then 0 else 1, (o_written P t k (S.2.2 s (i + 1)).toInt32).2) := by
          unfold o_app
          rw [if_neg hn, if_neg c3, ek, nI_clamp (by omega)]
        refine c_X0_writes hV hX hG.pi hG.sz hG.db hG.ld ht hk (by omega) (fun x2 w2 v P2 D2 r h2 X2 K2 => ⟨_, rfl, fun c4 => ?_, fun c4 => ?_⟩)
        · obtain ⟨rfl, rfl, G2⟩ := o_wr hG ht hk (by omega) (i64_g d2.1 d2.2 c3) r
          refine go _ x2 w2 _ D2 _ _ (by omega) (by omega) (by rw [e]) h2 X2 G2 (hF.tr K2.1) ?_
          rw [e, if_pos (by rw [if_pos c4]), Int32.add_zero]
          rfl
        · obtain ⟨rfl, rfl, G2⟩ := o_wr hG ht hk (by omega) (i64_g d2.1 d2.2 c3) r
          refine go _ x2 w2 _ D2 _ _ (by omega) (by omega) (by rw [e]) h2 X2 G2 (hF.tr K2.1) ?_
          rw [e, if_neg (by rw [if_neg c4]; exact (by decide : ¬ (1 : Int32) = 0)), nI_1]
      · have e : o_app P t (S.2.2 s i) (S.2.2 s (i + 1)) = (1, (o_erased P t k).2) := by
          unfold o_app
          rw [if_neg hn, if_pos c3, ek, nI_clamp (by omega)]
        refine c_X0_leaves hV hX hG.pi hG.db hG.ld ht hk (by omega) (fun x2 w2 P2 D2 r h2 X2 K2 => ⟨rfl, ?_⟩)
        obtain ⟨rfl, G2⟩ := o_er hG ht hk (by omega) r
        refine go _ x2 w2 _ D2 _ _ (by omega) (by omega) (by rw [e]; rfl) h2 X2 G2 (hF.tr K2.1) ?_
        rw [e, if_neg (show ¬ (1 : Int32) = 0 by decide), nI_1]
theorem c_X0_apply (hV : V (l, x, m, sc) w) (hX : XP x a P D) (hG : GI P D B) (hS : SX x S) {i y sort : Int32} (h : ∀ x' w' D', V (l, x', m, sc) w' → XP x' a (o_apply P S i y sort).2 D' → GI (o_apply P S i y sort).2 D' B → XF x x' → QR (some (vI (o_apply P S i y sort).1)) w') : ct KX0_apply 201 42006 [vR (some (L_ad l 0)), vI i, vI y, vI sort] w QR QX := by
  have no : ∀ v, o_apply P S i y sort = (v, P) → QR (some (vI v)) w := by
    intro v e
    rw [e] at h
    exact h x w D hV hX hG (XF.rf x)
  unfold o_apply at h no
  refine st_X0_apply (sg_X0_apply_0 (c_X0_isSheet ⟨_, rfl, fun c => ?_, fun c => c_X0_inI 0 1 (by decide) (by decide) ⟨_, rfl, fun c2 => ?_, fun c2 => ?_⟩⟩))
  · exact no _ (if_neg (fun z => b2i_0.mp c z.1))
  · have c1 := b2i_n0.mp c
    have c4 := b2i_n0.mp c2
    obtain ⟨s, hs, rfl⟩ := inI_n (H := 3) c1 rfl rfl (by decide)
    have hs4 : s < 4 := by omega
    have gs := hV.xg_sheet (vp_in_nI hs4 (by decide))
    rw [nI_clamp (by omega)] at gs
    rw [if_pos ⟨c1, c4⟩, nI_clamp (by omega)] at h no
    refine ⟨by decide, by decide, hV.xO, c_X0_thingAt hV hX hG.pi (fun t ht e => ⟨_, rfl, fun z => ?_, fun q z => ?_⟩) (fun z => ⟨rfl, ?_⟩)⟩
    · subst e
      refine ⟨_, hV.xf7, _, gs, _, hV.xf_row hs4, by decide, by decide, hV.xO, st_X0_applies (sg_X0_applies_0 ⟨fun _ => ⟨by decide, by decide, Or.inr (Or.inl ⟨rfl, no _ ?_⟩)⟩, fun q e => (by cases e)⟩)⟩
      rw [ask_none ht (thO_none z), if_neg (by decide)]
    · subst e
      obtain ⟨hn, rfl⟩ := thO_some z
      by_cases cf : fK (P_kind P t)
      · rw [if_pos (ask_ok ht hn ((uKd_0 _).mpr cf)), nI_clamp (by omega)] at h no
        refine Or.inl ⟨x_ck hV hX ht (cI_f cf), _, hV.xf7, _, gs, _, hV.xf_row hs4, by decide, by decide, hV.xO, st_X0_applies (sg_X0_applies_0 ⟨fun e => (by cases e), fun q e => ?_⟩)⟩
        cases e
        have hsort : ∀ ne : ¬ S.1 s = -1, ((sort = 0 ↔ S.1 s = 0) ↔ S.1 s = sort) := by
          intro ne
          have hv := (hS.sv s hs4).resolve_left ne
          obtain ⟨k, hk, rfl⟩ := inI_n (H := 1) c4 rfl rfl (by decide)
          have kk : k = 0 ∨ k = 1 := by omega
          rcases hv.1 with y1 | y1 <;> rcases kk with rfl | rfl <;> rw [y1] <;> decide
        refine ⟨_, x_num hV hX ht (cI_f cf), by decide, by decide, c_X0_lengthOf hV hS hs4 (fun z => Or.inl ⟨rfl, Or.inr (Or.inl ⟨rfl, no _ (if_pos z)⟩)⟩) (fun z z2 => Or.inr ⟨rfl, Or.inr (Or.inr ⟨rfl, no _ ?_⟩)⟩) (fun z z2 => ⟨_, rfl, ?_⟩)⟩
        · rw [if_neg z, if_neg (fun y => z2 ((hsort z).mpr y))]
        · obtain ⟨N, hN, en⟩ := hS.sv.at hs4 z
          rw [if_neg z, if_pos ((hsort z).mp z2), en, nI_clamp (by omega)] at h
          rw [en]
          refine lp_applies (x := x) (B := B) hs4 ht hS hN en z z2 (N / 2) 0 0 P D x w _ _ (by omega) (by omega) (by omega) hV hX hG cf (XF.rf x) (fun co x1 w1 D1 h1 X1 G1 F1 => Or.inl ⟨rfl, ?_⟩) (fun co x1 w1 D1 h1 X1 G1 F1 => ⟨_, rfl, ?_⟩)
          · rw [if_pos co] at h
            exact h x1 w1 D1 h1 X1 G1 F1
          · rw [if_neg co] at h
            exact h x1 w1 D1 h1 X1 G1 F1
      · refine Or.inr ⟨x_cka hV hX hG.pi ht hn (ci_nf hG.pi ht hn cf), by decide, by decide, no _ ?_⟩
        rw [ask_bad ht hn (fun y => cf ((uKd_0 _).mp y)), if_neg (by decide)]
    · refine no _ ?_
      rw [ask_out z, if_neg (by decide)]
  · exact no _ (if_neg (fun z => b2i_0.mp c2 z.2))
end XAp
