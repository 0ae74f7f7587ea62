/-! ===== the pool: drawn ===== -/
set_option maxRecDepth 100000
set_option maxHeartbeats 400000
section XDr
variable {l0 : LT} {x0 : XT} {m : MT} {sc : Nat × (Nat → Int32)} {w : aW} {a0 : AT} {P0 : PT} {D0 : DT} {QR : Option aV → aW → Prop} {QX : String → aW → Prop}
/-- what was there, and is again -/
def ZB (l0 : LT) (m : MT) (sc : Nat × (Nat → Int32)) (x0 : XT) (a0 : AT) (P0 : PT) (D0 : DT) (Q : aW → Prop) : Prop := ∀ l' x' w', L_ad l' = L_ad l0 → V (l', x', m, sc) w' → XP x' a0 P0 D0 → XI x0 x' → X_rows x' = X_rows x0 → X_W x' = X_W x0 → Q w'
noncomputable def drV (P : PT) (v fr : Int32) : Int64 := if v = 0 then (nI (nTh P)).toInt64 else if v = 1 then (nI (nBk P)).toInt64 else if v = 2 then (P_freed P - fr).toInt64 else sm (szs P) 96
theorem lp_drawnX (hI0 : PI P0) (hR : KR (X_C x0 200) x0 a0 P0 D0) {N : Nat} (hN : N ≤ 60) {i1 i3 i4 : Int32} : ∀ n k z B (l : LT) (a : AT) (P : PT) (D : DT) x1 w1 rc rs, k + n = N → 4 * n ≤ rc → 960 * n ≤ rs → B + n ≤ 1000000 → L_ad l = L_ad l0 → V (l, x1, m, sc) w1 → XP x1 a P D → GI P D B → XI x0 x1 → X_rows x1 = X_rows x0 → X_W x1 = X_W x0 → ZB l0 m sc x0 a0 P0 D0 (fun w' => QR (some (vL (drV (drS n P z) i3 i4))) w') → wp KX0_drawn rc rs QR QX 48 [(0, vR (some (L_ad l0 0))), (1, vI i1), (2, vI (nI N)), (3, vI i3), (4, vI i4), (5, vI z), (6, vI (nI k))] [] w1 := by
  intro n
  induction n with
  | zero =>
    intro k z B l a P D x1 w1 rc rs hk hrc hrs hB el hV hX hG hXI e1 e2 h
    refine sg_X0_drawn_48 (lpc (N := N) rfl (by omega) hk (fun _ => ?_) (fun m' e => by omega))
    rw [← el]
    refine ⟨hV.xO, c_X0_thenTold hV hX hG.pi hG.sz ⟨_, rfl, _, hV.xf9, hV.xO, c_X0_laysBack (d := 200) (P := P0) (D := D0) (a := a0) hV hI0 (Or.inr rfl) ?_ (fun x2 w2 h2 X2 I2 r1 r2 => ⟨rfl, ?_⟩)⟩⟩
    · rw [hXI.c (Or.inr rfl)]
      exact hR.xi hXI
    · exact h l x2 w2 el h2 X2 (hXI.tr I2) (r1.trans e1) (r2.trans e2)
  | succ n ih =>
    intro k z B l a P D x1 w1 rc rs hk hrc hrs hB el hV hX hG hXI e1 e2 h
    refine sg_X0_drawn_48 (lpc (N := N) rfl (by omega) hk (fun e => by omega) (fun m' e hk2 => ?_))
    rw [← nx_e, ← nx_e, ← nx_e, ← lv_e, ← lv_e, ← lv_e, ← el]
    refine ⟨by omega, by omega, hV.xO, c_X0_acts hV hX hG (by omega) (fun l2 x2 a2 D2 w2 el2 h2 X2 G2 K2 v => ⟨v, rfl, ?_⟩)⟩
    rw [nI_1, el]
    exact ih (k + 1) _ (B + 1) l2 a2 _ D2 x2 w2 _ _ (by omega) (by omega) (by omega) (by omega) (el2.trans el) h2 X2 G2 (hXI.tr K2.1.xi) (K2.1.2.2.1.trans e1) (K2.1.2.2.2.2.1.trans e2) h
theorem c_X0_drawn {B : Nat} (hV : V (l0, x0, m, sc) w) (hX : XP x0 a0 P0 D0) (hG : GI P0 D0 B) (hB : B + 60 ≤ 1000000) {seed n what : Int32} (h : ZB l0 m sc x0 a0 P0 D0 (fun w' => QR (some (vL (r_drawn P0 seed n what))) w')) (hT : ∀ x1, CF 200 x0 x1 → ZB l0 m sc x1 a0 P0 D0 (fun w' => QR (some (vL (r_drawn P0 seed n what))) w')) : ct KX0_drawn 240 57600 [vR (some (L_ad l0 0)), vI seed, vI n, vI what] w QR QX := by
  have h0 := h l0 x0 w rfl hV hX (XI.rf x0) rfl rfl
  unfold r_drawn at h0 hT
  refine st_X0_drawn (sg_X0_drawn_0 (c_X0_inI 0 60 (by decide) (by decide) ⟨_, rfl, fun c => ?_, fun c => c_X0_inI 0 3 (by decide) (by decide) ⟨_, rfl, fun c2 => ?_, fun c2 => ?_⟩⟩))
  · rwa [if_neg (fun z => b2i_0.mp c z.1)] at h0
  · have c1 := b2i_n0.mp c
    have c3 := b2i_n0.mp c2
    obtain ⟨N, hN, rfl⟩ := inI_n (H := 60) c1 rfl rfl (by decide)
    rw [if_pos ⟨c1, c3⟩, nI_clamp (by omega)] at hT
    refine ⟨_, x_freed hV hX, _, hV.xf9, hV.xO, c_X0_keeps (d := 200) hV hX hG.pi (Or.inr rfl) (fun x1 w1 h1 F1 R1 => ⟨rfl, ?_⟩)⟩
    exact lp_drawnX (l0 := l0) (x0 := x1) hG.pi (R1.cg F1.2.1 F1.2.2.1) hN N 0 seed B l0 a0 P0 D0 x1 w1 _ _ (by omega) (by omega) (by omega) (by omega) rfl h1 (F1.1 _ _ _ hX) hG (XI.rf x1) rfl rfl (hT x1 F1)
  · rwa [if_neg (fun z => b2i_0.mp c2 z.2)] at h0
end XDr
