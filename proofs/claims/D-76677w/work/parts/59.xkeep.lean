/-! ===== the pool keeps one holder in a copy ===== -/
set_option maxRecDepth 100000
set_option maxHeartbeats 400000
section XK1
variable {l : LT} {x : XT} {m : MT} {sc : Nat × (Nat → Int32)} {w : aW} {a : AT} {P : PT} {D : DT} {t d : Nat} {QR : Option aV → aW → Prop} {QX : String → aW → Prop} {rc rs : Nat}
theorem lp_keepsOne (hX : XP x a P D) (hI : PI P) (hd : cp2 d) (ht : t < 20) (hk : hK (P_kind P t)) {r : RT} (hr : X_H x (a.1 t) = some r) (h : ∀ x' w', V (l, x', m, sc) w' → CF d x x' → CU t (X_C x d) (X_C x' d) → KO (X_C x' d) a P D t → QR none w') : ∀ n k x1 w1, k + n = 12 → V (l, x1, m, sc) w1 → CF d x x1 → CU t (X_C x d) (X_C x1 d) → (∀ j, j < k → C_slots (X_C x1 d) t j = P_slot P t j ∧ C_dead (X_C x1 d) t j = R_dead r j) → wp KX0_keepsOne rc rs QR QX 2 [(0, vR (some (L_ad l d))), (1, vR (some (a.1 t))), (2, vI (nI t)), (3, vI (nI k))] [] w1 := by
  obtain ⟨r', hr', hh⟩ := hX.h ht hk
  rw [hr] at hr'
  cases hr'
  obtain ⟨a1, a2, a3, a4, a5, a6, a7, a8, a9, a10, a11, a12, a13⟩ := hh
  intro n
  induction n with
  | zero =>
    intro k x1 w1 hk2 hV hF hU hj
    have : k = 12 := by omega
    subst this
    have X1 := hF.1 a P D hX
    refine sg_X0_keepsOne_2 (lpc (N := 12) rfl (by decide) hk2 (fun _ => ⟨_, rfl, _, hV.cf3 hd, _, rfl, _, x_dm hV X1 ht (cI_h hk), k_deadMany hV hd ht (fun x2 w2 h2 F2 U2 ⟨e1, e2, e3, e4, e5, e6⟩ => ?_)⟩) (fun m e => by omega))
    have X2 := F2.1 a P D X1
    refine ⟨_, h2.cf4 hd, _, x_prev h2 X2 ht (cI_h hk), ?_, k_prevs h2 hd ht (fun x3 w3 h3 F3 U3 ⟨f1, f2, f3, f4, f5, f6⟩ => ?_)⟩
    · rcases hI.p ht hk with e | ⟨p, hp, e, hsp⟩
      · exact Or.inl (pO_m e)
      · exact Or.inr ⟨a.1 p, pO_n e hp, x_ck h2 X2 hp (cI_s hsp)⟩
    · have X3 := F3.1 a P D X2
      have tg : ∀ x4 w4, V (l, x4, m, sc) w4 → CF d x3 x4 → CU t (X_C x3 d) (X_C x4 d) → ((sK (P_kind P t) → C_owners (X_C x4 d) t = pO a (P_owner P t)) ∧ C_deadMany (X_C x4 d) t = C_deadMany (X_C x3 d) t ∧ C_prevs (X_C x4 d) t = C_prevs (X_C x3 d) t ∧ C_slots (X_C x4 d) t = C_slots (X_C x3 d) t ∧ C_dead (X_C x4 d) t = C_dead (X_C x3 d) t) → ∃ x87 : Nat, gf w4 (L_ad l d) [2] 6 (vR (some x87)) ∧ ((ck w4 (a.1 t) [4, 5, 6] ∧ ct (KX4_tags) 0 0 [vR (some (a.1 t))] w4 (fun v92 w92 => ∃ x92 : Int32, v92 = some (vI x92) ∧ pI w92 x87 (nI t) x92 (fun w95 => QR none w95)) (fun E92 w92 => False)) ∨ (isO w4 (a.1 t) 7 ∧ ct (KX8_tags) 0 0 [vR (some (a.1 t))] w4 (fun v92 w92 => ∃ x92 : Int32, v92 = some (vI x92) ∧ pI w92 x87 (nI t) x92 (fun w95 => QR none w95)) (fun E92 w92 => False))) := by
        intro x4 w4 h4 F4 U4 ⟨g1, g2, g3, g4, g5⟩
        have X4 := F4.1 a P D X3
        have fin : ∀ v : Int32, (P_kind P t = 3 → v = P_tags P t) → pI w4 (L_ad l (d + 7)) (nI t) v (fun w95 => QR none w95) := by
          intro v hv
          refine k_tags h4 hd ht (fun x5 w5 h5 F5 U5 ⟨i1, i2, i3, i4, i5, i6⟩ => ?_)
          refine h x5 w5 h5 ((((hF.tr F2).tr F3).tr F4).tr F5) ((((hU.tr U2).tr U3).tr U4).tr U5) ⟨?_, ?_, fun hs => ?_, fun h3' => ?_, fun k hk3 => ?_, a12, fun i hi => ?_⟩
          · rw [i2, g2, f2, e1]
          · rw [i3, g3, f1]
          · rw [i4, g1 hs]
          · rw [i1, hv h3']
          · rw [i5, g4, f5, e5]
            exact (hj k hk3).1
          · rw [i6, g5, f6, e6]
            exact (hj i (by omega)).2.trans (a13 i hi)
        refine ⟨_, h4.cf6 hd, ?_⟩
        by_cases c3 : P_kind P t = 3
        · exact Or.inr ⟨x_O h4 X4 ht hk (by rw [c3]; decide), st_X8_tags (sg_X8_tags_0 ⟨_, x_tags h4 X4 ht c3 (cI_3 c3), _, rfl, fin _ (fun _ => rfl)⟩)⟩
        · refine Or.inl ⟨x_ck h4 X4 ht ⟨hk, ?_⟩, st_X4_tags (sg_X4_tags_0 ⟨_, rfl, fin _ (fun z => absurd z c3)⟩)⟩
          rcases hk with (z | z) | (z | z)
          · rw [z]; decide
          · rw [z]; decide
          · rw [z]; decide
          · exact absurd z c3
      refine ⟨_, h3.cf5 hd, ?_⟩
      by_cases cs : sK (P_kind P t)
      · obtain ⟨f, hf, ef, hkf⟩ := hI.o ht cs
        refine Or.inl ⟨x_ck h3 X3 ht (cI_s cs), x_ck h3 X3 ht (cI_s cs), _, x_owner h3 X3 ht cs (cI_s cs) hf ef, x_ck h3 X3 hf (cI_f hkf), k_owners h3 hd ht (fun x4 w4 h4 F4 U4 ⟨o1, o2, o3, o4, o5, o6⟩ => tg x4 w4 h4 F4 U4 ⟨fun _ => ?_, o2, o3, o5, o6⟩)⟩
        rw [o1, pO_n ef hf]
      · have cf := hk.resolve_right cs
        exact Or.inr ⟨x_ck h3 X3 ht ⟨hk, by rcases cf with z | z <;> (rw [z]; decide)⟩, k_owners h3 hd ht (fun x4 w4 h4 F4 U4 ⟨o1, o2, o3, o4, o5, o6⟩ => tg x4 w4 h4 F4 U4 ⟨fun z => absurd z cs, o2, o3, o5, o6⟩)⟩
  | succ n ih =>
    intro k x1 w1 hk2 hV hF hU hj
    have X1 := hF.1 a P D hX
    have rs := hV.cr_slots hd (vp_in_nI ht (by decide))
    rw [nI_clamp (by omega)] at rs
    refine sg_X0_keepsOne_2 (lpc (N := 12) rfl (by decide) hk2 (fun e => by omega) (fun m e hk3 => ⟨_, rfl, _, hV.cf1 hd, _, rs, _, rfl, _, x_sa hV X1 ht (cI_h hk), _, x_slot hV X1 ht hk hk3, k_slot hV hd ht hk3 (fun x2 w2 h2 F2 U2 ⟨⟨s1, s2⟩, s3, s4, s5, s6, s7⟩ => ?_)⟩))
    have X2 := F2.1 a P D X1
    have rd := h2.cr_dead hd (vp_in_nI ht (by decide))
    rw [nI_clamp (by omega)] at rd
    have g := h2.hde (show X_H x2 (a.1 t) = some r by rw [F2.2.1, hF.2.1]; exact hr)
    rw [a4] at g
    refine ⟨_, h2.cf2 hd, _, rd, _, x_da h2 X2 ht (cI_h hk), R_dead r k, ⟨12, _, g, vp_in_nI hk3 (by decide), by rw [nI_clamp (by omega)]⟩, k_dead h2 hd ht hk3 (fun x3 w3 h3 F3 U3 ⟨⟨d1, d2⟩, d3, d4, d5, d6, d7⟩ => ?_)⟩
    rw [nI_1]
    refine ih (k + 1) x3 w3 (by omega) h3 ((hF.tr F2).tr F3) ((hU.tr U2).tr U3) (fun j hj2 => ?_)
    by_cases e : j = k
    · subst e
      exact ⟨(congrFun d7 j).trans s1, d1⟩
    · obtain ⟨q1, q2⟩ := hj j (by omega)
      exact ⟨(congrFun d7 j).trans ((s2 j e).trans q1), (d2 j e).trans ((congrFun s7 j).trans q2)⟩
theorem c_X0_keepsOne (hV : V (l, x, m, sc) w) (hX : XP x a P D) (hI : PI P) (hd : cp2 d) (ht : t < 20) (hk : hK (P_kind P t)) (h : ∀ x' w', V (l, x', m, sc) w' → CF d x x' → CU t (X_C x d) (X_C x' d) → KO (X_C x' d) a P D t → QR none w') : ct KX0_keepsOne 0 0 [vR (some (L_ad l d)), vR (some (a.1 t)), vI (nI t)] w QR QX := by
  obtain ⟨r, hr, -⟩ := hX.h ht hk
  exact st_X0_keepsOne (sg_X0_keepsOne_0 (lp_keepsOne hX hI hd ht hk hr h 12 0 x w rfl hV (CF.rf d x) (CU.rf t _) (fun j hj => absurd hj (Nat.not_lt_zero _))))
end XK1
