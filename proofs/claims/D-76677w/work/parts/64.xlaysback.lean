/-! ===== the pool lays all back: the loops ===== -/
set_option maxRecDepth 100000
set_option maxHeartbeats 400000
theorem XI.c {x x1 : XT} {d : Nat} (h : XI x x1) (hd : cp2 d) : X_C x1 d = X_C x d := by
  rcases hd with rfl | rfl
  · exact h.1
  · exact h.2.1
theorem KR.th {c : CT} {x : XT} {a : AT} {P : PT} {D : DT} (h : KR c x a P D) (hI : PI P) {t : Nat} (ht : t < 20) : C_things c t = thO a P t := by
  obtain ⟨h1, h2, h3, h4, h5, h6, h7⟩ := h
  rcases hI.k ht with e | e | e
  · exact (h5 t ht e).trans (if_pos e).symm
  · exact (h6 t ht e).1.trans (if_neg (by rw [e]; decide)).symm
  · exact (h7 t ht e).1.trans (if_neg (hK_m1 e)).symm
theorem IM.ir {x : XT} {a : AT} {P : PT} {t : Nat} (h : IM x a P t) : ∃ r, X_H x (a.1 t) = some r ∧ IR a P t r := h
section XB2
variable {l : LT} {x : XT} {m : MT} {sc : Nat × (Nat → Int32)} {w : aW} {a : AT} {P : PT} {D : DT} {d : Nat} {QR : Option aV → aW → Prop} {QX : String → aW → Prop} {rc rs : Nat}
theorem IR.ne {t u : Nat} {q : Nat} {r : RT} (ht : t < 20) (hu : u < 20) (hr : X_H x q = some r) (h1 : IR a P t r) (h2 : IR a P u r) : t = u := by
  have := h1.2.2.2.2.1.symm.trans h2.2.2.2.2.1
  exact (nI_eq (by omega) (by omega)).mp this
theorem lp_laysBack (hI : PI P) (hd : cp2 d) (hR : KR (X_C x d) x a P D) (h : ∀ x1 w1, V (l, x1, m, sc) w1 → LB x a P D 20 x1 → wp KX0_laysBack rc rs QR QX 54 [(0, vR (some (L_ad l 0))), (1, vR (some (L_ad l d))), (2, vI 0)] [] w1) : ∀ n k x1 w1, k + n = 20 → V (l, x1, m, sc) w1 → LB x a P D k x1 → wp KX0_laysBack rc rs QR QX 2 [(0, vR (some (L_ad l 0))), (1, vR (some (L_ad l d))), (2, vI (nI k))] [] w1 := by
  intro n
  induction n with
  | zero =>
    intro k x1 w1 hk hV hL
    have : k = 20 := by omega
    subst this
    exact sg_X0_laysBack_2 (lpc (N := 20) rfl (by decide) hk (fun _ => h x1 w1 hV hL) (fun m' e => by omega))
  | succ n ih =>
    intro k x1 w1 hk hV hL
    have R1 : KR (X_C x1 d) x1 a P D := by rw [hL.1.c hd]; exact hR.xi hL.1
    have hk2 : k < 20 := by omega
    have gt := hV.cg_things hd (vp_in_nI hk2 (by decide))
    rw [nI_clamp (by omega), R1.th hI hk2] at gt
    have ckk : ∀ x2 w2, V (l, x2, m, sc) w2 → KR (X_C x2 d) x2 a P D → ¬ P_kind P k = -1 → (hK (P_kind P k) ∧ ck w2 (a.1 k) [4, 5, 6, 7]) ∨ (¬ hK (P_kind P k) ∧ ck w2 (a.1 k) [8]) := by
      intro x2 w2 h2 R2 hn
      by_cases c : hK (P_kind P k)
      · obtain ⟨r, e1, e2⟩ := (R2.2.2.2.2.2.2 k hk2 c).2.1.ir
        exact Or.inl ⟨c, h2.hck e1 (by rw [e2.1]; exact (cI_h c).2)⟩
      · exact Or.inr ⟨c, h2.bck (R2.2.2.2.2.2.1 k hk2 (k_nh hI hk2 hn c)).2 (by decide)⟩
    refine sg_X0_laysBack_2 (lpc (N := 20) rfl (by decide) hk (fun e => by omega) (fun m' e _ => ⟨_, hV.xf4, _, rfl, _, hV.cf0 hd, _, gt, ?_, hV.xp_things (vp_in_nI hk2 (by decide)) (fun w2 h2 => ?_)⟩))
    · cases z : thO a P k with
      | none => exact Or.inl rfl
      | some q =>
        obtain ⟨hn, rfl⟩ := thO_some z
        refine Or.inr ⟨_, rfl, ?_⟩
        by_cases c : hK (P_kind P k)
        · obtain ⟨r, e1, e2⟩ := (R1.2.2.2.2.2.2 k hk2 c).2.1.ir
          exact hV.hck e1 (by rw [e2.1]; exact (cI_h8 c).2)
        · exact hV.bck (R1.2.2.2.2.2.1 k hk2 (k_nh hI hk2 hn c)).2 (by decide)
    · rw [nI_clamp (by omega)] at h2
      have T2 : X_things (X_things_ x1 (va_up (X_things x1) k (thO a P k))) k = thO a P k := va_s
      have L2 : LB x a P D k (X_things_ x1 (va_up (X_things x1) k (thO a P k))) := ⟨hL.1, hL.2.1, hL.2.2.1, fun u hu => ⟨(va_n (by omega)).trans (hL.2.2.2 u hu).1, (hL.2.2.2 u hu).2⟩⟩
      revert h2 T2 L2
      generalize X_things_ x1 (va_up (X_things x1) k (thO a P k)) = x2
      intro h2 T2 L2
      have R2 : KR (X_C x2 d) x2 a P D := by rw [L2.1.c hd]; exact hR.xi L2.1
      have gx := h2.xg_things (vp_in_nI hk2 (by decide))
      rw [nI_clamp (by omega), T2] at gx
      refine ⟨_, h2.xf4, _, gx, fun z => ?_, fun q z => ?_⟩
      · rw [nI_1]
        refine ih (k + 1) x2 w2 (by omega) h2 ⟨L2.1, L2.2.1, L2.2.2.1, fun u hu => ?_⟩
        by_cases e : u = k
        · subst e
          exact ⟨T2, fun c => absurd (thO_none z) (hK_m1 c)⟩
        · exact L2.2.2.2 u (by omega)
      · obtain ⟨hn, rfl⟩ := thO_some z
        rcases ckk x2 w2 h2 R2 hn with ⟨c, ckc⟩ | ⟨c, ckc⟩
        · obtain ⟨_, im, ko⟩ := R2.2.2.2.2.2.2 k hk2 c
          obtain ⟨r, e1, e2⟩ := im.ir
          refine Or.inl ⟨ckc, _, h2.xf4, _, gx, _, z, ckc, c_X0_laysOneBack h2 hd hk2 c ko e1 e2 (fun x3 w3 r3 h3 F3 e3 H3 => ⟨rfl, ?_⟩)⟩
          rw [nI_1]
          refine ih (k + 1) x3 w3 (by omega) h3 ⟨L2.1.tr (F3.xi c e1 e3 e2 H3.ir), F3.2.2.2.1.trans L2.2.1, F3.2.2.2.2.1.trans L2.2.2.1, fun u hu => ?_⟩
          by_cases e : u = k
          · subst e
            exact ⟨(congrFun F3.1 u).trans T2, fun _ => ⟨r3, e3, H3⟩⟩
          · refine ⟨(congrFun F3.1 u).trans (L2.2.2.2 u (by omega)).1, fun cu => ?_⟩
            obtain ⟨ru, q1, q2⟩ := (L2.2.2.2 u (by omega)).2 cu
            refine ⟨ru, (F3.2.2.2.2.2.2 _ (fun ee => e ?_)).trans q1, q2⟩
            rw [ee] at q1
            rw [e1] at q1
            cases q1
            exact IR.ne (by omega) hk2 e1 q2.ir e2
        · refine Or.inr ⟨ckc, ?_⟩
          rw [nI_1]
          refine ih (k + 1) x2 w2 (by omega) h2 ⟨L2.1, L2.2.1, L2.2.2.1, fun u hu => ?_⟩
          by_cases e : u = k
          · subst e
            exact ⟨T2, fun y => absurd y c⟩
          · exact L2.2.2.2 u (by omega)
end XB2
