/-! ===== the pool lays all back; back ===== -/
set_option maxRecDepth 100000
set_option maxHeartbeats 400000
section XB3
variable {l : LT} {x : XT} {m : MT} {sc : Nat × (Nat → Int32)} {w : aW} {a : AT} {P : PT} {D : DT} {d : Nat} {QR : Option aV → aW → Prop} {QX : String → aW → Prop} {rc rs : Nat}
theorem lp_laysBack2 (hd : cp2 d) (hR : KR (X_C x d) x a P D) (h : ∀ x' w', V (l, x', m, sc) w' → XP x' a P D → XI x x' → X_rows x' = X_rows x → X_W x' = X_W x → QR none w') : ∀ n k x1 w1, k + n = 96 → V (l, x1, m, sc) w1 → LB x a P D 20 x1 → (∀ b, b < k → X_sizes x1 b = P_size P b ∧ X_births x1 b = P_birth P b) → wp KX0_laysBack rc rs QR QX 54 [(0, vR (some (L_ad l 0))), (1, vR (some (L_ad l d))), (2, vI (nI k))] [] w1 := by
  intro n
  induction n with
  | zero =>
    intro k x1 w1 hk hV hL hj
    have : k = 96 := by omega
    subst this
    have R1 : KR (X_C x1 d) x1 a P D := by rw [hL.1.c hd]; exact hR.xi hL.1
    have ct := hV.cf_time hd
    rw [R1.1] at ct
    refine sg_X0_laysBack_54 (lpc (N := 96) rfl (by decide) hk (fun _ => ⟨_, rfl, _, ct, hV.xpf_time (fun w2 h2 => ?_)⟩) (fun m' e => by omega))
    have cf := h2.cf_freed hd
    have e2 : X_C (X_time_ x1 (P_time P)) d = X_C x1 d := by rcases hd with rfl | rfl <;> rfl
    rw [e2, R1.2.1] at cf
    refine ⟨_, cf, h2.xpf_freed (fun w3 h3 => h _ w3 h3 ⟨rfl, rfl, fun b hb => (hj b hb).1, fun b hb => (hj b hb).2, fun t ht e => ((hL.2.2.2 t ht).1).trans (if_pos e), fun t ht e => ⟨((hL.2.2.2 t ht).1).trans (if_neg (by rw [e]; decide)), (R1.2.2.2.2.2.1 t ht e).2⟩, fun t ht e => ⟨((hL.2.2.2 t ht).1).trans (if_neg (hK_m1 e)), (hL.2.2.2 t ht).2 e⟩⟩ hL.1 hL.2.1 hL.2.2.1)⟩
  | succ n ih =>
    intro k x1 w1 hk hV hL hj
    have hk2 : k < 96 := by omega
    have R1 : KR (X_C x1 d) x1 a P D := by rw [hL.1.c hd]; exact hR.xi hL.1
    have cs := hV.cg_sizes hd (vp_in_nI hk2 (by decide))
    rw [nI_clamp (by omega), R1.2.2.1 k hk2] at cs
    refine sg_X0_laysBack_54 (lpc (N := 96) rfl (by decide) hk (fun e => by omega) (fun m' e _ => ⟨_, hV.xf0, _, rfl, _, hV.cf7 hd, _, cs, hV.xp_sizes (vp_in_nI hk2 (by decide)) (fun w2 h2 => ?_)⟩))
    rw [nI_clamp (by omega)] at h2
    have e2 : X_C (X_sizes_ x1 (upd (X_sizes x1) k (P_size P k))) d = X_C x1 d := by rcases hd with rfl | rfl <;> rfl
    have cb := h2.cg_births hd (vp_in_nI hk2 (by decide))
    rw [nI_clamp (by omega), e2, R1.2.2.2.1 k hk2] at cb
    refine ⟨_, h2.xf1, _, h2.cf8 hd, _, cb, h2.xp_births (vp_in_nI hk2 (by decide)) (fun w3 h3 => ?_)⟩
    rw [nI_clamp (by omega)] at h3
    rw [nI_1]
    refine ih (k + 1) _ w3 (by omega) h3 hL (fun b hb => ?_)
    show upd (X_sizes x1) k (P_size P k) b = _ ∧ upd (X_births x1) k (P_birth P k) b = _
    by_cases e : b = k
    · subst e
      rw [pk_us, pk_us]
      exact ⟨rfl, rfl⟩
    · rw [pk_un e, pk_un e]
      exact hj b (by omega)
theorem c_X0_laysBack (hV : V (l, x, m, sc) w) (hI : PI P) (hd : cp2 d) (hR : KR (X_C x d) x a P D) (h : ∀ x' w', V (l, x', m, sc) w' → XP x' a P D → XI x x' → X_rows x' = X_rows x → X_W x' = X_W x → QR none w') : ct KX0_laysBack 0 0 [vR (some (L_ad l 0)), vR (some (L_ad l d))] w QR QX :=
  st_X0_laysBack (sg_X0_laysBack_0 (lp_laysBack hI hd hR (fun x1 w1 h1 L1 => lp_laysBack2 hd hR h 96 0 x1 w1 rfl h1 L1 (fun b hb => absurd hb (Nat.not_lt_zero _))) 20 0 x w rfl hV ⟨XI.rf x, rfl, rfl, fun u hu => absurd hu (Nat.not_lt_zero _)⟩))
end XB3
