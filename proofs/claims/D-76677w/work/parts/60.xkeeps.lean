/-! ===== the pool keeps all in a copy ===== -/
set_option maxRecDepth 100000
set_option maxHeartbeats 400000
def KH (c : CT) (a : AT) (P : PT) (D : DT) (u : Nat) : Prop := C_things c u = thO a P u ∧ (hK (P_kind P u) → KO c a P D u)
theorem KO.cg {c c' : CT} {a : AT} {P : PT} {D : DT} {u : Nat} (h : KO c a P D u) (e : C_deadMany c' u = C_deadMany c u ∧ C_prevs c' u = C_prevs c u ∧ C_owners c' u = C_owners c u ∧ C_tags c' u = C_tags c u ∧ C_slots c' u = C_slots c u ∧ C_dead c' u = C_dead c u) : KO c' a P D u := by
  obtain ⟨e1, e2, e3, e4, e5, e6⟩ := e
  obtain ⟨h1, h2, h3, h4, h5, h6, h7⟩ := h
  exact ⟨e1.trans h1, e2.trans h2, fun z => e3.trans (h3 z), fun z => e4.trans (h4 z), fun k hk => (congrFun e5 k).trans (h5 k hk), h6, fun i hi => (congrFun e6 i).trans (h7 i hi)⟩
section XK2
variable {l : LT} {x : XT} {m : MT} {sc : Nat × (Nat → Int32)} {w : aW} {a : AT} {P : PT} {D : DT} {d : Nat} {QR : Option aV → aW → Prop} {QX : String → aW → Prop} {rc rs : Nat}
theorem lp_keeps2 (hX : XP x a P D) (hI : PI P) (hd : cp2 d) (h : ∀ x' w', V (l, x', m, sc) w' → CF d x x' → KR (X_C x' d) x a P D → QR none w') : ∀ n k x1 w1, k + n = 96 → V (l, x1, m, sc) w1 → CF d x x1 → (∀ u, u < 20 → KH (X_C x1 d) a P D u) → (∀ b, b < k → C_sizes (X_C x1 d) b = P_size P b ∧ C_births (X_C x1 d) b = P_birth P b) → wp KX0_keeps rc rs QR QX 54 [(0, vR (some (L_ad l 0))), (1, vR (some (L_ad l d))), (2, vI (nI k))] [] w1 := by
  intro n
  induction n with
  | zero =>
    intro k x1 w1 hk hV hF hH hj
    have : k = 96 := by omega
    subst this
    have X1 := hF.1 a P D hX
    refine sg_X0_keeps_54 (lpc (N := 96) rfl (by decide) hk (fun _ => ⟨_, x_time hV X1, _, rfl, hV.cpf_time hd (fun w2 h2 => ?_)⟩) (fun m e => by omega))
    have X2 := (CF.C (c := C_time_ (X_C x1 d) (P_time P)) hd).1 a P D X1
    refine ⟨_, x_freed h2 X2, h2.cpf_freed hd (fun w3 h3 => h _ w3 h3 ((hF.tr (CF.C hd)).tr (CF.C hd)) ?_)⟩
    rw [X_C_s hd, X_C_s hd]
    refine ⟨rfl, rfl, fun b hb => (hj b hb).1, fun b hb => (hj b hb).2, fun t ht e => (hH t ht).1.trans (if_pos e), fun t ht e => ⟨(hH t ht).1.trans (if_neg (by rw [e]; decide)), (hX.2.2.2.2.2.1 t ht e).2⟩, fun t ht e => ⟨(hH t ht).1.trans (if_neg (hK_m1 e)), ?_, (hH t ht).2 e⟩⟩
    obtain ⟨r, h1, hh⟩ := hX.h ht e
    exact hh.im h1
  | succ n ih =>
    intro k x1 w1 hk hV hF hH hj
    have X1 := hF.1 a P D hX
    refine sg_X0_keeps_54 (lpc (N := 96) rfl (by decide) hk (fun e => by omega) (fun m' e hk2 => ⟨_, rfl, _, hV.cf7 hd, _, hV.xf0, _, x_size hV X1 hk2, hV.cp_sizes hd (vp_in_nI hk2 (by decide)) (fun w2 h2 => ?_)⟩))
    have X2 := (CF.C (c := C_sizes_ (X_C x1 d) (upd (C_sizes (X_C x1 d)) (nI k).toNatClampNeg (P_size P k))) hd).1 a P D X1
    refine ⟨_, h2.cf8 hd, _, h2.xf1, _, x_birth h2 X2 hk2, h2.cp_births hd (vp_in_nI hk2 (by decide)) (fun w3 h3 => ?_)⟩
    rw [nI_1]
    refine ih (k + 1) _ w3 (by omega) h3 ((hF.tr (CF.C hd)).tr (CF.C hd)) (fun u hu => ?_) (fun b hb => ?_)
    · rw [X_C_s hd, X_C_s hd]
      exact ⟨(hH u hu).1, fun z => ((hH u hu).2 z).cg ⟨rfl, rfl, rfl, rfl, rfl, rfl⟩⟩
    · rw [X_C_s hd, X_C_s hd, nI_clamp (by omega)]
      show upd (C_sizes (X_C x1 d)) k (P_size P k) b = _ ∧ upd (C_births (X_C x1 d)) k (P_birth P k) b = _
      by_cases e : b = k
      · subst e
        rw [pk_us, pk_us]
        exact ⟨rfl, rfl⟩
      · rw [pk_un e, pk_un e]
        exact hj b (by omega)
theorem lp_keeps (hX : XP x a P D) (hI : PI P) (hd : cp2 d) (h : ∀ x' w', V (l, x', m, sc) w' → CF d x x' → KR (X_C x' d) x a P D → QR none w') : ∀ n k x1 w1, k + n = 20 → V (l, x1, m, sc) w1 → CF d x x1 → (∀ u, u < k → KH (X_C x1 d) a P D u) → wp KX0_keeps rc rs QR QX 2 [(0, vR (some (L_ad l 0))), (1, vR (some (L_ad l d))), (2, vI (nI k))] [] w1 := by
  intro n
  induction n with
  | zero =>
    intro k x1 w1 hk hV hF hH
    have : k = 20 := by omega
    subst this
    exact sg_X0_keeps_2 (lpc (N := 20) rfl (by decide) hk (fun _ => lp_keeps2 hX hI hd h 96 0 x1 w1 rfl hV hF hH (fun b hb => absurd hb (Nat.not_lt_zero _))) (fun m e => by omega))
  | succ n ih =>
    intro k x1 w1 hk hV hF hH
    have X1 := hF.1 a P D hX
    refine sg_X0_keeps_2 (lpc (N := 20) rfl (by decide) hk (fun e => by omega) (fun m' e hk2 => ⟨_, rfl, _, hV.cf0 hd, _, hV.xf4, _, x_th hV X1 hI hk2, ?_, hV.cp_things hd (vp_in_nI hk2 (by decide)) (fun w2 h2 => ?_)⟩))
    · cases z : thO a P k with
      | none => exact Or.inl rfl
      | some q =>
        obtain ⟨hn, rfl⟩ := thO_some z
        refine Or.inr ⟨_, rfl, ?_⟩
        by_cases c : hK (P_kind P k)
        · exact x_ck hV X1 hk2 (cI_h8 c)
        · exact x_bck hV X1 hk2 (k_nh hI hk2 hn c) (by decide)
    · rw [nI_clamp (by omega)] at h2
      have X2 := (CF.C (c := C_things_ (X_C x1 d) (va_up (C_things (X_C x1 d)) k (thO a P k))) hd).1 a P D X1
      have F2 := hF.tr (CF.C (x := x1) (c := C_things_ (X_C x1 d) (va_up (C_things (X_C x1 d)) k (thO a P k))) hd)
      have H2 : ∀ u, u < k → KH (X_C (X_C_ x1 d (C_things_ (X_C x1 d) (va_up (C_things (X_C x1 d)) k (thO a P k)))) d) a P D u := by
        intro u hu
        rw [X_C_s hd]
        exact ⟨(va_n (by omega)).trans (hH u hu).1, fun z => ((hH u hu).2 z).cg ⟨rfl, rfl, rfl, rfl, rfl, rfl⟩⟩
      have T2 : C_things (X_C (X_C_ x1 d (C_things_ (X_C x1 d) (va_up (C_things (X_C x1 d)) k (thO a P k)))) d) k = thO a P k := by
        rw [X_C_s hd]
        exact va_s
      revert h2 X2 F2 H2 T2
      generalize X_C_ x1 d (C_things_ (X_C x1 d) (va_up (C_things (X_C x1 d)) k (thO a P k))) = x2
      intro h2 X2 F2 H2 T2
      have nxt : ∀ x3 w3, V (l, x3, m, sc) w3 → CF d x2 x3 → (∀ u, u < k + 1 → KH (X_C x3 d) a P D u) → wp KX0_keeps rc rs QR QX 2 [(0, vR (some (L_ad l 0))), (1, vR (some (L_ad l d))), (2, vI (nI k + 1))] [] w3 := by
        intro x3 w3 h3 F3 H3
        rw [nI_1]
        exact ih (k + 1) x3 w3 (by omega) h3 (F2.tr F3) H3
      have H3 : ¬ hK (P_kind P k) → ∀ u, u < k + 1 → KH (X_C x2 d) a P D u := by
        intro c u hu
        by_cases e : u = k
        · subst e
          exact ⟨T2, fun z => absurd z c⟩
        · exact H2 u (by omega)
      refine ⟨_, h2.xf4, _, x_th h2 X2 hI hk2, fun z => ?_, fun q z => ?_⟩
      · have e := thO_none z
        exact nxt x2 w2 h2 (CF.rf d x2) (H3 (fun c => hK_m1 c e))
      · obtain ⟨hn, rfl⟩ := thO_some z
        by_cases c : hK (P_kind P k)
        · refine Or.inl ⟨x_ck h2 X2 hk2 (cI_h c), _, h2.xf4, _, x_th h2 X2 hI hk2, _, z, x_ck h2 X2 hk2 (cI_h c), c_X0_keepsOne h2 X2 hI hd hk2 c (fun x3 w3 h3 F3 U3 O3 => ⟨rfl, nxt x3 w3 h3 F3 (fun u hu => ?_)⟩)⟩
          by_cases e : u = k
          · subst e
            exact ⟨(congrFun U3.1 u).trans T2, fun _ => O3⟩
          · exact ⟨(congrFun U3.1 u).trans (H2 u (by omega)).1, fun z => ((H2 u (by omega)).2 z).cg (U3.2.2.2.2.2 u e)⟩
        · exact Or.inr ⟨x_bck h2 X2 hk2 (k_nh hI hk2 hn c) (by decide), nxt x2 w2 h2 (CF.rf d x2) (H3 c)⟩
theorem c_X0_keeps (hV : V (l, x, m, sc) w) (hX : XP x a P D) (hI : PI P) (hd : cp2 d) (h : ∀ x' w', V (l, x', m, sc) w' → CF d x x' → KR (X_C x' d) x a P D → QR none w') : ct KX0_keeps 0 0 [vR (some (L_ad l 0)), vR (some (L_ad l d))] w QR QX :=
  st_X0_keeps (sg_X0_keeps_0 (lp_keeps hX hI hd h 20 0 x w rfl hV (CF.rf d x) (fun u hu => absurd hu (Nat.not_lt_zero _))))
end XK2
