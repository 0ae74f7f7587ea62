/-! ===== the pool's sheets: what differs ===== -/
set_option maxRecDepth 100000
set_option maxHeartbeats 400000
theorem dfS_t {P : PT} {t u k : Nat} (c : P_slot P t k = P_slot P u k) : dfS P t u (k + 1) = dfS P t u k := if_pos c
theorem dfS_f {P : PT} {t u k : Nat} (c : ¬ P_slot P t k = P_slot P u k) : dfS P t u (k + 1) = ((dfS P t u k).1 + 2, fset (fset (dfS P t u k).2 (dfS P t u k).1 (nI k).toInt64) ((dfS P t u k).1 + 1) (szI P (P_slot P u k)).toInt64) := if_neg c
theorem dfS_1 {P : PT} {t u k : Nat} (c : ¬ P_slot P t k = P_slot P u k) : (dfS P t u (k + 1)).1 = (dfS P t u k).1 + 2 := by rw [dfS_f c]
theorem dfS_up (P : PT) (t u k : Nat) : ∀ n, (dfS P t u k).1 ≤ (dfS P t u (k + n)).1 := by
  intro n
  induction n with
  | zero => exact Nat.le_refl _
  | succ n ih =>
    by_cases c : P_slot P t (k + n) = P_slot P u (k + n)
    · rw [show k + (n + 1) = (k + n) + 1 by omega, dfS_t c]
      exact ih
    · rw [show k + (n + 1) = (k + n) + 1 by omega, dfS_1 c]
      omega
/-- the new row under way -/
def DFI (x0 : XT) (q N : Nat) (F : Nat → Int64) (x1 : XT) : Prop := X_rows x1 = X_rows x0 ∧ (∀ q', q' ≠ q → X_W x1 q' = X_W x0 q') ∧ X_W x1 q = some (N, .inr F) ∧ YF x0 x1
theorem DFI.up {x0 x1 : XT} {q N : Nat} {F G : Nat → Int64} (h : DFI x0 q N F x1) : DFI x0 q N G (X_W_ x1 (fset (X_W x1) q (some (N, .inr G)))) :=
  ⟨h.1, fun q' hq' => (fset_n hq').trans (h.2.1 q' hq'), fset_s, h.2.2.2.tr YF.W⟩
section XDf
variable {l : LT} {x : XT} {m : MT} {sc : Nat × (Nat → Int32)} {w : aW} {a : AT} {P : PT} {D : DT} {S : ST} {t u : Nat} {QR : Option aV → aW → Prop} {QX : String → aW → Prop} {rc rs B : Nat}
theorem lp_differs2 {x0 : XT} {s q N : Nat} (hX0 : XP x0 a P D) (hI : PI P) (hs : s < 4) (ht : t < 20) (hkt : hK (P_kind P t)) (hu : u < 20) (hku : hK (P_kind P u)) (hN : (dfS P t u 12).1 = N) (hend : ∀ F x1 w', V (l, X_rows_ x1 (fset (X_rows x1) s (some q)), m, sc) w' → DFI x0 q N F x1 → (∀ j, j < N → F j = (dfS P t u 12).2 j) → QR (some (vI (nI N))) w') : ∀ n k F x1 w1, k + n = 12 → V (l, x1, m, sc) w1 → DFI x0 q N F x1 → (∀ j, j < (dfS P t u k).1 → F j = (dfS P t u k).2 j) → wp KX0_differs rc rs QR QX 58 [(0, vR (some (L_ad l 0))), (1, vI (nI s)), (2, vR (some (a.1 t))), (3, vR (some (a.1 u))), (4, vI (nI N)), (5, vR (some q)), (6, vI (nI (dfS P t u k).1)), (7, vI (nI k))] [] w1 := by
  have hN24 : N ≤ 24 := by have := dfS_le P t u 12; omega
  intro n
  induction n with
  | zero =>
    intro k F x1 w1 hk hV hF hj
    have : k = 12 := by omega
    subst this
    have gs := hV.xg_sheet (vp_in_nI hs (by decide))
    rw [nI_clamp (by omega)] at gs
    exact sg_X0_differs_58 (lpc (N := 12) rfl (by decide) hk (fun _ => ⟨_, hV.xf7, _, gs, hV.xpf_row hs (fun w2 h2 => hend F x1 w2 h2 hF (fun j hj2 => hj j (by omega)))⟩) (fun m e => by omega))
  | succ n ih =>
    intro k F x1 w1 hk hV hF hj
    have hX := hF.2.2.2.1 a P D hX0
    refine sg_X0_differs_58 (lpc (N := 12) rfl (by decide) hk (fun e => by omega) (fun m' e hk2 => ⟨_, rfl, _, x_sa hV hX ht (cI_h hkt), _, x_slot hV hX ht hkt hk2, _, rfl, _, x_sa hV hX hu (cI_h hku), _, x_slot hV hX hu hku hk2, fun c => ?_, fun c => ?_⟩))
    · have hup := dfS_up P t u (k + 1) (12 - (k + 1))
      rw [show k + 1 + (12 - (k + 1)) = 12 by omega, hN, dfS_1 c] at hup
      have hfin : ∀ v x2 w2, v = (szI P (P_slot P u k)).toInt64 → V (l, x2, m, sc) w2 → DFI x0 q N (vp_updL F (dfS P t u k).1 (nI k).toInt64) x2 → pL w2 q (nI (dfS P t u k).1 + 1) v (fun w127 => wp KX0_differs rc rs QR QX 58 [(0, vR (some (L_ad l 0))), (1, vI (nI s)), (2, vR (some (a.1 t))), (3, vR (some (a.1 u))), (4, vI (nI N)), (5, vR (some q)), (6, vI (nI (dfS P t u k).1 + 2)), (7, vI (nI k + 1))] [] w127) := by
        intro v x2 w2 ev h2 F2
        rw [nI_1, nI_2, nI_1]
        refine ⟨N, _, h2.wr F2.2.2.1, vp_in_nI (by omega) (by omega), ?_⟩
        have h3 := h2.wset (y' := (N, .inr (vp_updL (vp_updL F (dfS P t u k).1 (nI k).toInt64) (nI ((dfS P t u k).1 + 1)).toNatClampNeg v))) F2.2.2.1
        have := ih (k + 1) _ _ _ (by omega) h3 F2.up (fun j hj2 => by
          rw [dfS_1 c] at hj2
          rw [dfS_f c, nI_clamp (by omega)]
          show _ = fset (fset (dfS P t u k).2 (dfS P t u k).1 (nI k).toInt64) ((dfS P t u k).1 + 1) (szI P (P_slot P u k)).toInt64 j
          by_cases e1 : j = (dfS P t u k).1 + 1
          · rw [e1, pk_uLs, fset_s, ev]
          · rw [pk_uLn e1, fset_n e1]
            by_cases e2 : j = (dfS P t u k).1
            · rw [e2, pk_uLs, fset_s]
            · rw [pk_uLn e2, fset_n e2]
              exact hj j (by omega))
        rw [dfS_1 c] at this
        exact this
      have h1 := hV.wset (y' := (N, .inr (vp_updL F (nI (dfS P t u k).1).toNatClampNeg (nI k).toInt64))) hF.2.2.1
      have F1 : DFI x0 q N (vp_updL F (dfS P t u k).1 (nI k).toInt64) (X_W_ x1 (fset (X_W x1) q (some (N, .inr (vp_updL F (nI (dfS P t u k).1).toNatClampNeg (nI k).toInt64))))) := by
        have := hF.up (G := vp_updL F (nI (dfS P t u k).1).toNatClampNeg (nI k).toInt64)
        rw [nI_clamp (by omega)] at this ⊢
        exact this
      have X1 := F1.2.2.2.1 a P D hX0
      refine ⟨q, rfl, N, F, hV.wr hF.2.2.1, vp_in_nI (by omega) (by omega), _, x_sa h1 X1 hu (cI_h hku), _, x_slot h1 X1 hu hku hk2, fun c2 => ?_, fun c2 => ?_⟩
      · rcases hI.s u k hu hk2 with z | ⟨b, hb, z⟩
        · exact absurd z c2
        · have gz := x_size h1 X1 hb
          rw [← z] at gz
          refine ⟨_, h1.xf0, _, x_sa h1 X1 hu (cI_h hku), _, x_slot h1 X1 hu hku hk2, _, gz, hfin _ _ _ ?_ h1 F1⟩
          unfold szI
          rw [if_neg c2, z, nI_clamp (by omega)]
      · refine hfin _ _ _ ?_ h1 F1
        unfold szI
        rw [if_pos c2]
        decide
    · have := ih (k + 1) F x1 w1 (by omega) hV hF (by rw [dfS_t c]; exact hj)
      rw [dfS_t c] at this
      rw [nI_1]
      exact this
theorem lp_differs1 (hV : V (l, x, m, sc) w) (hX : XP x a P D) {s : Nat} (ht : t < 20) (hkt : hK (P_kind P t)) (hu : u < 20) (hku : hK (P_kind P u)) (hend : (12 : Int32) ≤ nI 12 → wp KX0_differs rc rs QR QX 6 [(0, vR (some (L_ad l 0))), (1, vI (nI s)), (2, vR (some (a.1 t))), (3, vR (some (a.1 u))), (4, vI (nI (dfS P t u 12).1)), (5, vI (nI 12))] [] w) : ∀ n k, k + n = 12 → wp KX0_differs rc rs QR QX 6 [(0, vR (some (L_ad l 0))), (1, vI (nI s)), (2, vR (some (a.1 t))), (3, vR (some (a.1 u))), (4, vI (nI (dfS P t u k).1)), (5, vI (nI k))] [] w := by
  intro n
  induction n with
  | zero =>
    intro k hk
    have : k = 12 := by omega
    subst this
    exact hend (by decide)
  | succ n ih =>
    intro k hk
    refine sg_X0_differs_6 (lpc (N := 12) rfl (by decide) hk (fun e => by omega) (fun m' e hk2 => ⟨_, rfl, _, x_sa hV hX ht (cI_h hkt), _, x_slot hV hX ht hkt hk2, _, rfl, _, x_sa hV hX hu (cI_h hku), _, x_slot hV hX hu hku hk2, fun c => ?_, fun c => ?_⟩))
    · have := ih (k + 1) (by omega)
      rw [dfS_1 c] at this
      rw [nI_2, nI_1]
      exact this
    · have := ih (k + 1) (by omega)
      rw [dfS_t c] at this
      rw [nI_1, Int32.add_zero]
      exact this
theorem c_X0_differs (hV : V (l, x, m, sc) w) (hX : XP x a P D) (hS : SX x S) (hI : PI P) {s : Nat} (hs : s < 4) (ht : t < 20) (hkt : hK (P_kind P t)) (hu : u < 20) (hku : hK (P_kind P u)) (h : ∀ l' x' w', L_ad l' = L_ad l → V (l', x', m, sc) w' → SX x' (dfT P S s t u) → YF x x' → QR (some (vI (nI (dfS P t u 12).1))) w') : ct KX0_differs 1 24 [vR (some (L_ad l 0)), vI (nI s), vR (some (a.1 t)), vR (some (a.1 u))] w QR QX := by
  have hN24 := dfS_le P t u 12
  refine st_X0_differs (sg_X0_differs_0 (lp_differs1 hV hX ht hkt hu hku (fun _ => sg_X0_differs_6 ⟨fun _ => ⟨nI_pos (by omega), ?_⟩, fun z => absurd (by decide) z⟩) 12 0 rfl))
  rw [nI_clamp (by omega)]
  refine ⟨by omega, by decide, by omega, fun q w1 hq hw => ?_⟩
  have hq2 := hV.nowh hq
  have hqW := hV.noW hq2
  have hV1 := hV.nw (c := rcell ((dfS P t u 12).1, .inr (fun _ => 0))) hq2
  obtain ⟨l', el, hV2⟩ := hV1.newW (v := ((dfS P t u 12).1, .inr (fun _ => 0))) hq2 (aup_self ..)
  rw [hw, ← el]
  refine lp_differs2 (l := l') (x0 := x) (s := s) hX hI hs ht hkt hu hku rfl (fun F x1 w2 h2 F2 hj => h l' _ w2 el h2 ?_ (F2.2.2.2.tr YF.R)) 12 0 (fun _ => 0) _ _ rfl hV2 ⟨rfl, fun q' hq' => fset_n hq', fset_s, YF.W⟩ (fun j hj => absurd hj (Nat.not_lt_zero _))
  exact hS.new hs hqW F2.1 F2.2.1 (by omega) (Or.inr ⟨rfl, F, F2.2.2.1, hj⟩)
theorem c_X0_differ (hV : V (l, x, m, sc) w) (hX : XP x a P D) (hS : SX x S) (hI : PI P) {y i j : Int32} (h : ∀ l' x' w', L_ad l' = L_ad l → V (l', x', m, sc) w' → SX x' (o_differ P S y i j).2 → YF x x' → QR (some (vI (o_differ P S y i j).1)) w') : ct KX0_differ 9 1936 [vR (some (L_ad l 0)), vI y, vI i, vI j] w QR QX := by
  have no : ∀ v, o_differ P S y i j = (v, S) → QR (some (vI v)) w := by
    intro v e
    rw [e] at h
    exact h l x w rfl hV hS (YF.rf x)
  unfold o_differ at h no
  refine st_X0_differ (sg_X0_differ_0 (c_X0_isSheet ⟨_, rfl, fun c => ?_, fun c => ?_⟩))
  · have c1 := b2i_n0.mp c
    obtain ⟨s, hs, rfl⟩ := inI_n (H := 3) c1 rfl rfl (by decide)
    rw [if_pos c1] at h no
    have ne : ∀ e : Int32, ¬ e = 0 → askS P i = e → QR (some (vI e)) w := fun e h1 h2 => no e (by rw [h2, if_neg h1])
    refine ⟨by decide, by decide, hV.xO, c_X0_holderAsked hV hX hI (fun t ht e hkt => ⟨_, rfl, by decide, by decide, hV.xO, ?_⟩) (fun e => Or.inl ⟨rfl, ne _ (by decide) e⟩) (fun e => Or.inr (Or.inl ⟨rfl, ne _ (by decide) e⟩)) (fun e => Or.inr (Or.inr ⟨rfl, ne _ (by decide) e⟩))⟩
    subst e
    rw [if_pos (askS_ok ht hkt)] at h no
    have ne2 : ∀ e : Int32, ¬ e = 0 → askS P j = e → QR (some (vI e)) w := fun e h1 h2 => no e (by rw [h2, if_neg h1])
    refine c_X0_holderAsked hV hX hI (fun u hu e hku => ⟨_, rfl, by decide, by decide, hV.xO, ?_⟩) (fun e => Or.inl ⟨rfl, ne2 _ (by decide) e⟩) (fun e => Or.inr (Or.inl ⟨rfl, ne2 _ (by decide) e⟩)) (fun e => Or.inr (Or.inr ⟨rfl, ne2 _ (by decide) e⟩))
    subst e
    rw [if_pos (askS_ok hu hku), nI_clamp (by omega), nI_clamp (by omega), nI_clamp (by omega)] at h
    exact c_X0_differs hV hX hS hI (by omega) ht hkt hu hku (fun l' x1 w1 el h1 S1 F1 => ⟨_, rfl, h l' x1 w1 el h1 S1 F1⟩)
  · exact no _ (if_neg (b2i_0.mp c))
end XDf
