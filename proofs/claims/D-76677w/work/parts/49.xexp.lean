/-! ===== the pool: old ones expire ===== -/
set_option maxRecDepth 100000
set_option maxHeartbeats 400000
theorem rmN_ex (P : PT) (pv : Int32) (L : List Nat) : ∃ n, rmN P pv L n := by
  have main : ∀ d n, n + d = L.length → (∀ i, i < n → ¬ P_birth P (gD L i) ≤ pv) → ∃ n, rmN P pv L n := by
    intro d
    induction d with
    | zero => intro n h1 h2; exact ⟨n, by omega, h2, Or.inl (by omega)⟩
    | succ d ih =>
      intro n h1 h2
      by_cases c : P_birth P (gD L n) ≤ pv
      · exact ⟨n, by omega, h2, Or.inr c⟩
      · refine ih (n + 1) (by omega) (fun i hi => ?_)
        by_cases e : i = n
        · rw [e]; exact c
        · exact h2 i (by omega)
  exact main L.length 0 (by omega) (fun i hi => absurd hi (Nat.not_lt_zero _))
theorem rmd_k (P : PT) (s : Nat) : P_kind (o_removed P s).2 = fset (P_kind P) s (-1) := (Z_gcP (rmP P s)).2.2.1.trans (Z_rmP P s).2.2.1
theorem GI.rmd {P : PT} {D : DT} {B : Nat} (h : GI P D B) {s : Nat} (hs : s < 20) (hk : sK (P_kind P s)) (hn1 : nNx P (nI s) = 1) : ∃ D', GI (o_removed P s).2 D' B := by
  obtain ⟨n, hn⟩ := rmN_ex P (pm P s) (D (nxO P s))
  obtain ⟨-, e, g⟩ := law_rmS h hs hk hn1 hn
  rw [e] at g
  exact ⟨_, g⟩
theorem rmd_s {P : PT} {L : List Nat} (hn : L.Nodup) {k : Nat} (hk : k < L.length) (hL : ∀ i, i < k + 1 → gD L i < 20 ∧ sK (P_kind P (gD L i))) : ∀ i, i < k → gD L i < 20 ∧ sK (P_kind (o_removed P (gD L k)).2 (gD L i)) := by
  intro i hi
  refine ⟨(hL i (by omega)).1, ?_⟩
  rw [rmd_k, fset_n (fun e => ?_)]
  · exact (hL i (by omega)).2
  · have := gD_inj hn (by omega) hk e
    omega
/-- all along, no thing is its own prev -/
theorem law_exO {B : Nat} {every : Int32} {lo : Nat} {L : List Nat} (hn : L.Nodup) : ∀ k P D, k ≤ L.length → GI P D B → (∀ i, i < k → gD L i < 20 ∧ sK (P_kind P (gD L i))) → exO every L lo k P := by
  intro k
  induction k with
  | zero => intro P D _ _ _; exact True.intro
  | succ k ih =>
    intro P D hk hG hL
    obtain ⟨a1, a2⟩ := hL k (by omega)
    refine Or.inr ⟨⟨hG.pi.2.2.2, fun e => hG.j15.2 _ a1 e⟩, fun c => ?_, fun c => ih P D (by omega) hG (fun i hi => hL i (by omega))⟩
    obtain ⟨D', G'⟩ := hG.rmd a1 a2 c.2.2
    exact ih _ D' (by omega) G' (rmd_s hn (by omega) hL)
section XEx
variable {l : LT} {x : XT} {m : MT} {sc : Nat × (Nat → Int32)} {w : aW} {a : AT} {P : PT} {D : DT} {t u : Nat} {QR : Option aV → aW → Prop} {QX : String → aW → Prop} {rc rs B : Nat}
theorem lp_expires {W : List Nat} (hn : W.Nodup) (hl : W.length ≤ 20) {every : Int32} {lo : Nat} (hlo : lo ≤ 20) (he : ¬ every = 0) {f : Nat} : ∀ k c P D x1 w1, k ≤ W.length → V (l, x1, m, sc) w1 → XP x1 a P D → GI P D B → XF x x1 → (∀ i, i < k → X_own x1 i = some (a.1 (gD W i))) → (∀ i, i < k → gD W i < 20 ∧ sK (P_kind P (gD W i))) → (∀ x' w' D', V (l, x', m, sc) w' → XP x' a (exS every W lo k c P).2 D' → GI (exS every W lo k c P).2 D' B → XF x x' → QR (some (vI (nI (exS every W lo k c P).1))) w') → wp KX0_expires rc rs QR QX 12 [(0, vR (some (L_ad l 0))), (1, vR (some (a.1 f))), (2, vI (nI lo)), (3, vI every), (4, vI (nI c)), (5, vI (nI k - 1))] [] w1 := by
  intro k
  induction k with
  | zero =>
    intro c P D x1 w1 hk hV hX hG hF hO hL h
    refine sg_X0_expires_12 ⟨fun _ => h x1 w1 D hV hX hG hF, fun z => ?_⟩
    exfalso
    apply z
    rw [Int32.lt_iff_toInt_lt, nI_toInt (by omega)]
    have : (nI 0 - 1).toInt = -1 := by decide
    omega
  | succ k ih =>
    intro c P D x1 w1 hk hV hX hG hF hO hL h
    rw [nI_m]
    obtain ⟨a1, a2⟩ := hL k (by omega)
    have gk := hV.xg_own (vp_in_nI (by omega : k < 20) (by decide))
    rw [nI_clamp (by omega), hO k (by omega)] at gk
    have em : nI k + (-1) = nI k - 1 := by rw [Int32.sub_eq_add_neg]
    refine sg_X0_expires_12 ⟨fun c1 => ?_, fun c1 => ⟨_, hV.xf6, _, gk, _, rfl, _, x_made hV hX a1 (cI_s a2), he, ?_⟩⟩
    · have := (nI_ltI (by omega) (by omega)).mp c1
      rw [exS_lo this] at h
      exact h x1 w1 D hV hX hG hF
    · have hk2 : ¬ k < lo := fun z => c1 (nI_lt z (by omega))
      have hskip : ¬ (exI every (P_made P (gD W k)) ∧ lsP P (gD W k)) → wp KX0_expires rc rs QR QX 12 [(0, vR (some (L_ad l 0))), (1, vR (some (a.1 f))), (2, vI (nI lo)), (3, vI every), (4, vI (nI c)), (5, vI (nI k + (-1)))] [] w1 := by
        intro z
        rw [exS_f hk2 z] at h
        rw [em]
        exact ih c P D x1 w1 (by omega) hV hX hG hF (fun i hi => hO i (by omega)) (fun i hi => hL i (by omega)) h
      refine ⟨fun c2 => hskip (fun z => z.1 c2), fun c2 => ⟨_, hV.xf6, _, gk, hV.xO, c_X0_isLoose hV hX hG.pi hG.tq a1 a2 ⟨_, rfl, fun c3 => hskip (fun z => bI_0.mp c3 z.2), fun c3 => ⟨_, hV.xf6, _, gk, hV.xO, ?_⟩⟩⟩⟩
      have hlo3 := bI_n0.mp c3
      rw [exS_t hk2 ⟨c2, hlo3⟩] at h
      refine c_X0_removes hV hX hG.pi hG.db a1 a2 hlo3.2 (fun n hr => hG.lm _ n a1 a2 hlo3.2 hr) (fun n x2 w2 hr h2 X2 K2 => ⟨_, rfl, ?_⟩)
      obtain ⟨-, e, G2⟩ := law_rmS hG a1 a2 hlo3.2 hr
      rw [e] at X2 G2
      rw [em, nI_1]
      exact ih (c + 1) _ _ x2 w2 (by omega) h2 X2 G2 (hF.tr K2.1) (fun i hi => (congrFun K2.2 i).trans (hO i (by omega))) (rmd_s hn (by omega) hL) h
theorem c_X0_expires (hV : V (l, x, m, sc) w) (hX : XP x a P D) (hG : GI P D B) {f : Nat} (hf : f < 20) (hk : fK (P_kind P f)) {lo : Nat} (hlo : lo ≤ 20) {every : Int32} (he : ¬ every = 0) (h : ∀ x' w' D', V (l, x', m, sc) w' → XP x' a (exS every (oW P (nI f) (chl P f)) lo (oW P (nI f) (chl P f)).length 0 P).2 D' → GI (exS every (oW P (nI f) (chl P f)) lo (oW P (nI f) (chl P f)).length 0 P).2 D' B → XF x x' → QR (some (vI (nI (exS every (oW P (nI f) (chl P f)) lo (oW P (nI f) (chl P f)).length 0 P).1))) w') : ct KX0_expires 1 8 [vR (some (L_ad l 0)), vR (some (a.1 f)), vI (nI lo), vI every] w QR QX := by
  have hC := hG.ch hf (Or.inl hk)
  have hcs := hG.pi.cs hf (Or.inl hk) hC
  have hnd := hG.chd hcs hC
  have hlen : (chl P f).length ≤ 20 := chn_len P 20 _
  obtain ⟨C, e, -, -⟩ := oW_sp (P := P) (nI f) (chl P f)
  have hWl : (oW P (nI f) (chl P f)).length ≤ 20 := by
    have := congrArg List.length e
    rw [List.length_append] at this
    omega
  refine st_X0_expires (sg_X0_expires_0 ⟨Nat.le_refl _, Nat.le_refl _, hV.xO, c_X0_gathers hV hX hG.pi hf hk hC hlen (fun x1 w1 h1 X1 K1 hm => ⟨_, rfl, ?_⟩)⟩)
  refine lp_expires (x := x) (f := f) (W := oW P (nI f) (chl P f)) ?_ hWl hlo he _ 0 P D x1 w1 (Nat.le_refl _) h1 X1 hG K1 hm (fun i hi => ?_) h
  · rw [e] at hnd
    exact (List.nodup_append.mp hnd).1
  · have h0 := List.mem_append_left C (gX_mem hi)
    rw [← e] at h0
    exact hcs _ h0
noncomputable def o_expire (P : PT) (i lo every : Int32) : Int32 × PT := if inI lo 0 20 ∧ inI every 1 100 then (if ask P i 0 = 0 then (nI (exS every (oW P i (chl P i.toNatClampNeg)) lo.toNatClampNeg (oW P i (chl P i.toNatClampNeg)).length 0 P).1, (exS every (oW P i (chl P i.toNatClampNeg)) lo.toNatClampNeg (oW P i (chl P i.toNatClampNeg)).length 0 P).2) else (ask P i 0, P)) else (-2, P)
theorem c_X0_expire (hV : V (l, x, m, sc) w) (hX : XP x a P D) (hG : GI P D B) {i lo every : Int32} (h : ∀ x' w' D', V (l, x', m, sc) w' → XP x' a (o_expire P i lo every).2 D' → GI (o_expire P i lo every).2 D' B → XF x x' → QR (some (vI (o_expire P i lo every).1)) w') : ct KX0_expire 4 960 [vR (some (L_ad l 0)), vI i, vI lo, vI every] w QR QX := by
  have no : ∀ v, o_expire P i lo every = (v, P) → QR (some (vI v)) w := by
    intro v e
    rw [e] at h
    exact h x w D hV hX hG (XF.rf x)
  refine st_X0_expire (sg_X0_expire_0 (c_X0_inI 0 20 (by decide) (by decide) ⟨_, rfl, fun c => ?_, fun c => c_X0_inI 1 100 (by decide) (by decide) ⟨_, rfl, fun c2 => ?_, fun c2 => ?_⟩⟩))
  · exact no _ (if_neg (fun z => b2i_0.mp c z.1))
  · have c1 := b2i_n0.mp c
    have c4 := b2i_n0.mp c2
    obtain ⟨N, hN, rfl⟩ := inI_n (H := 20) c1 rfl rfl (by decide)
    have he : ¬ every = 0 := by
      intro e
      rw [e] at c4
      exact c4.1 (by decide)
    have e0 : o_expire P i (nI N) every = _ := if_pos ⟨c1, c4⟩
    refine ⟨by decide, by decide, hV.xO, c_X0_thingAt hV hX hG.pi (fun t ht e => ⟨_, rfl, fun z => ?_, fun q z => ?_⟩) (fun z => ⟨rfl, ?_⟩)⟩
    · subst e
      refine ⟨by decide, by decide, hV.xO, st_X0_expires (sg_X0_expires_0 ⟨by decide, by decide, hV.xO, c_X0_gathers_none ⟨rfl, rfl, no _ ?_⟩⟩)⟩
      rw [e0, ask_none ht (thO_none z), if_neg (by decide)]
    · subst e
      obtain ⟨hn, rfl⟩ := thO_some z
      by_cases cf : fK (P_kind P t)
      · refine Or.inl ⟨x_ck hV hX ht (cI_f cf), by decide, by decide, hV.xO, c_X0_expires hV hX hG ht cf hN he ?_⟩
        rw [e0, if_pos (ask_ok ht hn ((uKd_0 _).mpr cf)), nI_clamp (by omega), nI_clamp (by omega)] at h
        exact fun x1 w1 D1 h1 X1 G1 F1 => ⟨_, rfl, h x1 w1 D1 h1 X1 G1 F1⟩
      · refine Or.inr ⟨x_cka hV hX hG.pi ht hn (ci_nf hG.pi ht hn cf), by decide, by decide, no _ ?_⟩
        rw [e0, ask_bad ht hn (fun y => cf ((uKd_0 _).mp y)), if_neg (by decide)]
    · refine no _ ?_
      rw [e0, ask_out z, if_neg (by decide)]
  · exact no _ (if_neg (fun z => b2i_0.mp c2 z.2))
end XEx
section XEg
variable {P : PT} {D : DT} {B : Nat}
theorem law_expire (h : GI P D B) {i lo every : Int32} {v : Int32 × PT} (r : r_expire P i lo every v) : v = o_expire P i lo every := by
  unfold r_expire at r
  unfold o_expire
  by_cases c : inI lo 0 20 ∧ inI every 1 100
  · rw [if_pos c] at r ⊢
    by_cases c2 : ask P i 0 = 0
    · rw [if_pos c2] at r ⊢
      obtain ⟨L, hL, e⟩ := r
      obtain ⟨t, ht, rfl, hk0⟩ := (ask_0 (by decide)).mp c2
      rw [nI_clamp (by omega), ← ownL h ht ((uKd_0 _).mp hk0) hL]
      exact e
    · rw [if_neg c2] at r ⊢
      exact r
  · rw [if_neg c] at r ⊢
    exact r
theorem law_exOx (h : GI P D B) {i every : Int32} {lo : Nat} : ∀ L, LO1 P i 20 L → exO every L lo L.length P := by
  intro L hL
  refine law_exO (B := B) hL.2.2.1 L.length P D (Nat.le_refl _) h (fun k hk => ?_)
  have := (hL.1 _).mp (gX_mem hk)
  exact ⟨this.1, this.2.1⟩
end XEg
