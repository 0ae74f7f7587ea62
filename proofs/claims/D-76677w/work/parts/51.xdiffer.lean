/-! ===== the pool's sheets: made anew; what differs ===== -/
set_option maxRecDepth 100000
set_option maxHeartbeats 400000
theorem SX.new {x x1 : XT} {S : ST} (hS : SX x S) {s q n : Nat} (hs : s < 4) (hq : X_W x q = none) (e0 : X_rows x1 = X_rows x) (eW : ∀ q', q' ≠ q → X_W x1 q' = X_W x q') (hn : n ≤ 40) {sort : Int32} {G : Nat → Int64} (h : (sort = 0 ∧ ∃ F : Nat → Int32, X_W x1 q = some (n, .inl F) ∧ ∀ j, j < n → (F j).toInt64 = G j) ∨ (sort = 1 ∧ ∃ F : Nat → Int64, X_W x1 q = some (n, .inr F) ∧ ∀ j, j < n → F j = G j)) : SX (X_rows_ x1 (fset (X_rows x1) s (some q))) (fset S.1 s sort, fset S.2.1 s (nI n), fset S.2.2 s G) := by
  have noq : ∀ t, t < 4 → X_rows x t ≠ some q := by
    intro t ht e
    rcases hS.1 t ht with ⟨a, b⟩ | ⟨q', n', r1, r2, r3, r4⟩
    · rw [b] at e; cases e
    · have : q' = q := Option.some.inj (r1.symm.trans e)
      subst this
      rcases r4 with ⟨-, F, f1, -⟩ | ⟨-, F, f1, -⟩
      · rw [hq] at f1; cases f1
      · rw [hq] at f1; cases f1
  refine ⟨fun t ht => ?_, fun t u p ht hu h1 h2 => ?_⟩
  · by_cases e : t = s
    · subst e
      refine Or.inr ⟨q, n, fset_s, hn, fset_s, ?_⟩
      rcases h with ⟨z, F, f1, f2⟩ | ⟨z, F, f1, f2⟩
      · refine Or.inl ⟨fset_s.trans z, F, f1, fun j hj => (f2 j hj).trans ?_⟩
        show _ = fset S.2.2 t G t j
        rw [fset_s]
      · refine Or.inr ⟨fset_s.trans z, F, f1, fun j hj => (f2 j hj).trans ?_⟩
        show _ = fset S.2.2 t G t j
        rw [fset_s]
    · refine (hS.1 t ht).fr ?_ (fun q' hq' => eW q' (fun z => noq t ht (by rw [hq', z]))) (fset_n e) (fset_n e) (fun i => ?_)
      · show fset (X_rows x1) s (some q) t = _
        rw [fset_n e, e0]
      · show fset S.2.2 s G t i = _
        rw [fset_n e]
  · have h1' : fset (X_rows x1) s (some q) t = some p := h1
    have h2' : fset (X_rows x1) s (some q) u = some p := h2
    rw [e0] at h1' h2'
    by_cases c1 : t = s
    · by_cases c2 : u = s
      · rw [c1, c2]
      · rw [c1, fset_s] at h1'
        rw [fset_n c2, ← h1'] at h2'
        exact absurd h2' (noq u hu)
    · rw [fset_n c1] at h1'
      by_cases c2 : u = s
      · rw [c2, fset_s] at h2'
        rw [← h2'] at h1'
        exact absurd h1' (noq t ht)
      · rw [fset_n c2] at h2'
        exact hS.2 t u p ht hu h1' h2'
theorem SX.none {x : XT} {S : ST} (hS : SX x S) {s : Nat} {n : Int32} {G : Nat → Int64} : SX (X_rows_ x (fset (X_rows x) s none)) (fset S.1 s (-1), fset S.2.1 s n, fset S.2.2 s G) := by
  refine ⟨fun t ht => ?_, fun t u p ht hu h1 h2 => ?_⟩
  · by_cases e : t = s
    · subst e
      exact Or.inl ⟨fset_s, fset_s⟩
    · refine (hS.1 t ht).fr (fset_n e) (fun _ _ => rfl) (fset_n e) (fset_n e) (fun i => ?_)
      show fset S.2.2 s G t i = _
      rw [fset_n e]
  · have h1' : fset (X_rows x) s Option.none t = some p := h1
    have h2' : fset (X_rows x) s Option.none u = some p := h2
    by_cases c1 : t = s
    · rw [c1, fset_s] at h1'; cases h1'
    · by_cases c2 : u = s
      · rw [c2, fset_s] at h2'; cases h2'
      · rw [fset_n c1] at h1'
        rw [fset_n c2] at h2'
        exact hS.2 t u p ht hu h1' h2'
section XSn
variable {l : LT} {x : XT} {m : MT} {sc : Nat × (Nat → Int32)} {w : aW} {a : AT} {P : PT} {D : DT} {S : ST} {QR : Option aV → aW → Prop} {QX : String → aW → Prop} {rc rs B : Nat}
theorem V.noW (hV : V (l, x, m, sc) w) {q : Nat} (hq : Wc (l, x, m, sc) q = none) : X_W x q = none := by
  cases e : X_W x q with
  | none => rfl
  | some y => exact absurd hq (hV.1.wr (g := (l, x, m, sc)) e)
theorem c_X0_rowOf {i0 i1 : Int32} (hn : i1 ≤ 40) (h1 : i1 < 0 → QX "java/lang/NegativeArraySizeException" w) (h2 : ∀ N : Nat, N ≤ 40 → i1 = nI N → ∀ q, w q = none → QR (some (vR (some q))) (aup w q (rcell (N, if i0 = 0 then .inl (fun _ => 0) else .inr (fun _ => 0))))) : ct KX0_rowOf 3 950 [vI i0, vI i1] w QR QX := by
  have nn : ¬ i1 < 0 → ∃ N : Nat, N ≤ 40 ∧ i1 = nI N := by
    intro c
    refine inI_n (H := 40) ⟨c, ?_⟩ rfl rfl (by decide)
    rw [lt_i]
    rw [le_i] at hn
    have : (nI 40).toInt = (40 : Int32).toInt := rfl
    omega
  refine st_X0_rowOf (sg_X0_rowOf_0 ⟨fun c => ⟨fun c2 => ⟨by decide, by decide, h1 c2⟩, fun c2 => ?_⟩, fun c => ⟨fun c2 => ⟨by decide, by decide, h1 c2⟩, fun c2 => ?_⟩⟩)
  · obtain ⟨N, hN, e⟩ := nn c2
    have h3 := h2 N hN e
    rw [if_neg c] at h3
    rw [e, nI_clamp (by omega)]
    refine ⟨by omega, by decide, by omega, fun q w1 hq hw => ?_⟩
    rw [hw]
    exact h3 q hq
  · obtain ⟨N, hN, e⟩ := nn c2
    have h3 := h2 N hN e
    rw [if_pos c] at h3
    rw [e, nI_clamp (by omega)]
    refine ⟨by omega, by decide, by omega, fun q w1 hq hw => ?_⟩
    rw [hw]
    exact h3 q hq
theorem c_X0_sheet (hV : V (l, x, m, sc) w) (hS : SX x S) {y sort n : Int32} (h : ∀ l' x' w', L_ad l' = L_ad l → V (l', x', m, sc) w' → SX x' (o_sheet S y sort n).2 → YF x x' → QR (some (vI (o_sheet S y sort n).1)) w') : ct KX0_sheet 3 950 [vR (some (L_ad l 0)), vI y, vI sort, vI n] w QR QX := by
  have h0 := h l x w rfl hV
  unfold o_sheet at h h0
  refine st_X0_sheet (sg_X0_sheet_0 (c_X0_isSheet ⟨_, rfl, fun c => ?_, fun c => c_X0_inI (-1) 1 (by decide) (by decide) ⟨_, rfl, fun c2 => ?_, fun c2 => ?_⟩⟩))
  · rw [if_neg (fun z => b2i_0.mp c z.1)] at h0
    exact h0 hS (YF.rf x)
  · rw [if_neg (fun z => b2i_0.mp c2 z.2.1)] at h0
    exact h0 hS (YF.rf x)
  · have c1 := b2i_n0.mp c
    have c3 := b2i_n0.mp c2
    obtain ⟨s, hs, rfl⟩ := inI_n (H := 3) c1 rfl rfl (by decide)
    have hs4 : s < 4 := by omega
    have gs := hV.xg_sheet (vp_in_nI hs4 (by decide))
    rw [nI_clamp (by omega)] at gs
    refine ⟨fun c4 => ⟨fun z => absurd c4 z, fun _ => ⟨_, hV.xf7, _, gs, hV.xpf_row hs4 (fun w1 h1 => ?_)⟩⟩, fun c4 => ⟨fun c5 => ⟨fun _ => ⟨_, hV.xf7, _, gs, by decide, by decide, ?_⟩, fun z => absurd z c4⟩, fun c5 => ?_⟩⟩
    · rw [if_pos ⟨c1, c3, Or.inl c4⟩, if_pos c4, nI_clamp (by omega)] at h
      refine h l _ w1 rfl h1 ?_ YF.R
      rw [c4]
      exact hS.none
    · rw [if_pos ⟨c1, c3, Or.inr c5⟩, if_neg c4, nI_clamp (by omega)] at h h0
      refine c_X0_rowOf c5 (fun z => ⟨rfl, ?_⟩) (fun N hN e q hq => ⟨_, rfl, ?_⟩)
      · rw [if_neg (by rw [lt_i] at z; rw [le_i]; omega)] at h0
        exact h0 hS (YF.rf x)
      · have hq2 := hV.nowh hq
        have hqW := hV.noW hq2
        have hV1 := hV.nw (c := rcell (N, if sort = 0 then .inl (fun _ => 0) else .inr (fun _ => 0))) hq2
        obtain ⟨l', el, hV2⟩ := hV1.newW (v := (N, if sort = 0 then .inl (fun _ => 0) else .inr (fun _ => 0))) hq2 (aup_self ..)
        rw [if_pos (by rw [e]; exact nI_le (a := 0) (b := N) (by omega) (by omega))] at h
        rw [← el]
        refine hV2.xpf_row hs4 (fun w3 h3 => h l' _ w3 el h3 ?_ (YF.W.tr YF.R))
        rw [e]
        refine hS.new (x1 := X_W_ x (fset (X_W x) q (some (N, if sort = 0 then .inl (fun _ => 0) else .inr (fun _ => 0))))) (G := fun _ => 0) hs4 hqW rfl (fun q' hq' => fset_n hq') hN ?_
        by_cases c6 : sort = 0
        · left
          refine ⟨c6, fun _ => 0, ?_, fun j hj => (by decide : (0 : Int32).toInt64 = 0)⟩
          show fset (X_W x) q _ q = _
          rw [fset_s, if_pos c6]
        · right
          have c7 : sort = 1 := by
            obtain ⟨d1, d2⟩ := c3
            rw [lt_i] at d1 d2
            have e1 : (-1 : Int32).toInt = -1 := by decide
            have e2 : (1 : Int32).toInt = 1 := by decide
            have n1 : sort.toInt ≠ -1 := fun z => c4 (Int32.toInt_inj.mp (z.trans e1.symm))
            have n0 : sort.toInt ≠ 0 := fun z => c6 (Int32.toInt_inj.mp (z.trans i0_t.symm))
            exact Int32.toInt_inj.mp (by omega)
          refine ⟨c7, fun _ => 0, ?_, fun j hj => rfl⟩
          show fset (X_W x) q _ q = _
          rw [fset_s, if_neg c6]
    · rw [if_neg (fun z => z.2.2.elim c4 c5)] at h0
      exact h0 hS (YF.rf x)
theorem c_X0_holderAsked (hV : V (l, x, m, sc) w) (hX : XP x a P D) (hI : PI P) {i : Int32} (h0 : ∀ t, t < 20 → i = nI t → hK (P_kind P t) → QR (some (vR (some (a.1 t)))) w) (h1 : askS P i = -12 → QX "java/lang/IndexOutOfBoundsException" w) (h2 : askS P i = -11 → QX "java/lang/NullPointerException" w) (h3 : askS P i = -13 → QX "java/lang/ClassCastException" w) : ct KX0_holderAsked 4 956 [vR (some (L_ad l 0)), vI i] w QR QX := by
  refine st_X0_holderAsked (sg_X0_holderAsked_0 ⟨by decide, by decide, hV.xO, c_X0_thingAt hV hX hI (fun t ht e => ⟨_, rfl, fun z => ?_, fun q z => ?_⟩) (fun z => ⟨rfl, h1 (askS_out z)⟩)⟩)
  · subst e
    exact ⟨by decide, by decide, h2 (askS_none ht (thO_none z))⟩
  · subst e
    obtain ⟨hn, rfl⟩ := thO_some z
    by_cases c : hK (P_kind P t)
    · exact Or.inl ⟨x_ck hV hX ht (cI_h c), _, x_num hV hX ht (cI_h c), h0 t ht rfl c⟩
    · exact Or.inr ⟨x_bck hV hX ht (k_nh hI ht hn c) (by decide), by decide, by decide, h3 (askS_bad ht hn c)⟩
end XSn
