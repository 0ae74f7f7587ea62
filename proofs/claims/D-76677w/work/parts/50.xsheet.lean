/-! ===== the pool's sheets ===== -/
set_option maxRecDepth 100000
set_option maxHeartbeats 400000
/-- what else stays when a sheet changes -/
def XI (x x' : XT) : Prop := X_kept x' = X_kept x ∧ X_thought x' = X_thought x ∧ X_hasImage x' = X_hasImage x ∧ (∀ q r, X_H x q = some r → ∃ r', X_H x' q = some r' ∧ R_ci r' = R_ci r ∧ R_made r' = R_made r ∧ R_sa r' = R_sa r ∧ R_da r' = R_da r ∧ R_number r' = R_number r ∧ (R_ci r = 5 → R_qt r' = R_qt r)) ∧ (∀ q v, X_B x q = some v → X_B x' q = some v)
theorem XF.xi {x x' : XT} (h : XF x x') : XI x x' := ⟨h.1, h.2.1, h.2.2.2.1, h.2.2.2.2.2.1, h.2.2.2.2.2.2⟩
theorem XI.rf (x : XT) : XI x x := (XF.rf x).xi
theorem XI.tr {x y z : XT} (h : XI x y) (k : XI y z) : XI x z := by
  refine ⟨k.1.trans h.1, k.2.1.trans h.2.1, k.2.2.1.trans h.2.2.1, fun q r hr => ?_, fun q v hv => k.2.2.2.2 q v (h.2.2.2.2 q v hv)⟩
  obtain ⟨r1, h1, a1, a2, a3, a4, a5, a6⟩ := h.2.2.2.1 q r hr
  obtain ⟨r2, h2, b1, b2, b3, b4, b5, b6⟩ := k.2.2.2.1 q r1 h1
  exact ⟨r2, h2, b1.trans a1, b2.trans a2, b3.trans a3, b4.trans a4, b5.trans a5, fun e => (b6 (a1.trans e)).trans (a6 e)⟩
def YF (x x' : XT) : Prop := (∀ a P D, XP x a P D → XP x' a P D) ∧ XI x x'
theorem YF.rf (x : XT) : YF x x := ⟨fun _ _ _ h => h, XI.rf x⟩
theorem YF.tr {x y z : XT} (h : YF x y) (k : YF y z) : YF x z := ⟨fun a P D q => k.1 a P D (h.1 a P D q), h.2.tr k.2⟩
/-- sheet s of the pool -/
def RW (x : XT) (S : ST) (s : Nat) : Prop := (S.1 s = -1 ∧ X_rows x s = none) ∨ ∃ (q n : Nat), X_rows x s = some q ∧ n ≤ 40 ∧ S.2.1 s = nI n ∧ ((S.1 s = 0 ∧ ∃ F : Nat → Int32, X_W x q = some (n, .inl F) ∧ ∀ i, i < n → (F i).toInt64 = S.2.2 s i) ∨ (S.1 s = 1 ∧ ∃ F : Nat → Int64, X_W x q = some (n, .inr F) ∧ ∀ i, i < n → F i = S.2.2 s i))
def SX (x : XT) (S : ST) : Prop := (∀ s, s < 4 → RW x S s) ∧ ∀ s t q, s < 4 → t < 4 → X_rows x s = some q → X_rows x t = some q → s = t
theorem RW.fr {x x' : XT} {S S' : ST} {t : Nat} (h : RW x S t) (e0 : X_rows x' t = X_rows x t) (eW : ∀ q, X_rows x t = some q → X_W x' q = X_W x q) (e1 : S'.1 t = S.1 t) (e2 : S'.2.1 t = S.2.1 t) (e3 : ∀ i, S'.2.2 t i = S.2.2 t i) : RW x' S' t := by
  rcases h with ⟨a, b⟩ | ⟨q, n, h1, h2, h3, h4⟩
  · exact Or.inl ⟨e1.trans a, e0.trans b⟩
  · refine Or.inr ⟨q, n, e0.trans h1, h2, e2.trans h3, ?_⟩
    rcases h4 with ⟨z, F, f1, f2⟩ | ⟨z, F, f1, f2⟩
    · exact Or.inl ⟨e1.trans z, F, (eW q h1).trans f1, fun i hi => (f2 i hi).trans (e3 i).symm⟩
    · exact Or.inr ⟨e1.trans z, F, (eW q h1).trans f1, fun i hi => (f2 i hi).trans (e3 i).symm⟩
theorem SX.sv {x : XT} {S : ST} (h : SX x S) : SV S := by
  intro s hs
  rcases h.1 s hs with ⟨a, b⟩ | ⟨q, n, h1, h2, h3, h4⟩
  · exact Or.inl a
  · refine Or.inr ⟨?_, n, h2, h3⟩
    rcases h4 with ⟨z, -⟩ | ⟨z, -⟩
    · exact Or.inl z
    · exact Or.inr z
theorem SX.xf {x x' : XT} {S : ST} (h : SX x S) (k : XF x x') : SX x' S := by
  have e0 := k.2.2.1
  have eW := k.2.2.2.2.1
  refine ⟨fun s hs => (h.1 s hs).fr (congrFun e0 s) (fun q _ => congrFun eW q) rfl rfl (fun _ => rfl), fun s t q hs ht h1 h2 => ?_⟩
  rw [e0] at h1 h2
  exact h.2 s t q hs ht h1 h2
theorem pl_i {i : Int32} {N : Nat} (hN : N ≤ 40) : (¬ i < 0 ∧ i < nI N) ↔ inI i 0 (nI N - 1) := by
  rw [inI_m (by omega)]
  constructor
  · rintro ⟨h1, h2⟩
    have h3 : ¬ nI N < i := by
      rw [lt_i] at h2 ⊢
      omega
    obtain ⟨k, hk, rfl⟩ := inI_n (H := N) ⟨h1, h3⟩ rfl rfl (by omega)
    exact ⟨k, (nI_ltI (by omega) (by omega)).mp h2, rfl⟩
  · rintro ⟨k, hk, rfl⟩
    exact ⟨nI_pos (by omega), nI_lt hk (by omega)⟩
section XSh
variable {l : LT} {x : XT} {m : MT} {sc : Nat × (Nat → Int32)} {w : aW} {a : AT} {P : PT} {D : DT} {S : ST} {QR : Option aV → aW → Prop} {QX : String → aW → Prop} {rc rs : Nat}
theorem V.wset (h : V (l, x, m, sc) w) {q : Nat} {y y' : Nat × ((Nat → Int32) ⊕ (Nat → Int64))} (hr : X_W x q = some y) : V (l, X_W_ x (fset (X_W x) q (some y')), m, sc) (aup w q (rcell y')) := by
  have hq : L_ga l q = 1004 := h.1.2.2.2 q y hr
  refine h.mk ⟨h.1.1, h.1.2.1, h.1.2.2.1, fun c v hv => ?_⟩ (fun p d hp => ?_)
  · have hv' : fset (X_W x) q (some y') c = some v := hv
    show L_ga l c = 1004
    by_cases e : c = q
    · rw [e]; exact hq
    · rw [fset_n e] at hv'
      exact h.1.2.2.2 c v hv'
  · have g1 : g_ga (l, X_W_ x (fset (X_W x) q (some y')), m, sc) p = L_ga l p := rfl
    have g2 : g_ga (l, x, m, sc) p = L_ga l p := rfl
    by_cases e1 : p = q
    · subst e1
      left
      refine ⟨rfl, ?_⟩
      have hp' : dcell (l, X_W_ x (fset (X_W x) p (some y')), m, sc) p = some d := by
        rw [← Wc_d (by rw [g1, hq]; omega)]
        exact hp
      unfold dcell at hp'
      rw [g1, hq] at hp'
      have hp2 : (fset (X_W x) p (some y') p).map rcell = some d := hp'
      rw [fset_s] at hp2
      exact (Option.some.inj hp2).symm
    · right
      refine ⟨e1, ?_⟩
      rw [← hp]
      unfold Wc
      rw [g1, g2]
      by_cases hlt : L_ga l p < 1000
      · rw [if_pos hlt, if_pos hlt]
        have e5 : scell (l, X_W_ x (fset (X_W x) q (some y')), m, sc) (L_ga l p) = scell (l, x, m, sc) (L_ga l p) := rfl
        rw [e5]
        rfl
      · rw [if_neg hlt, if_neg hlt]
        unfold dcell
        rw [g1, g2]
        split
        · rfl
        · rfl
        · rfl
        · rfl
        · show (X_W x p).map _ = (fset (X_W x) q (some y') p).map _
          rw [fset_n e1]
        · rfl
/-- a row of a sheet is written -/
theorem SX.up (hS : SX x S) {s q i n : Nat} (hs : s < 4) (hq : X_rows x s = some q) {y : Nat × ((Nat → Int32) ⊕ (Nat → Int64))} {v : Int64} (hn : n ≤ 40) (en : S.2.1 s = nI n) (h : (S.1 s = 0 ∧ ∃ F : Nat → Int32, y = (n, .inl F) ∧ ∀ j, j < n → (F j).toInt64 = fset2 S.2.2 s i v s j) ∨ (S.1 s = 1 ∧ ∃ F : Nat → Int64, y = (n, .inr F) ∧ ∀ j, j < n → F j = fset2 S.2.2 s i v s j)) : SX (X_W_ x (fset (X_W x) q (some y))) (sItem S s i v) := by
  refine ⟨fun t ht => ?_, hS.2⟩
  by_cases e : t = s
  · subst e
    refine Or.inr ⟨q, n, hq, hn, en, ?_⟩
    rcases h with ⟨z, F, f1, f2⟩ | ⟨z, F, f1, f2⟩
    · refine Or.inl ⟨z, F, ?_, f2⟩
      show fset (X_W x) q (some y) q = _
      rw [fset_s, f1]
    · refine Or.inr ⟨z, F, ?_, f2⟩
      show fset (X_W x) q (some y) q = _
      rw [fset_s, f1]
  · refine (hS.1 t ht).fr rfl (fun q' hq' => ?_) rfl rfl (fun j => fset2_n (fun z => e z.1))
    show fset (X_W x) q (some y) q' = _
    rw [fset_n (fun z => e (hS.2 t s q ht hs (by rw [← z]; exact hq') hq))]
theorem YF.W {F : Nat → Option (Nat × ((Nat → Int32) ⊕ (Nat → Int64)))} : YF x (X_W_ x F) := ⟨fun _ _ _ h => h, rfl, rfl, rfl, fun q r h => ⟨r, h, rfl, rfl, rfl, rfl, rfl, fun _ => rfl⟩, fun q v h => h⟩
theorem YF.R {F : Nat → Option Nat} : YF x (X_rows_ x F) := ⟨fun _ _ _ h => h, rfl, rfl, rfl, fun q r h => ⟨r, h, rfl, rfl, rfl, rfl, rfl, fun _ => rfl⟩, fun q v h => h⟩
theorem c_X0_isSheet {i : Int32} (h : QR (some (vI (b2i (inI i 0 3)))) w) : ct KX0_isSheet 0 0 [vI i] w QR QX :=
  st_X0_isSheet (sg_X0_isSheet_0 (c_X0_inI 0 3 (by decide) (by decide) ⟨_, rfl, b2i_nar _, h⟩))
theorem c_X0_put (hV : V (l, x, m, sc) w) (hS : SX x S) {s : Nat} (hs : s < 4) {i : Int32} {v : Int64} (h0 : S.1 s = -1 → QX "java/lang/NullPointerException" w) (h1 : ¬ S.1 s = -1 → ¬ inI i 0 (S.2.1 s - 1) → QX "java/lang/IndexOutOfBoundsException" w) (h2 : ¬ S.1 s = -1 → inI i 0 (S.2.1 s - 1) → ∀ x' w', V (l, x', m, sc) w' → SX x' (sItem S s i.toNatClampNeg (cellV (S.1 s) v)) → YF x x' → QR (some (vI 1)) w') : ct KX0_put 1 8 [vR (X_rows x s), vI i, vL v] w QR QX := by
  rcases hS.1 s hs with ⟨a, b⟩ | ⟨q, n, r1, r2, r3, r4⟩
  · rw [b]
    exact st_X0_put (sg_X0_put_0 ⟨fun _ => ⟨Nat.le_refl _, Nat.le_refl _, h0 a⟩, fun q e => (by cases e)⟩)
  · rw [r1]
    refine st_X0_put (sg_X0_put_0 ⟨fun e => (by cases e), fun q' e => ?_⟩)
    cases e
    have hneg : ¬ inI i 0 (S.2.1 s - 1) → ¬ S.1 s = -1 → QX "java/lang/IndexOutOfBoundsException" w := fun a b => h1 b a
    rw [r3] at hneg h2
    have bad : ¬ S.1 s = -1 → (i < 0 ∨ ¬ i < nI n) → QX "java/lang/IndexOutOfBoundsException" w := fun b z => hneg (fun y => by
      have y2 := (pl_i r2).mpr y
      rcases z with z | z
      · exact y2.1 z
      · exact z y2.2) b
    rcases r4 with ⟨z, F, f1, f2⟩ | ⟨z, F, f1, f2⟩
    · have hw := hV.wr f1
      have ne : ¬ S.1 s = -1 := by rw [z]; decide
      refine Or.inl ⟨⟨_, hw⟩, ⟨_, hw⟩, nI n, ⟨0, n, _, by decide, hw, rfl⟩, by decide, by decide, c_X0_asksPlace (fun c c2 => ⟨rfl, ⟨_, hw⟩, n, F, hw, ?_⟩) (fun c => ⟨rfl, bad ne c⟩)⟩
      have hi := (pl_i r2).mp ⟨c, c2⟩
      obtain ⟨k, hk, rfl⟩ := (inI_m (by omega)).mp hi
      refine ⟨vp_in_nI hk (by omega), ?_⟩
      have h3 := hV.wset (y' := (n, .inl (upd F (nI k).toNatClampNeg v.toInt32))) f1
      refine h2 ne hi _ _ h3 (hS.up hs r1 r2 r3 (Or.inl ⟨z, _, rfl, fun j hj => ?_⟩)) YF.W
      rw [nI_clamp (by omega)]
      by_cases e : j = k
      · subst e
        rw [pk_us, fset2_s]
        unfold cellV
        rw [if_pos z]
      · rw [pk_un e, fset2_n (fun y => e y.2)]
        exact f2 j hj
    · have hw := hV.wr f1
      have ne : ¬ S.1 s = -1 := by rw [z]; decide
      refine Or.inr ⟨⟨_, hw⟩, ⟨_, hw⟩, nI n, ⟨1, n, _, by decide, hw, rfl⟩, by decide, by decide, c_X0_asksPlace (fun c c2 => ⟨rfl, ⟨_, hw⟩, n, F, hw, ?_⟩) (fun c => ⟨rfl, bad ne c⟩)⟩
      have hi := (pl_i r2).mp ⟨c, c2⟩
      obtain ⟨k, hk, rfl⟩ := (inI_m (by omega)).mp hi
      refine ⟨vp_in_nI hk (by omega), ?_⟩
      have h3 := hV.wset (y' := (n, .inr (vp_updL F (nI k).toNatClampNeg v))) f1
      refine h2 ne hi _ _ h3 (hS.up hs r1 r2 r3 (Or.inr ⟨z, _, rfl, fun j hj => ?_⟩)) YF.W
      rw [nI_clamp (by omega)]
      by_cases e : j = k
      · subst e
        rw [pk_uLs, fset2_s]
        unfold cellV
        rw [if_neg (by rw [z]; decide)]
      · rw [pk_uLn e, fset2_n (fun y => e y.2)]
        exact f2 j hj
theorem c_X0_cell (hV : V (l, x, m, sc) w) (hS : SX x S) {y i : Int32} {v : Int64} (h : ∀ x' w', V (l, x', m, sc) w' → SX x' (o_cell S y i v).2 → YF x x' → QR (some (vI (o_cell S y i v).1)) w') : ct KX0_cell 1 8 [vR (some (L_ad l 0)), vI y, vI i, vL v] w QR QX := by
  have h0 := h x w hV
  unfold o_cell at h h0
  refine st_X0_cell (sg_X0_cell_0 (c_X0_isSheet ⟨_, rfl, fun c => ?_, fun c => ?_⟩))
  · have c1 := b2i_n0.mp c
    obtain ⟨s, hs, rfl⟩ := inI_n (H := 3) c1 rfl rfl (by decide)
    rw [if_pos c1, nI_clamp (by omega)] at h h0
    have hs4 : s < 4 := by omega
    have gs := hV.xg_sheet (vp_in_nI hs4 (by decide))
    rw [nI_clamp (by omega)] at gs
    refine ⟨_, hV.xf7, _, gs, _, hV.xf_row hs4, by decide, by decide, c_X0_put hV hS hs4 (fun z => Or.inr ⟨rfl, ?_⟩) (fun z z2 => Or.inl ⟨rfl, ?_⟩) (fun z z2 x1 w1 h1 S1 F1 => ⟨_, rfl, ?_⟩)⟩
    · rw [if_pos z] at h0
      exact h0 hS (YF.rf x)
    · rw [if_neg z, if_neg z2] at h0
      exact h0 hS (YF.rf x)
    · rw [if_neg z, if_pos z2] at h
      exact h x1 w1 h1 S1 F1
  · rw [if_neg (b2i_0.mp c)] at h0
    exact h0 hS (YF.rf x)
theorem c_X0_lengthOf (hV : V (l, x, m, sc) w) (hS : SX x S) {s : Nat} (hs : s < 4) {j : Int32} (h0 : S.1 s = -1 → QX "java/lang/NullPointerException" w) (h1 : ¬ S.1 s = -1 → ¬ (j = 0 ↔ S.1 s = 0) → QX "java/lang/ClassCastException" w) (h2 : ¬ S.1 s = -1 → (j = 0 ↔ S.1 s = 0) → QR (some (vI (S.2.1 s))) w) : ct KX0_lengthOf 3 950 [vR (X_rows x s), vI j] w QR QX := by
  rcases hS.1 s hs with ⟨a, b⟩ | ⟨q, n, r1, r2, r3, r4⟩
  · rw [b]
    exact st_X0_lengthOf (sg_X0_lengthOf_0 ⟨fun _ => ⟨fun _ => ⟨by decide, by decide, h0 a⟩, fun q e => (by cases e)⟩, fun _ => ⟨fun _ => ⟨by decide, by decide, h0 a⟩, fun q e => (by cases e)⟩⟩)
  · rw [r1]
    rw [r3] at h2
    rcases r4 with ⟨z, F, f1, f2⟩ | ⟨z, F, f1, f2⟩
    · have hw := hV.wr f1
      have ne : ¬ S.1 s = -1 := by rw [z]; decide
      refine st_X0_lengthOf (sg_X0_lengthOf_0 ⟨fun c => ⟨fun e => (by cases e), fun q' e => ?_⟩, fun c => ⟨fun e => (by cases e), fun q' e => ?_⟩⟩)
      · cases e
        exact Or.inr ⟨⟨_, hw⟩, by decide, by decide, h1 ne (fun y => c (y.mpr z))⟩
      · cases e
        exact Or.inl ⟨⟨_, hw⟩, _, ⟨0, n, _, by decide, hw, rfl⟩, h2 ne ⟨fun _ => z, fun _ => c⟩⟩
    · have hw := hV.wr f1
      have ne : ¬ S.1 s = -1 := by rw [z]; decide
      have nz : ¬ S.1 s = 0 := by rw [z]; decide
      refine st_X0_lengthOf (sg_X0_lengthOf_0 ⟨fun c => ⟨fun e => (by cases e), fun q' e => ?_⟩, fun c => ⟨fun e => (by cases e), fun q' e => ?_⟩⟩)
      · cases e
        exact Or.inl ⟨⟨_, hw⟩, _, ⟨1, n, _, by decide, hw, rfl⟩, h2 ne ⟨fun y => absurd y c, fun y => absurd y nz⟩⟩
      · cases e
        exact Or.inr ⟨⟨_, hw⟩, by decide, by decide, h1 ne (fun y => nz (y.mp c))⟩
theorem c_X0_itemOf (hV : V (l, x, m, sc) w) (hS : SX x S) {s : Nat} (hs : s < 4) {j i : Int32} (h0 : S.1 s = -1 → QX "java/lang/NullPointerException" w) (h1 : ¬ S.1 s = -1 → ¬ (j = 0 ↔ S.1 s = 0) → QX "java/lang/ClassCastException" w) (h2 : ¬ S.1 s = -1 → (j = 0 ↔ S.1 s = 0) → ¬ inI i 0 (S.2.1 s - 1) → QX "java/lang/IndexOutOfBoundsException" w) (h3 : ¬ S.1 s = -1 → (j = 0 ↔ S.1 s = 0) → inI i 0 (S.2.1 s - 1) → QR (some (vL (S.2.2 s i.toNatClampNeg))) w) : ct KX0_itemOf 4 956 [vR (X_rows x s), vI j, vI i] w QR QX := by
  refine st_X0_itemOf (sg_X0_itemOf_0 ⟨by decide, by decide, c_X0_lengthOf hV hS hs (fun z => Or.inl ⟨rfl, h0 z⟩) (fun z z2 => Or.inr ⟨rfl, h1 z z2⟩) (fun z z2 => ⟨_, rfl, by decide, by decide, ?_⟩)⟩)
  rcases hS.1 s hs with ⟨a, b⟩ | ⟨q, n, r1, r2, r3, r4⟩
  · exact absurd a z
  · rw [r3] at h2 h3 ⊢
    refine c_X0_asksPlace (fun c c2 => ⟨rfl, ?_⟩) (fun c => ⟨rfl, h2 z z2 (fun y => ?_)⟩)
    · have hi := (pl_i r2).mp ⟨c, c2⟩
      have h4 := h3 z z2 hi
      obtain ⟨k, hk, rfl⟩ := (inI_m (by omega)).mp hi
      rw [nI_clamp (by omega)] at h4
      rcases r4 with ⟨y, F, f1, f2⟩ | ⟨y, F, f1, f2⟩
      · have hw := hV.wr f1
        refine ⟨fun e => absurd (z2.mpr y) e, fun e => ⟨q, r1, ⟨_, hw⟩, F k, ⟨n, F, hw, vp_in_nI hk (by omega), by rw [nI_clamp (by omega)]⟩, ?_⟩⟩
        rw [f2 k hk]
        exact h4
      · have hw := hV.wr f1
        have nz : ¬ S.1 s = 0 := by rw [y]; decide
        refine ⟨fun e => ⟨q, r1, ⟨_, hw⟩, F k, ⟨n, F, hw, vp_in_nI hk (by omega), by rw [nI_clamp (by omega)]⟩, ?_⟩, fun e => absurd (z2.mp e) nz⟩
        rw [f2 k hk]
        exact h4
    · have y2 := (pl_i r2).mpr y
      rcases c with c | c
      · exact y2.1 c
      · exact c y2.2
theorem c_X0_item (hV : V (l, x, m, sc) w) (hS : SX x S) {y i : Int32} (h : QR (some (vL (r_item S y i))) w) : ct KX0_item 4 956 [vR (some (L_ad l 0)), vI y, vI i] w QR QX := by
  unfold r_item at h
  refine st_X0_item (sg_X0_item_0 (c_X0_isSheet ⟨_, rfl, fun c => ?_, fun c => ?_⟩))
  · have c1 := b2i_n0.mp c
    obtain ⟨s, hs, rfl⟩ := inI_n (H := 3) c1 rfl rfl (by decide)
    rw [nI_clamp (by omega)] at h
    have hs4 : s < 4 := by omega
    have gs := hV.xg_sheet (vp_in_nI hs4 (by decide))
    rw [nI_clamp (by omega)] at gs
    have main : ∀ j : Int32, (¬ S.1 s = -1 → (j = 0 ↔ S.1 s = 0)) → ct KX0_itemOf 4 956 [vR (X_rows x s), vI j, vI i] w (fun v35 w35 => ∃ x35 : Int64, v35 = some (vL x35) ∧ QR (some (vL x35)) w35) (fun E35 w35 => (E35 = "java/lang/IndexOutOfBoundsException" ∧ QR (some (vL (-4611686018427387904))) w35) ∨ (E35 = "java/lang/NullPointerException" ∧ QR (some (vL (-4611686018427387904))) w35) ∨ (E35 = "java/lang/ClassCastException" ∧ QX "java/lang/ClassCastException" w35)) := by
      intro j hj
      refine c_X0_itemOf hV hS hs4 (fun z => Or.inr (Or.inl ⟨rfl, ?_⟩)) (fun z z2 => absurd (hj z) z2) (fun z z2 z3 => Or.inl ⟨rfl, ?_⟩) (fun z z2 z3 => ⟨_, rfl, ?_⟩)
      · rw [if_neg (fun y => y.2.1 z)] at h
        exact h
      · rw [if_neg (fun y => z3 y.2.2)] at h
        exact h
      · rw [if_pos ⟨c1, z, z3⟩] at h
        exact h
    refine ⟨_, hV.xf7, _, gs, _, hV.xf_row hs4, fun e => ?_, fun q e => ?_⟩
    · have m1 := main 1 (fun z => by
        rcases hS.1 s hs4 with ⟨a, b⟩ | ⟨q, n, r1, -⟩
        · exact absurd a z
        · rw [r1] at e; cases e)
      rw [e] at m1
      exact ⟨Nat.le_refl _, Nat.le_refl _, m1⟩
    · rcases hS.1 s hs4 with ⟨a, b⟩ | ⟨q', n, r1, r2, r3, r4⟩
      · rw [b] at e; cases e
      · have e2 : q = q' := Option.some.inj (e.symm.trans r1)
        subst e2
        rcases r4 with ⟨z, F, f1, -⟩ | ⟨z, F, f1, -⟩
        · have m0 := main 0 (fun _ => ⟨fun _ => z, fun _ => rfl⟩)
          rw [e] at m0
          exact Or.inl ⟨⟨_, hV.wr f1⟩, Nat.le_refl _, Nat.le_refl _, m0⟩
        · have m1 := main 1 (fun _ => ⟨fun y => absurd y (by decide), fun y => absurd (y.symm.trans z) (by decide)⟩)
          rw [e] at m1
          exact Or.inr ⟨⟨_, hV.wr f1⟩, Nat.le_refl _, Nat.le_refl _, m1⟩
  · rw [if_neg (fun z => b2i_0.mp c z.1)] at h
    exact h
end XSh
