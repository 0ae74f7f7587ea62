/-! ===== the reference: sheets, lots, images ===== -/
set_option maxRecDepth 100000
/-- sheets: sort, size, items -/
abbrev ST : Type := (Nat → Int32) × (Nat → Int32) × (Nat → Nat → Int64)
def SE (m : MT) (S : ST) : Prop := ∀ s, s < 4 → M_sorts m s = S.1 s ∧ M_msizes m s = S.2.1 s ∧ ∀ i, i < 40 → M_items m (40 * s + i) = S.2.2 s i
/-- sorts are -1, 0, 1; sizes up to 40 -/
def SV (S : ST) : Prop := ∀ s, s < 4 → S.1 s = -1 ∨ ((S.1 s = 0 ∨ S.1 s = 1) ∧ ∃ n : Nat, n ≤ 40 ∧ S.2.1 s = nI n)
def MS (m : MT) (P : PT) (S : ST) (m' : MT) : Prop := Enc (M_s m') P ∧ SE m' S ∧ M_image m' = M_image m ∧ M_hasImage m' = M_hasImage m
theorem MRw.ms {m m' : MT} {P : PT} {S : ST} (h : MRw m P m') (hS : SE m S) : MS m P S m' := by
  refine ⟨h.1, fun s hs => ?_, h.2.1, h.2.2.2.1⟩
  rw [h.2.2.2.2.1, h.2.2.2.2.2.1, h.2.2.2.2.2.2.1]
  exact hS s hs
def sSort (S : ST) (s : Nat) (v : Int32) : ST := (fset S.1 s v, S.2)
def sSize (S : ST) (s : Nat) (v : Int32) : ST := (S.1, fset S.2.1 s v, S.2.2)
def sItem (S : ST) (s i : Nat) (v : Int64) : ST := (S.1, S.2.1, fset2 S.2.2 s i v)
def sRow (S : ST) (s : Nat) (F : Nat → Int64) : ST := (S.1, S.2.1, fset S.2.2 s F)
def mkS (S : ST) (s : Nat) (sort n : Int32) : ST := sRow (sSize (sSort S s sort) s n) s (fun _ => 0)
theorem upd_fset {f h : Nat → Int32} {N s k : Nat} {v : Int32} (e : ∀ j, j < N → f j = h j) (hk : k < N) : upd f s v k = fset h s v k := by
  by_cases c : k = s
  · subst c
    rw [pk_us, fset_s]
  · rw [pk_un c, fset_n c]
    exact e k hk
theorem SE.item {m : MT} {S : ST} (h : SE m S) {s i : Nat} {v : Int64} (hi : i < 40) : SE (M_items_ m (vp_updL (M_items m) (40 * s + i) v)) (sItem S s i v) := by
  intro t ht
  obtain ⟨h1, h2, h3⟩ := h t ht
  refine ⟨h1, h2, fun j hj => ?_⟩
  show vp_updL (M_items m) (40 * s + i) v (40 * t + j) = fset2 S.2.2 s i v t j
  by_cases c : t = s ∧ j = i
  · obtain ⟨rfl, rfl⟩ := c
    rw [pk_uLs, fset2_s]
  · rw [pk_uLn (by omega), fset2_n c]
    exact h3 j hj
theorem ix_item (s i : Nat) : (40 * nI s) + nI i = nI (40 * s + i) := by
  rw [show (40 : Int32) = nI 40 from rfl, pk_mul, nI_add]
theorem ix_item1 (s i : Nat) : ((40 * nI s) + nI i) + 1 = nI (40 * s + (i + 1)) := by
  rw [ix_item, nI_1]
  rfl
theorem inI_m {x : Int32} {N : Nat} (hN : N < 2 ^ 31) : inI x 0 (nI N - 1) ↔ ∃ k, k < N ∧ x = nI k := by
  cases N with
  | zero =>
    constructor
    · rintro ⟨h1, h2⟩
      exfalso
      have e : nI 0 - 1 = -1 := by decide
      rw [e] at h2
      rw [Int32.lt_iff_toInt_lt] at h1 h2
      have e1 : (0 : Int32).toInt = 0 := by decide
      have e2 : (-1 : Int32).toInt = -1 := by decide
      omega
    · rintro ⟨k, hk, -⟩
      omega
  | succ N =>
    rw [nI_m]
    constructor
    · intro h
      obtain ⟨k, hk, e⟩ := inI_n h rfl rfl (by omega)
      exact ⟨k, by omega, e⟩
    · rintro ⟨k, hk, rfl⟩
      exact n_inI (by omega) rfl (by omega)
/-- the chain over a place, at most 20 long -/
def chn (P : PT) : Nat → Int32 → List Nat
  | 0, _ => []
  | f + 1, x => if x = -1 then [] else x.toNatClampNeg :: chn P f (P_prev P x.toNatClampNeg)
def chl (P : PT) (t : Nat) : List Nat := chn P 20 (P_prev P t)
section MW
variable {g : GT} {w : aW} {P : PT} {S : ST} {m0 m : MT} {QR : Option aV → aW → Prop} {QX : String → aW → Prop} {rc rs : Nat}
theorem g_sort (hV : V (G_M_ g m) w) (hS : SE m S) {s : Nat} (hs : s < 4) : gI w (g_ad g 407) (nI s) (S.1 s) := by
  have := hV.mg_sorts (vp_in_nI hs (by decide))
  rw [nI_clamp (by omega)] at this
  rw [← (hS s hs).1]
  exact this
theorem g_sn (hV : V (G_M_ g m) w) (hS : SE m S) {s : Nat} (hs : s < 4) : gI w (g_ad g 408) (nI s) (S.2.1 s) := by
  have := hV.mg_msizes (vp_in_nI hs (by decide))
  rw [nI_clamp (by omega)] at this
  rw [← (hS s hs).2.1]
  exact this
theorem g_item (hV : V (G_M_ g m) w) (hS : SE m S) {s i : Nat} (hs : s < 4) (hi : i < 40) {x : Int32} (hx : x = nI (40 * s + i)) : gL w (g_ad g 409) x (S.2.2 s i) := by
  subst hx
  have := hV.mg_items (vp_in_nI (by omega : 40 * s + i < 160) (by decide))
  rw [nI_clamp (by omega)] at this
  rw [← (hS s hs).2.2 i hi]
  exact this
theorem q_sort (hV : V (G_M_ g m) w) (hM : MS m0 P S m) {s : Nat} (hs : s < 4) {v : Int32} {Q : aW → Prop} (k : ∀ m' w', V (G_M_ g m') w' → MS m0 P (sSort S s v) m' → Q w') : pI w (g_ad g 407) (nI s) v Q := by
  refine hV.mp_sorts (vp_in_nI hs (by decide)) (fun w' h' => k _ w' h' ⟨hM.1, fun t ht => ?_, hM.2.2⟩)
  obtain ⟨h1, h2, h3⟩ := hM.2.1 t ht
  refine ⟨?_, h2, h3⟩
  show upd (M_sorts m) (nI s).toNatClampNeg v t = fset S.1 s v t
  rw [nI_clamp (by omega)]
  exact upd_fset (N := 4) (fun j hj => (hM.2.1 j hj).1) ht
theorem q_sn (hV : V (G_M_ g m) w) (hM : MS m0 P S m) {s : Nat} (hs : s < 4) {v : Int32} {Q : aW → Prop} (k : ∀ m' w', V (G_M_ g m') w' → MS m0 P (sSize S s v) m' → Q w') : pI w (g_ad g 408) (nI s) v Q := by
  refine hV.mp_msizes (vp_in_nI hs (by decide)) (fun w' h' => k _ w' h' ⟨hM.1, fun t ht => ?_, hM.2.2⟩)
  obtain ⟨h1, h2, h3⟩ := hM.2.1 t ht
  refine ⟨h1, ?_, h3⟩
  show upd (M_msizes m) (nI s).toNatClampNeg v t = fset S.2.1 s v t
  rw [nI_clamp (by omega)]
  exact upd_fset (N := 4) (fun j hj => (hM.2.1 j hj).2.1) ht
theorem q_item (hV : V (G_M_ g m) w) (hM : MS m0 P S m) {s i : Nat} (hs : s < 4) (hi : i < 40) {x : Int32} (hx : x = nI (40 * s + i)) {v : Int64} {Q : aW → Prop} (k : ∀ m' w', V (G_M_ g m') w' → MS m0 P (sItem S s i v) m' → Q w') : pL w (g_ad g 409) x v Q := by
  subst hx
  refine hV.mp_items (vp_in_nI (by omega : 40 * s + i < 160) (by decide)) (fun w' h' => k _ w' h' ?_)
  rw [nI_clamp (by omega)]
  exact ⟨hM.1, hM.2.1.item hi, hM.2.2⟩
theorem SE.cg {m : MT} {S S' : ST} (h : SE m S) (e1 : S'.1 = S.1) (e2 : S'.2.1 = S.2.1) (e3 : ∀ s i, i < 40 → S.2.2 s i = S'.2.2 s i) : SE m S' := by
  intro s hs
  obtain ⟨h1, h2, h3⟩ := h s hs
  exact ⟨h1.trans (by rw [e1]), h2.trans (by rw [e2]), fun i hi => (h3 i hi).trans (e3 s i hi)⟩
theorem MS.cg {S' : ST} (h : MS m0 P S m) (e1 : S'.1 = S.1) (e2 : S'.2.1 = S.2.1) (e3 : ∀ s i, i < 40 → S.2.2 s i = S'.2.2 s i) : MS m0 P S' m := ⟨h.1, h.2.1.cg e1 e2 e3, h.2.2⟩
theorem lp_makes {s : Nat} (hs : s < 4) {i2 i3 : Int32} (h : ∀ m' w', V (G_M_ g m') w' → MS m0 P (sRow S s (fun _ => 0)) m' → QR none w') : ∀ n k m1 w1, k + n = 40 → V (G_M_ g m1) w1 → MS m0 P (sRow S s (fun i => if i < k then 0 else S.2.2 s i)) m1 → wp KX3_makes rc rs QR QX 17 [(0, vR (some (g_m g))), (1, vI (nI s)), (2, vI i2), (3, vI i3), (4, vI (nI k))] [] w1 := by
  intro n
  induction n with
  | zero =>
    intro k m1 w1 hk hV hM
    refine sg_X3_makes_17 (lpc (N := 40) rfl (by decide) hk (fun _ => ?_) (fun m e => by omega))
    refine h m1 w1 hV (hM.cg rfl rfl (fun t i hi => ?_))
    show fset S.2.2 s _ t i = fset S.2.2 s _ t i
    by_cases e : t = s
    · subst e
      rw [fset_s, fset_s, if_pos (by omega)]
    · rw [fset_n e, fset_n e]
  | succ n ih =>
    intro k m1 w1 hk hV hM
    refine sg_X3_makes_17 (lpc (N := 40) rfl (by decide) hk (fun e => by omega) (fun m e hk2 => ⟨_, hV.mf_items, q_item hV hM hs hk2 (ix_item s k) (fun m2 w2 h2 M2 => ?_)⟩))
    rw [nI_1]
    refine ih (k + 1) m2 w2 (by omega) h2 (M2.cg rfl rfl (fun t i hi => ?_))
    show fset2 (fset S.2.2 s _) s k 0 t i = fset S.2.2 s _ t i
    by_cases e : t = s
    · subst e
      rw [fset_s]
      by_cases e4 : i = k
      · subst e4
        rw [fset2_s, if_pos (by omega)]
      · rw [fset2_n (fun z => e4 z.2), fset_s]
        by_cases c : i < k
        · rw [if_pos c, if_pos (by omega)]
        · rw [if_neg c, if_neg (by omega)]
    · rw [fset_n e, fset2_n (fun z => e z.1), fset_n e]
theorem c_X3_makes (hV : V (G_M_ g m) w) (hM : MS m0 P S m) {s : Nat} (hs : s < 4) {sort n : Int32} (h : ∀ m' w', V (G_M_ g m') w' → MS m0 P (mkS S s sort n) m' → QR none w') : ct KX3_makes 0 0 [vR (some (g_m g)), vI (nI s), vI sort, vI n] w QR QX := by
  refine st_X3_makes (sg_X3_makes_0 ⟨_, hV.mf_sorts, q_sort hV hM hs (fun m1 w1 h1 M1 => ⟨_, h1.mf_msizes, q_sn h1 M1 hs (fun m2 w2 h2 M2 => ?_)⟩)⟩)
  refine lp_makes (S := sSize (sSort S s sort) s n) hs h 40 0 m2 w2 rfl h2 (M2.cg rfl rfl (fun t i hi => ?_))
  show S.2.2 t i = fset S.2.2 s (fun i => if i < 0 then 0 else S.2.2 s i) t i
  by_cases e : t = s
  · subst e
    rw [fset_s, if_neg (by omega)]
  · rw [fset_n e]
theorem c_X3_isSheet {x : Int32} (h : QR (some (vI (b2i (inI x 0 3)))) w) : ct KX3_isSheet 0 0 [vI x] w QR QX :=
  st_X3_isSheet (sg_X3_isSheet_0 (c_X3_in ⟨_, rfl, b2i_nar _, h⟩))
def o_sheet (S : ST) (x sort n : Int32) : Int32 × ST := if inI x 0 3 ∧ inI sort (-1) 1 ∧ (sort = -1 ∨ n ≤ 40) then (if sort = -1 then (1, mkS S x.toNatClampNeg sort 0) else if 0 ≤ n then (1, mkS S x.toNatClampNeg sort n) else (-14, S)) else (-2, S)
theorem c_X3_sheet (hV : V (G_M_ g m) w) (hM : MS m0 P S m) {x sort n : Int32} (h : ∀ m' w', V (G_M_ g m') w' → MS m0 P (o_sheet S x sort n).2 m' → QR (some (vI (o_sheet S x sort n).1)) w') : ct KX3_sheet 0 0 [vR (some (g_m g)), vI x, vI sort, vI n] w QR QX := by
  have h0 := h m w hV
  unfold o_sheet at h h0
  have hA : inI x 0 3 ∧ inI sort (-1) 1 → sort = -1 → isO w (g_m g) 3 ∧ ct (KX3_makes) 0 0 [vR (some (g_m g)), vI x, vI sort, vI 0] w (fun v55 w55 => v55 = none ∧ QR (some (vI 1)) w55) (fun E55 w55 => False) := by
    intro c1 c2
    obtain ⟨s, hs, rfl⟩ := inI_n (H := 3) c1.1 rfl rfl (by decide)
    rw [if_pos ⟨c1.1, c1.2, Or.inl c2⟩, if_pos c2, nI_clamp (by omega)] at h
    exact ⟨hV.mO, c_X3_makes hV hM (by omega) (fun m' w' h1 M1 => ⟨rfl, h m' w' h1 M1⟩)⟩
  have hB : inI x 0 3 ∧ inI sort (-1) 1 → ¬ sort = -1 → n ≤ 40 → 0 ≤ n → isO w (g_m g) 3 ∧ ct (KX3_makes) 0 0 [vR (some (g_m g)), vI x, vI sort, vI n] w (fun v55 w55 => v55 = none ∧ QR (some (vI 1)) w55) (fun E55 w55 => False) := by
    intro c1 c2 c3 c4
    obtain ⟨s, hs, rfl⟩ := inI_n (H := 3) c1.1 rfl rfl (by decide)
    rw [if_pos ⟨c1.1, c1.2, Or.inr c3⟩, if_neg c2, if_pos c4, nI_clamp (by omega)] at h
    exact ⟨hV.mO, c_X3_makes hV hM (by omega) (fun m' w' h1 M1 => ⟨rfl, h m' w' h1 M1⟩)⟩
  refine st_X3_sheet (sg_X3_sheet_0 (c_X3_isSheet ⟨_, rfl, fun c => ?_, fun c => c_X3_in ⟨_, rfl, fun c2 => ?_, fun c2 => ?_⟩⟩))
  · rw [if_neg (fun z => b2i_0.mp c z.1)] at h0
    exact h0 hM
  · rw [if_neg (fun z => b2i_0.mp c2 z.2.1)] at h0
    exact h0 hM
  · have c1 : inI x 0 3 ∧ inI sort (-1) 1 := ⟨b2i_n0.mp c, b2i_n0.mp c2⟩
    refine ⟨fun c3 => ⟨fun _ => ⟨fun z => absurd c3 z, fun _ => hA c1 c3⟩, fun z => absurd c3 z⟩, fun c3 => ⟨fun c4 => ⟨fun z => absurd z c3, fun _ => ⟨fun c5 => ⟨fun _ => hB c1 c3 c4 c5, fun z => absurd z c3⟩, fun c5 => ?_⟩⟩, fun c4 => ?_⟩⟩
    · rw [if_pos ⟨c1.1, c1.2, Or.inr c4⟩, if_neg c3, if_neg c5] at h0
      exact h0 hM
    · rw [if_neg (fun z => z.2.2.elim c3 c4)] at h0
      exact h0 hM
def cellV (sort : Int32) (v : Int64) : Int64 := if sort = 0 then v.toInt32.toInt64 else v
def o_cell (S : ST) (x i : Int32) (v : Int64) : Int32 × ST := if inI x 0 3 then (if S.1 x.toNatClampNeg = -1 then (-11, S) else if inI i 0 (S.2.1 x.toNatClampNeg - 1) then (1, sItem S x.toNatClampNeg i.toNatClampNeg (cellV (S.1 x.toNatClampNeg) v)) else (-12, S)) else (-2, S)
theorem SV.at {S : ST} (h : SV S) {s : Nat} (hs : s < 4) (c : ¬ S.1 s = -1) : ∃ n : Nat, n ≤ 40 ∧ S.2.1 s = nI n := by
  rcases h s hs with z | z
  · exact absurd z c
  · exact z.2
theorem c_X3_cell (hV : V (G_M_ g m) w) (hM : MS m0 P S m) (hS : SV S) {x i : Int32} {v : Int64} (h : ∀ m' w', V (G_M_ g m') w' → MS m0 P (o_cell S x i v).2 m' → QR (some (vI (o_cell S x i v).1)) w') : ct KX3_cell 0 0 [vR (some (g_m g)), vI x, vI i, vL v] w QR QX := by
  have h0 := h m w hV
  unfold o_cell at h h0
  refine st_X3_cell (sg_X3_cell_0 (c_X3_isSheet ⟨_, rfl, fun c => ?_, fun c => ?_⟩))
  · have c1 := b2i_n0.mp c
    obtain ⟨s, hs, rfl⟩ := inI_n (H := 3) c1 rfl rfl (by decide)
    rw [if_pos c1, nI_clamp (by omega)] at h h0
    have hs4 : s < 4 := by omega
    refine ⟨_, hV.mf_sorts, _, g_sort hV hM.2.1 hs4, fun c2 => ⟨_, hV.mf_msizes, _, g_sn hV hM.2.1 hs4, c_X3_in ⟨_, rfl, fun c3 => ?_, fun c3 => ?_⟩⟩, fun c2 => ?_⟩
    · have c4 := b2i_n0.mp c3
      rw [if_neg c2, if_pos c4] at h
      obtain ⟨n, hn, en⟩ := hS.at hs4 c2
      rw [en] at c4
      obtain ⟨k, hk, rfl⟩ := (inI_m (by omega)).mp c4
      rw [nI_clamp (by omega)] at h
      refine ⟨_, hV.mf_items, _, hV.mf_sorts, _, g_sort hV hM.2.1 hs4, fun c5 => q_item hV hM hs4 (by omega) (ix_item s k) (fun m2 w2 h2 M2 => h m2 w2 h2 ?_), fun c5 => q_item hV hM hs4 (by omega) (ix_item s k) (fun m2 w2 h2 M2 => h m2 w2 h2 ?_)⟩
      · unfold cellV
        rw [if_neg c5]
        exact M2
      · unfold cellV
        rw [if_pos c5]
        exact M2
    · rw [if_neg c2, if_neg (b2i_0.mp c3)] at h0
      exact h0 hM
    · rw [if_pos c2] at h0
      exact h0 hM
  · rw [if_neg (b2i_0.mp c)] at h0
    exact h0 hM
def r_item (S : ST) (x i : Int32) : Int64 := if inI x 0 3 ∧ ¬ S.1 x.toNatClampNeg = -1 ∧ inI i 0 (S.2.1 x.toNatClampNeg - 1) then S.2.2 x.toNatClampNeg i.toNatClampNeg else NOL
theorem c_X3_item (hV : V (G_M_ g m) w) (hM : SE m S) (hS : SV S) {x i : Int32} (h : QR (some (vL (r_item S x i))) w) : ct KX3_item 0 0 [vR (some (g_m g)), vI x, vI i] w QR QX := by
  unfold r_item at h
  refine st_X3_item (sg_X3_item_0 (c_X3_isSheet ⟨_, rfl, fun c => ?_, fun c => ?_⟩))
  · rwa [if_neg (fun z => b2i_0.mp c z.1)] at h
  · have c1 := b2i_n0.mp c
    obtain ⟨s, hs, rfl⟩ := inI_n (H := 3) c1 rfl rfl (by decide)
    rw [nI_clamp (by omega)] at h
    have hs4 : s < 4 := by omega
    refine ⟨_, hV.mf_sorts, _, g_sort hV hM hs4, fun c2 => ?_, fun c2 => ⟨_, hV.mf_msizes, _, g_sn hV hM hs4, c_X3_in ⟨_, rfl, fun c3 => ?_, fun c3 => ?_⟩⟩⟩
    · rwa [if_neg (fun z => z.2.1 c2)] at h
    · rwa [if_neg (fun z => b2i_0.mp c3 z.2.2)] at h
    · have c4 := b2i_n0.mp c3
      rw [if_pos ⟨c1, c2, c4⟩] at h
      obtain ⟨n, hn, en⟩ := hS.at hs4 c2
      rw [en] at c4
      obtain ⟨k, hk, rfl⟩ := (inI_m (by omega)).mp c4
      rw [nI_clamp (by omega)] at h
      exact ⟨_, hV.mf_items, _, g_item hV hM hs4 (by omega) (ix_item s k), h⟩
/-- where slots differ, and what size the other has there -/
def dfS (P : PT) (a b : Nat) : Nat → Nat × (Nat → Int64)
  | 0 => (0, fun _ => 0)
  | k + 1 => if P_slot P a k = P_slot P b k then dfS P a b k else ((dfS P a b k).1 + 2, fset (fset (dfS P a b k).2 (dfS P a b k).1 (nI k).toInt64) ((dfS P a b k).1 + 1) (szI P (P_slot P b k)).toInt64)
theorem dfS_le (P : PT) (a b : Nat) : ∀ k, (dfS P a b k).1 ≤ 2 * k := by
  intro k
  induction k with
  | zero => exact Nat.le_refl _
  | succ k ih =>
    by_cases c : P_slot P a k = P_slot P b k
    · show (if P_slot P a k = P_slot P b k then dfS P a b k else _).1 ≤ _
      rw [if_pos c]
      omega
    · show (if P_slot P a k = P_slot P b k then dfS P a b k else _).1 ≤ _
      rw [if_neg c]
      show (dfS P a b k).1 + 2 ≤ _
      omega
theorem nI_2 (k : Nat) : nI k + 2 = nI (k + 2) := by
  rw [show (2 : Int32) = nI 2 from rfl, nI_add]
theorem lp_differ (hO : SO P) {s a b : Nat} (hs : s < 4) (ha : a < 20) (hb : b < 20) {i4 : Int32} (h : ∀ m' w', V (G_M_ g m') w' → MS m0 P (sSize (sRow S s (dfS P a b 12).2) s (nI (dfS P a b 12).1)) m' → QR (some (vI (nI (dfS P a b 12).1))) w') : ∀ n k m1 w1, k + n = 12 → V (G_M_ g m1) w1 → MS m0 P (sRow S s (dfS P a b k).2) m1 → wp KX3_differ rc rs QR QX 55 [(0, vR (some (g_m g))), (1, vI (nI s)), (2, vI (nI a)), (3, vI (nI b)), (4, vI i4), (5, vI (nI (dfS P a b k).1)), (6, vI (nI k))] [] w1 := by
  intro n
  induction n with
  | zero =>
    intro k m1 w1 hk hV hM
    have : k = 12 := by omega
    subst this
    exact sg_X3_differ_55 (lpc (N := 12) rfl (by decide) hk (fun _ => ⟨_, hV.mf_msizes, q_sn hV hM hs (fun m2 w2 h2 M2 => h m2 w2 h2 M2)⟩) (fun m e => by omega))
  | succ n ih =>
    intro k m1 w1 hk hV hM
    have hl := dfS_le P a b k
    refine sg_X3_differ_55 (lpc (N := 12) rfl (by decide) hk (fun e => by omega) (fun m e hk2 => ⟨_, hV.mf_s, _, g_slot hV hM.1 ha hk2, _, hV.mf_s, _, g_slot hV hM.1 hb hk2, fun c => ?_, fun c => ⟨_, hV.mf_items, q_item hV hM hs (by omega) (ix_item s _) (fun m2 w2 h2 M2 => ⟨_, h2.mf_items, h2.mO, c_X3_sizeIn h2 M2.1 hO hb hk2 ⟨_, rfl, q_item h2 M2 hs (by omega) (ix_item1 s _) (fun m3 w3 h3 M3 => ?_)⟩⟩)⟩⟩))
    · have e1 : dfS P a b (k + 1) = dfS P a b k := if_pos c
      have := ih (k + 1) m1 w1 (by omega) hV (by rw [e1]; exact hM)
      rw [e1] at this
      rw [nI_1]
      exact this
    · have e1 : dfS P a b (k + 1) = ((dfS P a b k).1 + 2, fset (fset (dfS P a b k).2 (dfS P a b k).1 (nI k).toInt64) ((dfS P a b k).1 + 1) (szI P (P_slot P b k)).toInt64) := if_neg c
      have := ih (k + 1) m3 w3 (by omega) h3 (by
        rw [e1]
        refine M3.cg rfl rfl (fun t i hi => ?_)
        show fset2 (fset2 (fset S.2.2 s _) s _ _) s _ _ t i = fset S.2.2 s _ t i
        by_cases e : t = s
        · subst e
          rw [fset_s]
          dsimp only
          by_cases e4 : i = (dfS P a b k).1 + 1
          · subst e4
            rw [fset2_s, fset_s]
          · rw [fset2_n (fun z => e4 z.2), fset_n e4]
            by_cases e5 : i = (dfS P a b k).1
            · subst e5
              rw [fset2_s, fset_s]
            · rw [fset2_n (fun z => e5 z.2), fset_n e5, fset_s]
        · rw [fset2_n (fun z => e z.1), fset2_n (fun z => e z.1), fset_n e, fset_n e])
      rw [e1] at this
      rw [nI_1, nI_2]
      exact this
def dfT (P : PT) (S : ST) (s a b : Nat) : ST := sSize (sRow (sSort S s 1) s (dfS P a b 12).2) s (nI (dfS P a b 12).1)
def o_differ (P : PT) (S : ST) (x y z : Int32) : Int32 × ST := if inI x 0 3 then (if askS P y = 0 then (if askS P z = 0 then (nI (dfS P y.toNatClampNeg z.toNatClampNeg 12).1, dfT P S x.toNatClampNeg y.toNatClampNeg z.toNatClampNeg) else (askS P z, S)) else (askS P y, S)) else (-2, S)
theorem c_X3_differ (hV : V (G_M_ g m) w) (hM : MS m0 P S m) (hO : SO P) {x y z : Int32} (h : ∀ m' w', V (G_M_ g m') w' → MS m0 P (o_differ P S x y z).2 m' → QR (some (vI (o_differ P S x y z).1)) w') : ct KX3_differ 0 0 [vR (some (g_m g)), vI x, vI y, vI z] w QR QX := by
  have h0 := h m w hV
  unfold o_differ at h h0
  refine st_X3_differ (sg_X3_differ_0 (c_X3_isSheet ⟨_, rfl, fun c => ⟨hV.mO, c_X3_askedSlots hV hM.1 ⟨_, rfl, fun c2 => ⟨hV.mO, c_X3_askedSlots hV hM.1 ⟨_, rfl, fun c3 => ⟨hV.mO, ?_⟩, fun c3 => ?_⟩⟩, fun c2 => ⟨fun z => absurd z c2, fun _ => ?_⟩⟩⟩, fun c => ?_⟩))
  · have c1 := b2i_n0.mp c
    obtain ⟨s, hs, rfl⟩ := inI_n (H := 3) c1 rfl rfl (by decide)
    obtain ⟨a, ha, rfl, -⟩ := askS_0.mp c2
    obtain ⟨b, hb, rfl, -⟩ := askS_0.mp c3
    rw [if_pos c1, if_pos c2, if_pos c3, nI_clamp (by omega), nI_clamp (by omega), nI_clamp (by omega)] at h
    refine c_X3_makes hV hM (by omega) (fun m1 w1 h1 M1 => ⟨rfl, ?_⟩)
    refine lp_differ (S := sSize (sSort S s 1) s 0) hO (by omega) ha hb (fun m' w' h2 M2 => h m' w' h2 (M2.cg rfl ?_ (fun _ _ _ => rfl))) 12 0 m1 w1 rfl h1 M1
    funext j
    show fset S.2.1 s _ j = fset (fset S.2.1 s 0) s _ j
    by_cases e : j = s
    · subst e
      rw [fset_s, fset_s]
    · rw [fset_n e, fset_n e, fset_n e]
  · rw [if_pos (b2i_n0.mp c), if_pos c2, if_neg c3] at h0
    exact h0 hM
  · rw [if_pos (b2i_n0.mp c), if_neg c2] at h0
    exact h0 hM
  · rw [if_neg (b2i_0.mp c)] at h0
    exact h0 hM
end MW
