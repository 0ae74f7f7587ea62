/-! ===== the reference: holders among the newest, most, fewest, expire ===== -/
set_option maxRecDepth 100000
def lsP (P : PT) (t : Nat) : Prop := P_tags P t = 0 ∧ nNx P (nI t) = 1
def hB (P : PT) (L : List Nat) (many b : Nat) (k : Nat) : Prop := k < many ∧ held P (gD L k) (nI b)
/-- what of set p frees: all that hold it are among the newest, and among p -/
def frP (P : PT) (L : List Nat) (many : Nat) (p : Nat → Prop) (b : Nat) : Prop := (∃ k, hB P L many b k) ∧ cn (hB P L many b) 8 = hCn P b ∧ ∀ k, hB P L many b k → p k
def raw (P : PT) (L : List Nat) (many : Nat) (x : Int32) (b : Nat) : Prop := ∀ j, j < 32 → (tb x j = true ↔ hB P L many b j)
def fin1 (P : PT) (L : List Nat) (many : Nat) (x : Int32) (b : Nat) : Prop := ∃ y, raw P L many y b ∧ x = if nI (pc8 y) = nI (hCn P b) then y else 0
theorem fr_iff {P : PT} {L : List Nat} {many b : Nat} {x set : Int32} {p : Nat → Prop} (hm : many ≤ 8) (h : fin1 P L many x b) (hs : ∀ k, k < 32 → (tb set k = true ↔ p k)) : (¬ x = 0 ∧ x &&& (set ^^^ (-1)) = 0) ↔ frP P L many p b := by
  obtain ⟨y, hr, e⟩ := h
  have hc : pc8 y = cn (hB P L many b) 8 := cn_congr (fun i hi => hr i (by omega))
  have hl : pc8 y ≤ 8 := cn_le _ _
  have hh := hCn_le P b
  by_cases c : nI (pc8 y) = nI (hCn P b)
  · rw [if_pos c] at e
    subst e
    have c2 := (nI_eq (by omega) (by omega)).mp c
    rw [sub_0]
    constructor
    · rintro ⟨h1, h2⟩
      obtain ⟨k, hk, hk2⟩ := tb_ne0 h1
      refine ⟨⟨k, (hr k hk).mp hk2⟩, by rw [← hc, c2], fun k hk => ?_⟩
      have h32 : k < 32 := by have := hk.1; omega
      exact (hs k h32).mp (h2 k h32 ((hr k h32).mpr hk))
    · rintro ⟨⟨k, hk⟩, -, h3⟩
      refine ⟨fun z => ?_, fun k h32 hk2 => (hs k h32).mpr (h3 k ((hr k h32).mp hk2))⟩
      have h32 : k < 32 := by have := hk.1; omega
      have := (hr k h32).mpr hk
      rw [z, tb_0] at this
      cases this
  · rw [if_neg c] at e
    subst e
    constructor
    · rintro ⟨h1, -⟩
      exact absurd rfl h1
    · rintro ⟨-, h2, -⟩
      exact absurd (by rw [hc, h2]) c
/-- which sets are asked for, and how many they are -/
def ql (P : PT) (L : List Nat) (many s : Nat) : Prop := ∀ k, k < 8 → s.testBit k = true → k < many ∧ lsP P (gD L k)
noncomputable def pcn (s : Nat) : Nat := cn (fun k => s.testBit k = true) 8
noncomputable def fB (P : PT) (L : List Nat) (many s : Nat) : Int64 := sb P (frP P L many (fun k => s.testBit k = true)) 96
theorem tb_hi {s k : Nat} (h : s < 256) (hk : 8 ≤ k) : s.testBit k = false := by
  apply Nat.testBit_lt_two_pow
  calc s < 2 ^ 8 := h
    _ ≤ 2 ^ k := Nat.pow_le_pow_right (by decide) hk
theorem pc8_n {s : Nat} (h : s < 256) : pc8 (nI s) = pcn s := cn_congr (fun k _ => by rw [tb_n (by omega)])
theorem ql_iff {P : PT} {L : List Nat} {many s : Nat} {x : Int32} (h : s < 256) (hx : ∀ k, k < 32 → (tb x k = true ↔ k < many ∧ lsP P (gD L k))) : nI s &&& (x ^^^ (-1)) = 0 ↔ ql P L many s := by
  rw [sub_0]
  constructor
  · intro h1 k hk h2
    exact (hx k (by omega)).mp (h1 k (by omega) (by rw [tb_n (by omega)]; exact h2))
  · intro h1 k hk h2
    rw [tb_n (by omega)] at h2
    rcases Nat.lt_or_ge k 8 with z | z
    · exact (hx k hk).mpr (h1 k z h2)
    · rw [tb_hi h z] at h2
      cases h2
/-- the most that sets below s of at most n free -/
def mostS (P : PT) (L : List Nat) (many n s : Nat) (v : Int64) : Prop := ¬ v < 0 ∧ (v = 0 ∨ ∃ z, z < s ∧ ql P L many z ∧ pcn z ≤ n ∧ v = fB P L many z) ∧ ∀ z, z < s → ql P L many z → pcn z ≤ n → ¬ v < fB P L many z
/-- the fewest of sets below s that free x -/
def fewS (P : PT) (L : List Nat) (many s : Nat) (x : Int64) (v : Int32) : Prop := (v = -1 ∧ ∀ z, z < s → ql P L many z → fB P L many z < x) ∨ (∃ z, z < s ∧ ql P L many z ∧ v = nI (pcn z) ∧ ¬ fB P L many z < x ∧ ∀ z', z' < s → ql P L many z' → ¬ fB P L many z' < x → pcn z ≤ pcn z')
section MV
variable {g : GT} {w : aW} {P : PT} {m0 m : MT} {QR : Option aV → aW → Prop} {QX : String → aW → Prop} {rc rs : Nat}
def mny (L : List Nat) : Nat := if 8 ≤ L.length then 8 else L.length
theorem mny_le (L : List Nat) : mny L ≤ 8 ∧ mny L ≤ L.length := by
  unfold mny
  split <;> omega
/-- the state behind looksForOwned -/
def MN (m0 : MT) (P : PT) (L : List Nat) (m : MT) : Prop := MRw m0 P m ∧ NW m L
theorem lp_h27 {L : List Nat} {x i2 : Int32} (h : ∀ m' w', V (G_M_ g m') w' → MN m0 P L m' → (∀ b, b < 96 → M_holds m' b = nI (hCn P b)) → (∀ b, b < 96 → M_holders m' b = 0) → wp KX3_looksForHolders rc rs QR QX 48 [(0, vR (some (g_m g))), (1, vI x), (2, vI i2), (3, vI 0)] [] w') : ∀ n k m1 w1, k + n = 96 → V (G_M_ g m1) w1 → MN m0 P L m1 → (∀ b, b < 96 → M_holds m1 b = nI (hCn P b)) → (∀ b, b < k → M_holders m1 b = 0) → wp KX3_looksForHolders rc rs QR QX 27 [(0, vR (some (g_m g))), (1, vI x), (2, vI i2), (3, vI (nI k))] [] w1 := by
  intro n
  induction n with
  | zero =>
    intro k m1 w1 hk hV hM hz h0
    refine sg_X3_looksForHolders_27 (lpc (N := 96) rfl (by decide) hk (fun _ => ?_) (fun m e => by omega))
    have : k = 96 := by omega
    subst this
    exact h m1 w1 hV hM hz h0
  | succ n ih =>
    intro k m1 w1 hk hV hM hz h0
    refine sg_X3_looksForHolders_27 (lpc (N := 96) rfl (by decide) hk (fun e => by omega) (fun m e hk2 => ⟨_, hV.mf_holders, hV.mp_holders (vp_in_nI hk2 (by decide)) (fun w2 h2 => ?_)⟩))
    rw [nI_clamp (by omega)] at h2
    rw [nI_1]
    refine ih (k + 1) _ w2 (by omega) h2 hM hz (fun b hb => ?_)
    show upd (M_holders m1) k 0 b = 0
    by_cases e : b = k
    · rw [e, pk_us]
    · rw [pk_un e]
      exact h0 b (by omega)
theorem lp_h83 (hO : SO P) {L : List Nat} {x loose : Int32} {k : Nat} (hk32 : k < 32) (hu : gD L k < 20) (h : ∀ m' w', V (G_M_ g m') w' → MN m0 P L m' → (∀ b, b < 96 → M_holds m' b = nI (hCn P b)) → (∀ b, b < 96 → raw P L (k + 1) (M_holders m' b) b) → wp KX3_looksForHolders rc rs QR QX 48 [(0, vR (some (g_m g))), (1, vI x), (2, vI loose), (3, vI (nI (k + 1)))] [] w') : ∀ n i m1 w1, i + n = 12 → V (G_M_ g m1) w1 → MN m0 P L m1 → (∀ b, b < 96 → M_holds m1 b = nI (hCn P b)) → (∀ b, b < 96 → ∀ j, j < 32 → (tb (M_holders m1 b) j = true ↔ hB P L k b j ∨ (j = k ∧ ∃ i', i' < i ∧ P_slot P (gD L k) i' = nI b))) → wp KX3_looksForHolders rc rs QR QX 83 [(0, vR (some (g_m g))), (1, vI x), (2, vI loose), (3, vI (nI k)), (4, vI (nI (gD L k))), (5, vI (nI i))] [] w1 := by
  intro n
  induction n with
  | zero =>
    intro i m1 w1 hk hV hM hz hr
    refine sg_X3_looksForHolders_83 (lpc (N := 12) rfl (by decide) hk (fun _ => ?_) (fun m e => by omega))
    have : i = 12 := by omega
    subst this
    rw [nI_1]
    refine h m1 w1 hV hM hz (fun b hb j hj => (hr b hb j hj).trans ?_)
    constructor
    · rintro (z | ⟨z1, z2⟩)
      · exact ⟨by have := z.1; omega, z.2⟩
      · subst z1
        exact ⟨by omega, z2⟩
    · rintro ⟨z1, z2⟩
      by_cases e : j = k
      · subst e
        exact Or.inr ⟨rfl, z2⟩
      · exact Or.inl ⟨by omega, z2⟩
  | succ n ih =>
    intro i m1 w1 hk hV hM hz hr
    refine sg_X3_looksForHolders_83 (lpc (N := 12) rfl (by decide) hk (fun e => by omega) (fun m e hk2 => ⟨_, hV.mf_s, _, g_slot hV hM.1.1 hu hk2, fun c => ?_, fun c => ?_⟩))
    · rw [nI_1]
      refine ih (i + 1) m1 w1 (by omega) hV hM hz (fun b hb j hj => (hr b hb j hj).trans ?_)
      constructor
      · rintro (z | ⟨z1, i', z2, z3⟩)
        · exact Or.inl z
        · exact Or.inr ⟨z1, i', by omega, z3⟩
      · rintro (z | ⟨z1, i', z2, z3⟩)
        · exact Or.inl z
        · refine Or.inr ⟨z1, i', ?_, z3⟩
          rcases Nat.lt_or_ge i' i with y | y
          · exact y
          · have : i' = i := by omega
            subst this
            rw [c] at z3
            exact absurd z3.symm (m1_ne b (by omega))
    · rcases hO (gD L k) i hu hk2 with z | ⟨a, ha, z⟩
      · exact absurd z c
      · refine ⟨_, hV.mf_holders, _, hV.mf_s, nI a, ?_, _, hV.mg_holders (vp_in_nI ha (by decide)), hV.mp_holders (vp_in_nI ha (by decide)) (fun w2 h2 => ?_)⟩
        · rw [← z]
          exact g_slot hV hM.1.1 hu hk2
        · rw [nI_clamp (by omega)] at h2
          rw [nI_1]
          refine ih (i + 1) _ w2 (by omega) h2 hM hz (fun b hb j hj => ?_)
          show tb (upd (M_holders m1) a (M_holders m1 a ||| (1 <<< (nI k &&& 31))) b) j = true ↔ _
          by_cases e : b = a
          · subst e
            rw [pk_us, tb_or, tb_1s hk32]
            simp only [Bool.or_eq_true, Bool.and_eq_true, decide_eq_true_eq]
            rw [hr b hb j hj]
            constructor
            · rintro ((y | ⟨y1, i', y2, y3⟩) | ⟨-, y⟩)
              · exact Or.inl y
              · exact Or.inr ⟨y1, i', by omega, y3⟩
              · exact Or.inr ⟨y.symm, i, by omega, z⟩
            · rintro (y | ⟨y1, i', y2, y3⟩)
              · exact Or.inl (Or.inl y)
              · exact Or.inr ⟨hj, y1.symm⟩
          · rw [pk_un e, hr b hb j hj]
            constructor
            · rintro (y | ⟨y1, i', y2, y3⟩)
              · exact Or.inl y
              · exact Or.inr ⟨y1, i', by omega, y3⟩
            · rintro (y | ⟨y1, i', y2, y3⟩)
              · exact Or.inl y
              · refine Or.inr ⟨y1, i', ?_, y3⟩
                rcases Nat.lt_or_ge i' i with u | u
                · exact u
                · have : i' = i := by omega
                  subst this
                  rw [z] at y3
                  exact absurd ((nI_eq (by omega) (by omega)).mp y3).symm e
theorem lp_h48 (hO : SO P) {L : List Nat} {K : Nat} (hK : K ≤ 8) (hKl : K ≤ L.length) (hL : ∀ u, u ∈ L → u < 20) (h : ∀ m' w' loose, V (G_M_ g m') w' → MN m0 P L m' → (∀ b, b < 96 → M_holds m' b = nI (hCn P b)) → (∀ b, b < 96 → raw P L K (M_holders m' b) b) → (∀ j, j < 32 → (tb loose j = true ↔ j < K ∧ lsP P (gD L j))) → wp KX3_looksForHolders rc rs QR QX 151 [(0, vR (some (g_m g))), (1, vI (nI K)), (2, vI loose), (3, vI 0)] [] w') : ∀ n k m1 w1 loose, k + n = K → V (G_M_ g m1) w1 → MN m0 P L m1 → (∀ b, b < 96 → M_holds m1 b = nI (hCn P b)) → (∀ b, b < 96 → raw P L k (M_holders m1 b) b) → (∀ j, j < 32 → (tb loose j = true ↔ j < k ∧ lsP P (gD L j))) → wp KX3_looksForHolders rc rs QR QX 48 [(0, vR (some (g_m g))), (1, vI (nI K)), (2, vI loose), (3, vI (nI k))] [] w1 := by
  intro n
  induction n with
  | zero =>
    intro k m1 w1 loose hk hV hM hz hr hl
    refine sg_X3_looksForHolders_48 (lpc (N := K) rfl (by omega) hk (fun _ => ?_) (fun m e => by omega))
    have : k = K := by omega
    subst this
    exact h m1 w1 loose hV hM hz hr hl
  | succ n ih =>
    intro k m1 w1 loose hk hV hM hz hr hl
    have hu : gD L k < 20 := hL _ (gD_mem (by omega))
    have gn : gI w1 (g_ad (G_M_ g m1) 405) (nI k) (nI (gD L k)) := by
      have := hV.mg_newest (vp_in_nI (by omega : k < 20) (by decide))
      rw [nI_clamp (by omega)] at this
      have e : M_newest m1 k = nI (gD L k) := hM.2.2 k (by omega)
      rw [← e]
      exact this
    have hgo : ∀ loose', (∀ j, j < 32 → (tb loose' j = true ↔ j < k + 1 ∧ lsP P (gD L j))) → wp KX3_looksForHolders rc rs QR QX 83 [(0, vR (some (g_m g))), (1, vI (nI K)), (2, vI loose'), (3, vI (nI k)), (4, vI (nI (gD L k))), (5, vI 0)] [] w1 := by
      intro loose' hl'
      refine lp_h83 hO (by omega) hu (fun m2 w2 h2 M2 hz2 hr2 => ih (k + 1) m2 w2 loose' (by omega) h2 M2 hz2 hr2 hl') 12 0 m1 w1 rfl hV hM hz (fun b hb j hj => (hr b hb j hj).trans ?_)
      constructor
      · exact fun z => Or.inl z
      · rintro (z | ⟨-, i', z, -⟩)
        · exact z
        · omega
    refine sg_X3_looksForHolders_48 (lpc (N := K) rfl (by omega) hk (fun e => by omega) (fun m e hk2 => ⟨_, hV.mf_newest, _, gn, hV.mO, c_X3_isLoose hV hM.1.1 hu ⟨_, rfl, fun c => hgo _ (fun j hj => ?_), fun c => hgo _ (fun j hj => ?_)⟩⟩))
    · rw [tb_or, tb_0, Bool.or_false, hl j hj]
      constructor
      · rintro ⟨z1, z2⟩
        exact ⟨by omega, z2⟩
      · rintro ⟨z1, z2⟩
        refine ⟨?_, z2⟩
        rcases Nat.lt_or_ge j k with y | y
        · exact y
        · have : j = k := by omega
          subst this
          exact absurd z2 (bI_0.mp c)
    · rw [tb_or, tb_1s (by omega)]
      simp only [Bool.or_eq_true, Bool.and_eq_true, decide_eq_true_eq]
      rw [hl j hj]
      constructor
      · rintro (⟨z1, z2⟩ | ⟨-, z⟩)
        · exact ⟨by omega, z2⟩
        · subst z
          exact ⟨by omega, bI_n0.mp c⟩
      · rintro ⟨z1, z2⟩
        rcases Nat.lt_or_ge j k with y | y
        · exact Or.inl ⟨y, z2⟩
        · exact Or.inr ⟨hj, by omega⟩
theorem lp_h151 {L : List Nat} {K : Nat} {loose : Int32} (h : ∀ m' w', V (G_M_ g m') w' → MN m0 P L m' → (∀ b, b < 96 → fin1 P L K (M_holders m' b) b) → QR (some (vI loose)) w') : ∀ n k m1 w1, k + n = 96 → V (G_M_ g m1) w1 → MN m0 P L m1 → (∀ b, b < 96 → M_holds m1 b = nI (hCn P b)) → (∀ b, b < 96 → k ≤ b → raw P L K (M_holders m1 b) b) → (∀ b, b < k → fin1 P L K (M_holders m1 b) b) → wp KX3_looksForHolders rc rs QR QX 151 [(0, vR (some (g_m g))), (1, vI (nI K)), (2, vI loose), (3, vI (nI k))] [] w1 := by
  intro n
  induction n with
  | zero =>
    intro k m1 w1 hk hV hM hz hr hf
    refine sg_X3_looksForHolders_151 (lpc (N := 96) rfl (by decide) hk (fun _ => ?_) (fun m e => by omega))
    exact h m1 w1 hV hM (fun b hb => hf b (by omega))
  | succ n ih =>
    intro k m1 w1 hk hV hM hz hr hf
    have go : ∀ y w2, y = (if nI (pc8 (M_holders m1 k)) = nI (hCn P k) then M_holders m1 k else 0) → V (G_M_ g (M_holders_ m1 (upd (M_holders m1) k y))) w2 → wp KX3_looksForHolders rc rs QR QX 151 [(0, vR (some (g_m g))), (1, vI (nI K)), (2, vI loose), (3, vI (nI k + 1))] [] w2 := by
      intro y w2 hy h2
      rw [nI_1]
      refine ih (k + 1) _ w2 (by omega) h2 hM hz (fun b hb hb2 => ?_) (fun b hb => ?_)
      · show raw P L K (upd (M_holders m1) k y b) b
        rw [pk_un (by omega)]
        exact hr b hb (by omega)
      · show fin1 P L K (upd (M_holders m1) k y b) b
        by_cases e : b = k
        · subst e
          rw [pk_us]
          exact ⟨_, hr b (by omega) (Nat.le_refl _), hy⟩
        · rw [pk_un e]
          exact hf b (by omega)
    have gh := hV.mg_holders (vp_in_nI (by omega : k < 96) (by decide))
    have gd := hV.mg_holds (vp_in_nI (by omega : k < 96) (by decide))
    rw [nI_clamp (by omega)] at gh gd
    have ez : M_holds (G_M (G_M_ g m1)) k = nI (hCn P k) := hz k (by omega)
    rw [ez] at gd
    refine sg_X3_looksForHolders_151 (lpc (N := 96) rfl (by decide) hk (fun e => by omega) (fun m e hk2 => ⟨_, hV.mf_holders, _, hV.mf_holders, _, gh, hV.mO, c_X3_countOf (g := G_M_ g m1) ⟨_, rfl, _, hV.mf_holds, _, gd, fun c => ?_, fun c => ⟨_, hV.mf_holders, _, gh, ?_⟩⟩⟩))
    · refine hV.mp_holders (vp_in_nI hk2 (by decide)) (fun w2 h2 => ?_)
      rw [nI_clamp (by omega)] at h2
      exact go _ w2 (if_neg c).symm h2
    · refine hV.mp_holders (vp_in_nI hk2 (by decide)) (fun w2 h2 => ?_)
      rw [nI_clamp (by omega)] at h2
      exact go _ w2 (if_pos c).symm h2
theorem c_X3_looksForHolders (hV : V (G_M_ g m) w) (hO : SO P) {L : List Nat} (hM : MN m0 P L m) (hl : L.length ≤ 20) (hL : ∀ u, u ∈ L → u < 20) (h : ∀ m' w' loose, V (G_M_ g m') w' → MN m0 P L m' → (∀ b, b < 96 → fin1 P L (mny L) (M_holders m' b) b) → (∀ j, j < 32 → (tb loose j = true ↔ j < mny L ∧ lsP P (gD L j))) → QR (some (vI loose)) w') : ct KX3_looksForHolders 0 0 [vR (some (g_m g))] w QR QX := by
  have ho : M_owns (G_M (G_M_ g m)) = nI L.length := hM.2.1
  have hgo : ∀ K, K = mny L → isO w (g_m g) 3 ∧ ct (KX3_counts) 0 0 [vR (some (g_m g))] w (fun v22 w22 => v22 = none ∧ wp (KX3_looksForHolders) 0 0 QR QX 27 [(0, vR (some (g_m g))), (1, vI (nI K)), (2, vI 0), (3, vI 0)] [] w22) (fun E22 w22 => False) := by
    intro K e
    subst e
    refine ⟨hV.mO, c_X3_counts (g := G_M_ g m) hV hM.1.1 hO (fun m1 w1 h1 M1 hz => ⟨rfl, ?_⟩)⟩
    have hM1 : MN m0 P L m1 := ⟨hM.1.tr M1.1, M1.2.2.1.trans hM.2.1, fun i hi => (congrFun M1.2.1 i).trans (hM.2.2 i hi)⟩
    refine lp_h27 (P := P) (fun m2 w2 h2 M2 hz2 h0 => ?_) 96 0 m1 w1 rfl h1 hM1 hz (fun b hb => by omega)
    refine lp_h48 hO (mny_le L).1 (mny_le L).2 hL (fun m3 w3 loose h3 M3 hz3 hr3 hl3 => ?_) (mny L) 0 m2 w2 0 (by omega) h2 M2 hz2 (fun b hb j hj => ?_) (fun j hj => ?_)
    · exact lp_h151 (fun m4 w4 h4 M4 hf => h m4 w4 loose h4 M4 hf hl3) 96 0 m3 w3 rfl h3 M3 hz3 (fun b hb _ => hr3 b hb) (fun b hb => by omega)
    · rw [h0 b hb, tb_0]
      constructor
      · intro z; cases z
      · intro z
        have := z.1
        omega
    · rw [tb_0]
      constructor
      · intro z; cases z
      · intro z
        have := z.1
        omega
  refine st_X3_looksForHolders (sg_X3_looksForHolders_0 ⟨_, hV.mf_owns, ?_⟩)
  rw [ho]
  refine ⟨fun c => hgo 8 ?_, fun c => ⟨_, by rw [← ho]; exact hV.mf_owns, hgo L.length ?_⟩⟩
  · have : 8 ≤ L.length := (nI_leI (a := 8) (by decide) (by omega)).mp c
    unfold mny
    rw [if_pos this]
  · have : ¬ 8 ≤ L.length := fun z => c ((nI_leI (a := 8) (by decide) (by omega)).mpr z)
    unfold mny
    rw [if_neg this]
theorem lp_freedBy (hV : V (G_M_ g m) w) (hM : MRw m0 P m) {L : List Nat} {K : Nat} (hK : K ≤ 8) (hf : ∀ b, b < 96 → fin1 P L K (M_holders m b) b) {set : Int32} {p : Nat → Prop} (hs : ∀ k, k < 32 → (tb set k = true ↔ p k)) (h : QR (some (vL (sb P (frP P L K p) 96))) w) : ∀ n k, k + n = 96 → wp KX3_freedBy rc rs QR QX 5 [(0, vR (some (g_m g))), (1, vI set), (2, vL (sb P (frP P L K p) k)), (4, vI (nI k))] [] w := by
  intro n
  induction n with
  | zero =>
    intro k hk
    refine sg_X3_freedBy_5 (lpc (N := 96) rfl (by decide) hk (fun _ => ?_) (fun m e => by omega))
    have : k = 96 := by omega
    subst this
    exact h
  | succ n ih =>
    intro k hk
    have ih1 := ih (k + 1) (by omega)
    have gh := hV.mg_holders (vp_in_nI (by omega : k < 96) (by decide))
    rw [nI_clamp (by omega)] at gh
    have hi := fr_iff hK (hf k (by omega)) hs
    refine sg_X3_freedBy_5 (lpc (N := 96) rfl (by decide) hk (fun e => by omega) (fun m e hk2 => ⟨_, hV.mf_holders, _, gh, fun c => ?_, fun c => ⟨_, hV.mf_holders, _, gh, fun c2 => ?_, fun c2 => ⟨_, hV.mf_s, _, g_size hV hM.1 hk2, ?_⟩⟩⟩))
    · rw [sb_f (fun z => (hi.mpr z).1 c)] at ih1
      rw [nI_1, l_0]
      exact ih1
    · rw [sb_f (fun z => c2 (hi.mpr z).2)] at ih1
      rw [nI_1, l_0]
      exact ih1
    · rw [sb_t (hi.mp ⟨c, c2⟩)] at ih1
      rw [nI_1]
      exact ih1
theorem c_X3_freedBy (hV : V (G_M_ g m) w) (hM : MRw m0 P m) {L : List Nat} {K s : Nat} (hK : K ≤ 8) (hf : ∀ b, b < 96 → fin1 P L K (M_holders m b) b) (hs : s < 256) (h : QR (some (vL (fB P L K s))) w) : ct KX3_freedBy 0 0 [vR (some (g_m g)), vI (nI s)] w QR QX :=
  st_X3_freedBy (sg_X3_freedBy_0 (lp_freedBy hV hM hK hf (p := fun k => s.testBit k = true) (fun k _ => by rw [tb_n (by omega)]) h 96 0 rfl))
theorem pcn_le (s : Nat) : pcn s ≤ 8 := cn_le _ _
theorem lp_most (hV : V (G_M_ g m) w) (hM : MRw m0 P m) {L : List Nat} {K n : Nat} (hK : K ≤ 8) (hn : n ≤ 8) (hf : ∀ b, b < 96 → fin1 P L K (M_holders m b) b) {i1 loose : Int32} (hl : ∀ k, k < 32 → (tb loose k = true ↔ k < K ∧ lsP P (gD L k))) (h : ∀ v, mostS P L K n 256 v → QR (some (vL v)) w) : ∀ N s v, s + N = 256 → mostS P L K n s v → wp KX3_most rc rs QR QX 38 [(0, vR (some (g_m g))), (1, vI i1), (2, vI (nI n)), (3, vI loose), (4, vL v), (6, vI (nI s))] [] w := by
  intro N
  induction N with
  | zero =>
    intro s v hk hv
    refine sg_X3_most_38 (lpc (N := 256) rfl (by decide) hk (fun _ => ?_) (fun m e => by omega))
    have : s = 256 := by omega
    subst this
    exact h v hv
  | succ N ih =>
    intro s v hk hv
    have hs : s < 256 := by omega
    have hq := ql_iff hs hl
    have hp := pcn_le s
    have skip : (ql P L K s → pcn s ≤ n → ¬ v < fB P L K s) → mostS P L K n (s + 1) v := by
      intro hsk
      refine ⟨hv.1, ?_, fun z hz h1 h2 => ?_⟩
      · rcases hv.2.1 with y | ⟨z, y1, y2⟩
        · exact Or.inl y
        · exact Or.inr ⟨z, by omega, y2⟩
      · by_cases e : z = s
        · subst e
          exact hsk h1 h2
        · exact hv.2.2 z (by omega) h1 h2
    refine sg_X3_most_38 (lpc (N := 256) rfl (by decide) hk (fun e => by omega) (fun m e hk2 => ⟨fun c => ?_, fun c => ⟨hV.mO, c_X3_countOf (g := G_M_ g _) ⟨_, rfl, fun c2 => ?_, fun c2 => ⟨hV.mO, c_X3_freedBy hV hM hK hf hs ⟨_, rfl, fun c3 => ?_, fun c3 => ?_⟩⟩⟩⟩⟩))
    · rw [nI_1]
      exact ih (s + 1) v (by omega) (skip (fun z => absurd (hq.mpr z) c))
    · rw [nI_1]
      refine ih (s + 1) v (by omega) (skip (fun _ z => ?_))
      rw [pc8_n hs] at c2
      have := (nI_ltI (by omega) (by omega)).mp c2
      omega
    · rw [nI_1]
      exact ih (s + 1) v (by omega) (skip (fun _ _ => c3))
    · rw [nI_1]
      refine ih (s + 1) _ (by omega) ⟨?_, Or.inr ⟨s, by omega, hq.mp c, ?_, rfl⟩, fun z hz h1 h2 => ?_⟩
      · have := hv.1
        intro z
        rw [Int64.lt_iff_toInt_lt] at *
        omega
      · rw [pc8_n hs] at c2
        rcases Nat.lt_or_ge n (pcn s) with z | z
        · exact absurd (nI_lt z (by omega)) c2
        · exact z
      · by_cases e : z = s
        · subst e
          exact fun y => Int64.lt_irrefl y
        · have := hv.2.2 z (by omega) h1 h2
          intro y
          rw [Int64.lt_iff_toInt_lt] at *
          omega
theorem LO1.lt {x : Int32} {L : List Nat} (h : LO1 P x 20 L) : ∀ u, u ∈ L → u < 20 := fun u hu => ((h.1 u).mp hu).1
theorem fK_n {x : Int32} (h : fK (kdI P x)) : ∃ t : Nat, t < 20 ∧ x = nI t ∧ fK (P_kind P t) := by
  obtain ⟨t, ht, rfl, -⟩ := hK_n (Or.inl h)
  rw [kdI_n ht] at h
  exact ⟨t, ht, rfl, h⟩
/-- .. the answer: v is the most, for the owner's list -/
def r_most (P : PT) (x n : Int32) (v : Int64) : Prop := if inI n 0 8 ∧ fK (kdI P x) then ∃ L, LO1 P x 20 L ∧ mostS P L (mny L) n.toNatClampNeg 256 v else v = NOL
theorem c_X3_most (hV : V (G_M_ g m) w) (hM : MRw m0 P m) (hO : SO P) {x n : Int32} (h : ∀ m' w' v, V (G_M_ g m') w' → MRw m0 P m' → r_most P x n v → QR (some (vL v)) w') : ct KX3_most 0 0 [vR (some (g_m g)), vI x, vI n] w QR QX := by
  unfold r_most at h
  refine st_X3_most (sg_X3_most_0 (c_X3_in ⟨_, rfl, fun c => ?_, fun c => ⟨hV.mO, c_X3_isFiles hV hM.1 ⟨_, rfl, fun c2 => ⟨hV.mO, ?_⟩, fun c2 => ?_⟩⟩⟩))
  · refine h m w NOL hV hM ?_
    rw [if_neg (fun z => b2i_0.mp c z.1)]
  · have c1 := b2i_n0.mp c
    have c3 := b2i_n0.mp c2
    obtain ⟨N, hN, rfl⟩ := inI_n (H := 8) c1 rfl rfl (by decide)
    refine c_X3_looksForOwned hV hM (fun m1 w1 L h1 M1 N1 hL => ⟨rfl, h1.mO, c_X3_looksForHolders h1 hO (L := L) ⟨M1, N1⟩ hL.2.2.2 hL.lt (fun m2 w2 loose h2 M2 hf hl => ⟨_, rfl, ?_⟩)⟩)
    refine lp_most h2 M2.1 (mny_le L).1 hN hf hl (fun v hv => h m2 w2 v h2 M2.1 (by rw [if_pos ⟨c1, c3⟩, nI_clamp (by omega)]; exact ⟨L, hL, hv⟩)) 256 0 0 rfl ⟨by decide, Or.inl rfl, fun z hz => by omega⟩
  · refine h m w NOL hV hM ?_
    rw [if_neg (fun z => b2i_0.mp c2 z.2)]
theorem lp_fewest (hV : V (G_M_ g m) w) (hM : MRw m0 P m) {L : List Nat} {K : Nat} (hK : K ≤ 8) (hf : ∀ b, b < 96 → fin1 P L K (M_holders m b) b) {i1 i4 loose : Int32} {x : Int64} (hl : ∀ k, k < 32 → (tb loose k = true ↔ k < K ∧ lsP P (gD L k))) (h : ∀ v, fewS P L K 256 x v → QR (some (vI v)) w) : ∀ N s v, s + N = 256 → fewS P L K s x v → wp KX3_fewest rc rs QR QX 41 [(0, vR (some (g_m g))), (1, vI i1), (2, vL x), (4, vI i4), (5, vI loose), (6, vI v), (7, vI (nI s))] [] w := by
  intro N
  induction N with
  | zero =>
    intro s v hk hv
    refine sg_X3_fewest_41 (lpc (N := 256) rfl (by decide) hk (fun _ => ?_) (fun m e => by omega))
    have : s = 256 := by omega
    subst this
    exact h v hv
  | succ N ih =>
    intro s v hk hv
    have hs : s < 256 := by omega
    have hq := ql_iff hs hl
    have hp := pcn_le s
    have e8 : pc8 (nI s) = pcn s := pc8_n hs
    have skip : (ql P L K s → ¬ fB P L K s < x → (v = -1 → False) ∧ (∀ z, v = nI (pcn z) → pcn z ≤ pcn s)) → wp KX3_fewest rc rs QR QX 41 [(0, vR (some (g_m g))), (1, vI i1), (2, vL x), (4, vI i4), (5, vI loose), (6, vI v), (7, vI (nI s + 1))] [] w := by
      intro hsk
      rw [nI_1]
      refine ih (s + 1) v (by omega) ?_
      rcases hv with ⟨a1, a2⟩ | ⟨z, a1, a2, a3, a4, a5⟩
      · refine Or.inl ⟨a1, fun z hz h1 => ?_⟩
        by_cases e : z = s
        · subst e
          exact Classical.byContradiction (fun y => (hsk h1 y).1 a1)
        · exact a2 z (by omega) h1
      · refine Or.inr ⟨z, by omega, a2, a3, a4, fun z' hz' h1 h2 => ?_⟩
        by_cases e : z' = s
        · subst e
          exact (hsk h1 h2).2 z a3
        · exact a5 z' (by omega) h1 h2
    have take : ql P L K s → ¬ fB P L K s < x → (v = -1 ∨ ∃ z, v = nI (pcn z) ∧ pcn s < pcn z) → wp KX3_fewest rc rs QR QX 41 [(0, vR (some (g_m g))), (1, vI i1), (2, vL x), (4, vI i4), (5, vI loose), (6, vI (nI (pc8 (nI s)))), (7, vI (nI s + 1))] [] w := by
      intro h1 h2 h3
      rw [nI_1, e8]
      refine ih (s + 1) _ (by omega) (Or.inr ⟨s, by omega, h1, rfl, h2, fun z' hz' h4 h5 => ?_⟩)
      by_cases e : z' = s
      · subst e
        exact Nat.le_refl _
      · rcases hv with ⟨a1, a2⟩ | ⟨z, a1, a2, a3, a4, a5⟩
        · exact absurd (a2 z' (by omega) h4) h5
        · have b1 := a5 z' (by omega) h4 h5
          rcases h3 with y | ⟨z2, y1, y2⟩
          · rw [a3] at y
            exact absurd y (m1_ne _ (by have := pcn_le z; omega))
          · rw [a3] at y1
            have := (nI_eq (by have := pcn_le z; omega) (by have := pcn_le z2; omega)).mp y1
            omega
    refine sg_X3_fewest_41 (lpc (N := 256) rfl (by decide) hk (fun e => by omega) (fun m e hk2 => ⟨fun c => ⟨fun c2 => skip (fun z => absurd (hq.mpr z) c2), fun c2 => ⟨hV.mO, c_X3_freedBy hV hM hK hf hs ⟨_, rfl, fun c3 => skip (fun _ z => absurd c3 z), fun c3 => ⟨hV.mO, c_X3_countOf (g := G_M_ g _) ⟨_, rfl, take (hq.mp c2) c3 (Or.inl c)⟩⟩⟩⟩⟩, fun c => ⟨hV.mO, c_X3_countOf (g := G_M_ g _) ⟨_, rfl, fun c2 => ?_, fun c2 => ⟨fun c3 => skip (fun z => absurd (hq.mpr z) c3), fun c3 => ⟨hV.mO, c_X3_freedBy hV hM hK hf hs ⟨_, rfl, fun c4 => skip (fun _ z => absurd c4 z), fun c4 => ⟨hV.mO, c_X3_countOf (g := G_M_ g _) ⟨_, rfl, take (hq.mp c3) c4 ?_⟩⟩⟩⟩⟩⟩⟩⟩))
    · have hk2 : ql P L K s → ¬ fB P L K s < x → (v = -1 → False) ∧ (∀ z, v = nI (pcn z) → pcn z ≤ pcn s) := by
        intro _ _
        refine ⟨c, fun z hz => ?_⟩
        rw [e8, hz] at c2
        exact (nI_leI (by have := pcn_le z; omega) (by omega)).mp c2
      exact ⟨fun _ => skip hk2, fun _ => skip hk2⟩
    · rcases hv with ⟨a1, a2⟩ | ⟨z, a1, a2, a3, a4, a5⟩
      · exact absurd a1 c
      · refine Or.inr ⟨z, a3, ?_⟩
        rw [a3, e8] at c2
        rcases Nat.lt_or_ge (pcn s) (pcn z) with y | y
        · exact y
        · exact absurd (nI_le y (by omega)) c2
def r_fewest (P : PT) (x : Int32) (y : Int64) (v : Int32) : Prop := if ask P x 0 = 0 then (if 0 < y then ∃ L, LO1 P x 20 L ∧ fewS P L (mny L) 256 y v else v = 0) else v = ask P x 0
theorem c_X3_fewest (hV : V (G_M_ g m) w) (hM : MRw m0 P m) (hO : SO P) {x : Int32} {y : Int64} (h : ∀ m' w' v, V (G_M_ g m') w' → MRw m0 P m' → r_fewest P x y v → QR (some (vI v)) w') : ct KX3_fewest 0 0 [vR (some (g_m g)), vI x, vL y] w QR QX := by
  unfold r_fewest at h
  refine st_X3_fewest (sg_X3_fewest_0 ⟨hV.mO, c_X3_asked hV hM.1 ⟨_, rfl, fun c => ⟨fun c2 => ⟨hV.mO, ?_⟩, fun c2 => ?_⟩, fun c => ?_⟩⟩)
  · refine c_X3_looksForOwned hV hM (fun m1 w1 L h1 M1 N1 hL => ⟨rfl, h1.mO, c_X3_looksForHolders h1 hO (L := L) ⟨M1, N1⟩ hL.2.2.2 hL.lt (fun m2 w2 loose h2 M2 hf hl => ⟨_, rfl, ?_⟩)⟩)
    refine lp_fewest h2 M2.1 (mny_le L).1 hf hl (fun v hv => h m2 w2 v h2 M2.1 (by rw [if_pos c, if_pos c2]; exact ⟨L, hL, hv⟩)) 256 0 (-1) rfl (Or.inl ⟨rfl, fun z hz => by omega⟩)
  · refine h m w 0 hV hM ?_
    rw [if_pos c, if_neg c2]
  · refine h m w _ hV hM ?_
    rw [if_neg c]
def exI (every made : Int32) : Prop := ¬ made - made / every * every = 0
/-- those of a list, from place k on downward to lo, are removed if they may be; how many, what then is -/
noncomputable def exS (every : Int32) (L : List Nat) (lo : Nat) : Nat → Nat → PT → Nat × PT
  | 0, c, P => (c, P)
  | k + 1, c, P => if k < lo then (c, P) else @ite _ (exI every (P_made P (gD L k)) ∧ lsP P (gD L k)) (Classical.propDecidable _) (exS every L lo k (c + 1) (o_removed P (gD L k)).2) (exS every L lo k c P)
/-- all along, no thing is its own prev -/
def exO (every : Int32) (L : List Nat) (lo : Nat) : Nat → PT → Prop
  | 0, _ => True
  | k + 1, P => k < lo ∨ ((SO P ∧ ¬ P_prev P (gD L k) = nI (gD L k)) ∧ (exI every (P_made P (gD L k)) ∧ lsP P (gD L k) → exO every L lo k (o_removed P (gD L k)).2) ∧ (¬ (exI every (P_made P (gD L k)) ∧ lsP P (gD L k)) → exO every L lo k P))
theorem exS_lo {every : Int32} {L : List Nat} {lo k c : Nat} {P : PT} (h : k < lo) : exS every L lo (k + 1) c P = (c, P) := if_pos h
theorem exS_t {every : Int32} {L : List Nat} {lo k c : Nat} {P : PT} (h : ¬ k < lo) (h2 : exI every (P_made P (gD L k)) ∧ lsP P (gD L k)) : exS every L lo (k + 1) c P = exS every L lo k (c + 1) (o_removed P (gD L k)).2 := by
  show (if k < lo then (c, P) else _) = _
  rw [if_neg h]
  exact @if_pos _ (Classical.propDecidable _) h2 _ _ _
theorem exS_f {every : Int32} {L : List Nat} {lo k c : Nat} {P : PT} (h : ¬ k < lo) (h2 : ¬ (exI every (P_made P (gD L k)) ∧ lsP P (gD L k))) : exS every L lo (k + 1) c P = exS every L lo k c P := by
  show (if k < lo then (c, P) else _) = _
  rw [if_neg h]
  exact @if_neg _ (Classical.propDecidable _) h2 _ _ _
theorem lp_expire {L : List Nat} (hL : ∀ u, u ∈ L → u < 20) (hlen : L.length ≤ 20) {i1 i4 every : Int32} {lo : Nat} (hlo : lo ≤ 20) (he : ¬ every = 0) : ∀ k c P m1 w1, k ≤ L.length → V (G_M_ g m1) w1 → MN m0 P L m1 → exO every L lo k P → (∀ m' w', V (G_M_ g m') w' → MRw m0 (exS every L lo k c P).2 m' → QR (some (vI (nI (exS every L lo k c P).1))) w') → wp KX3_expire rc rs QR QX 55 [(0, vR (some (g_m g))), (1, vI i1), (2, vI (nI lo)), (3, vI every), (4, vI i4), (5, vI (nI c)), (6, vI (nI k - 1))] [] w1 := by
  intro k
  induction k with
  | zero =>
    intro c P m1 w1 hk hV hM hx h
    refine sg_X3_expire_55 ⟨fun _ => h m1 w1 hV hM.1, fun z => ?_⟩
    exfalso
    apply z
    rw [Int32.lt_iff_toInt_lt, nI_toInt (by omega)]
    have : (nI 0 - 1).toInt = -1 := by decide
    omega
  | succ k ih =>
    intro c P m1 w1 hk hV hM hx h
    rw [nI_m]
    have gk := hV.mg_newest (vp_in_nI (by omega : k < 20) (by decide))
    rw [nI_clamp (by omega)] at gk
    have en : M_newest (G_M (G_M_ g m1)) k = nI (gD L k) := hM.2.2 k (by omega)
    rw [en] at gk
    have hu : gD L k < 20 := hL _ (gD_mem (by omega))
    have em : nI k + (-1) = nI k - 1 := by rw [Int32.sub_eq_add_neg]
    refine sg_X3_expire_55 ⟨fun c1 => ?_, fun c1 => ⟨_, hV.mf_newest, _, gk, _, hV.mf_s, _, g_made hV hM.1.1 hu, he, ?_⟩⟩
    · have := (nI_ltI (by omega) (by omega)).mp c1
      rw [exS_lo this] at h
      exact h m1 w1 hV hM.1
    · have hk2 : ¬ k < lo := fun z => c1 (nI_lt z (by omega))
      rcases hx with z | ⟨⟨hO, hne⟩, hx1, hx2⟩
      · exact absurd z hk2
      · have hskip : ¬ (exI every (P_made P (gD L k)) ∧ lsP P (gD L k)) → wp KX3_expire rc rs QR QX 55 [(0, vR (some (g_m g))), (1, vI i1), (2, vI (nI lo)), (3, vI every), (4, vI i4), (5, vI (nI c)), (6, vI (nI k + (-1)))] [] w1 := by
          intro z
          rw [exS_f hk2 z] at h
          rw [em]
          exact ih c P m1 w1 (by omega) hV hM (hx2 z) h
        refine ⟨fun c2 => hskip (fun z => z.1 c2), fun c2 => ⟨hV.mO, c_X3_isLoose hV hM.1.1 hu ⟨_, rfl, fun c3 => hskip (fun z => bI_0.mp c3 z.2), fun c3 => ⟨hV.mO, ?_⟩⟩⟩⟩
        rw [exS_t hk2 ⟨c2, bI_n0.mp c3⟩] at h
        refine c_X3_removed (g := g) (m := m1) (m0 := m1) hV (MR.rf hM.1.1) hO hu hne (fun m2 w2 h2 M2 => ⟨_, rfl, ?_⟩)
        rw [em, nI_1]
        exact ih (c + 1) _ m2 w2 (by omega) h2 ⟨hM.1.tr M2.1, M2.2.2.1.trans hM.2.1, fun i hi => (congrFun M2.2.1 i).trans (hM.2.2 i hi)⟩ (hx1 ⟨c2, bI_n0.mp c3⟩) h
def r_expire (P : PT) (x lo every : Int32) (v : Int32 × PT) : Prop := if inI lo 0 20 ∧ inI every 1 100 then (if ask P x 0 = 0 then ∃ L, LO1 P x 20 L ∧ v = (nI (exS every L lo.toNatClampNeg L.length 0 P).1, (exS every L lo.toNatClampNeg L.length 0 P).2) else v = (ask P x 0, P)) else v = (-2, P)
theorem c_X3_expire (hV : V (G_M_ g m) w) (hM : MRw m0 P m) {x lo every : Int32} (hx : ∀ L, LO1 P x 20 L → ¬ every = 0 → exO every L lo.toNatClampNeg L.length P) (h : ∀ m' w' v, V (G_M_ g m') w' → r_expire P x lo every v → MRw m0 v.2 m' → QR (some (vI v.1)) w') : ct KX3_expire 0 0 [vR (some (g_m g)), vI x, vI lo, vI every] w QR QX := by
  unfold r_expire at h
  refine st_X3_expire (sg_X3_expire_0 (c_X3_in ⟨_, rfl, fun c => ?_, fun c => c_X3_in ⟨_, rfl, fun c2 => ⟨hV.mO, c_X3_asked hV hM.1 ⟨_, rfl, fun c3 => ⟨hV.mO, ?_⟩, fun c3 => ?_⟩⟩, fun c2 => ?_⟩⟩))
  · exact h m w (-2, P) hV (by rw [if_neg (fun z => b2i_0.mp c z.1)]) hM
  · have c1 := b2i_n0.mp c
    have c4 := b2i_n0.mp c2
    obtain ⟨N, hN, rfl⟩ := inI_n (H := 20) c1 rfl rfl (by decide)
    have he : ¬ every = 0 := by
      intro e
      rw [e] at c4
      exact c4.1 (by decide)
    refine c_X3_looksForOwned hV hM (fun m1 w1 L h1 M1 N1 hL => ⟨rfl, M_owns m1, h1.mf_owns, ?_⟩)
    rw [N1.1]
    have hx' := hx L hL he
    rw [nI_clamp (by omega)] at hx'
    refine lp_expire hL.lt hL.2.2.2 hN he L.length 0 P m1 w1 (Nat.le_refl _) h1 ⟨M1, N1⟩ hx' (fun m' w' h2 M2 => h m' w' (_, _) h2 ?_ M2)
    rw [if_pos ⟨c1, c4⟩, if_pos c3, nI_clamp (by omega)]
    exact ⟨L, hL, rfl⟩
  · exact h m w (ask P x 0, P) hV (by rw [if_pos ⟨b2i_n0.mp c, b2i_n0.mp c2⟩, if_neg c3]) hM
  · exact h m w (-2, P) hV (by rw [if_neg (fun z => b2i_0.mp c2 z.2)]) hM
end MV
