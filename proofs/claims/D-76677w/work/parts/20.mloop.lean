/-! ===== the reference's loops that only read ===== -/
noncomputable def bI (p : Prop) : Int32 := @ite Int32 p (Classical.propDecidable p) 1 0
theorem bI_t {p : Prop} (h : p) : bI p = 1 := @if_pos p (Classical.propDecidable p) h _ _ _
theorem bI_f {p : Prop} (h : ¬ p) : bI p = 0 := @if_neg p (Classical.propDecidable p) h _ _ _
theorem bI_0 {p : Prop} : bI p = 0 ↔ ¬ p := by
  by_cases h : p
  · rw [bI_t h]
    exact ⟨fun e => absurd e (by decide), fun e => absurd h e⟩
  · rw [bI_f h]
    exact ⟨fun _ => h, fun _ => rfl⟩
theorem bI_n0 {p : Prop} : ¬ bI p = 0 ↔ p := by
  rw [bI_0]
  exact Classical.not_not
theorem b2i_n0 {p : Prop} [Decidable p] : ¬ b2i p = 0 ↔ p := by
  rw [b2i_0]
  exact Classical.not_not
theorem bI_nar (p : Prop) : narrow .boolean (.int (bI p)) = .int (bI p) := by
  by_cases h : p
  · rw [bI_t h]; rfl
  · rw [bI_f h]; rfl
theorem bI_c {p q : Prop} (h : p ↔ q) : bI p = bI q := by
  have : p = q := propext h
  rw [this]
/-- .. as a number of things -/
noncomputable def cn (p : Nat → Prop) : Nat → Nat
  | 0 => 0
  | n + 1 => cn p n + @ite Nat (p n) (Classical.propDecidable _) 1 0
theorem cn_t {p : Nat → Prop} {n : Nat} (h : p n) : cn p (n + 1) = cn p n + 1 := by
  show cn p n + @ite Nat (p n) (Classical.propDecidable _) 1 0 = _
  rw [if_pos h]
theorem cn_f {p : Nat → Prop} {n : Nat} (h : ¬ p n) : cn p (n + 1) = cn p n := by
  show cn p n + @ite Nat (p n) (Classical.propDecidable _) 1 0 = _
  rw [if_neg h]
  rfl
theorem cn_le (p : Nat → Prop) (n : Nat) : cn p n ≤ n := by
  induction n with
  | zero => exact Nat.le_refl 0
  | succ n ih =>
    by_cases h : p n
    · rw [cn_t h]; omega
    · rw [cn_f h]; omega
theorem cn_congr {p q : Nat → Prop} {n : Nat} (h : ∀ i, i < n → (p i ↔ q i)) : cn p n = cn q n := by
  induction n with
  | zero => rfl
  | succ n ih =>
    have e := ih (fun i hi => h i (by omega))
    by_cases hp : p n
    · rw [cn_t hp, cn_t ((h n (by omega)).mp hp), e]
    · rw [cn_f hp, cn_f (fun z => hp ((h n (by omega)).mpr z)), e]
/-- the first place from k on, of m, where p holds -/
noncomputable def lst (p : Nat → Prop) : Nat → Nat → Nat
  | 0, k => k
  | m + 1, k => @ite Nat (p k) (Classical.propDecidable _) k (lst p m (k + 1))
theorem lst_t {p : Nat → Prop} {m k : Nat} (h : p k) : lst p (m + 1) k = k := @if_pos _ (Classical.propDecidable _) h _ _ _
theorem lst_f {p : Nat → Prop} {m k : Nat} (h : ¬ p k) : lst p (m + 1) k = lst p m (k + 1) := @if_neg _ (Classical.propDecidable _) h _ _ _
theorem lst_spec (p : Nat → Prop) : ∀ m k, k ≤ lst p m k ∧ lst p m k ≤ k + m ∧ (∀ i, k ≤ i → i < lst p m k → ¬ p i) ∧ (lst p m k < k + m → p (lst p m k)) := by
  intro m
  induction m with
  | zero =>
    intro k
    refine ⟨Nat.le_refl _, Nat.le_refl _, fun i h1 h2 => ?_, fun h => ?_⟩
    · have h2' : i < k := h2
      omega
    · have h' : k < k + 0 := h
      omega
  | succ m ih =>
    intro k
    by_cases h : p k
    · rw [lst_t h]
      exact ⟨Nat.le_refl _, by omega, fun i h1 h2 => by omega, fun _ => h⟩
    · rw [lst_f h]
      obtain ⟨a, b, c, d⟩ := ih (k + 1)
      refine ⟨by omega, by omega, fun i h1 h2 => ?_, fun z => d (by omega)⟩
      rcases Nat.lt_or_ge k i with z | z
      · exact c i z h2
      · have : i = k := by omega
        rw [this]
        exact h
theorem lst_congr {p q : Nat → Prop} (m : Nat) : ∀ k, (∀ i, k ≤ i → i < k + m → (p i ↔ q i)) → lst p m k = lst q m k := by
  induction m with
  | zero => intro k _; rfl
  | succ m ih =>
    intro k h
    by_cases hp : p k
    · rw [lst_t hp, lst_t ((h k (Nat.le_refl _) (by omega)).mp hp)]
    · rw [lst_f hp, lst_f (fun z => hp ((h k (Nat.le_refl _) (by omega)).mpr z)), ih (k + 1) (fun i a b => h i (by omega) (by omega))]
/-- a value, or 0 -/
noncomputable def sel (p : Prop) (x : Int64) : Int64 := @ite Int64 p (Classical.propDecidable p) x 0
theorem sel_t {p : Prop} {x : Int64} (h : p) : sel p x = x := @if_pos p (Classical.propDecidable p) h _ _ _
theorem sel_f {p : Prop} {x : Int64} (h : ¬ p) : sel p x = 0 := @if_neg p (Classical.propDecidable p) h _ _ _
theorem sm_congr {f h : Nat → Int64} {n : Nat} (e : ∀ i, i < n → f i = h i) : sm f n = sm h n := by
  induction n with
  | zero => rfl
  | succ n ih =>
    show sm f n + f n = sm h n + h n
    rw [ih (fun i hi => e i (by omega)), e n (by omega)]
/-- slots hold numbers of blocks, or none -/
def SO (P : PT) : Prop := ∀ j k, j < 20 → k < 12 → P_slot P j k = -1 ∨ ∃ b : Nat, b < 96 ∧ P_slot P j k = nI b
def PO (P : PT) : Prop := ∀ j, j < 20 → P_prev P j = -1 ∨ ∃ i : Nat, i < 20 ∧ P_prev P j = nI i
def held (P : PT) (t : Nat) (b : Int32) : Prop := ∃ k, k < 12 ∧ P_slot P t k = b
def szO (P : PT) (b : Int32) : Int64 := if b = -1 then 0 else (P_size P b.toNatClampNeg).toInt64
theorem szO_n {P : PT} {b : Nat} (h : b < 96) : szO P (nI b) = (P_size P b).toInt64 := by
  unfold szO
  rw [if_neg (m1_ne b (by omega)), nI_clamp (by omega)]
def spS (P : PT) (t : Nat) : Int64 := sm (fun k => szO P (P_slot P t k)) 12
/-- the chain above a place: numbers of snapshots -/
def Ch (P : PT) : Int32 → List Nat → Prop
  | x, [] => x = -1
  | x, i :: l => x = nI i ∧ i < 20 ∧ Ch P (P_prev P i) l
def eO (r : Option Nat) : Int32 := match r with
  | none => -1
  | some i => nI i
section ML
variable {g : GT} {w : aW} {P : PT} {QR : Option aV → aW → Prop} {QX : String → aW → Prop} {rc rs : Nat}
theorem lp_isHeld (hV : V g w) (hE : EG g P) {t : Nat} (ht : t < 20) {b : Int32} (h : QR (some (vI (bI (hK (P_kind P t) ∧ held P t b)))) w) : ∀ n k, k + n = 12 → ∀ a, a = bI (hK (P_kind P t) ∧ ∃ i, i < k ∧ P_slot P t i = b) → wp KX3_isHeld rc rs QR QX 5 [(0, vR (some (g_m g))), (1, vI (nI t)), (2, vI b), (3, vI a), (4, vI (nI k))] [] w := by
  intro n
  induction n with
  | zero =>
    intro k hk a ha
    refine sg_X3_isHeld_5 (lpc (N := 12) rfl (by decide) hk (fun _ => ?_) (fun m e => by omega))
    have : k = 12 := by omega
    subst this
    rw [ha]
    exact ⟨bI_nar _, h⟩
  | succ n ih =>
    intro k hk a ha
    refine sg_X3_isHeld_5 (lpc (N := 12) rfl (by decide) hk (fun e => by omega) (fun m e hk2 => ⟨fun c => ?_, fun c => ⟨hV.mO, c_X3_hasSlots_n hV hE ht ⟨_, rfl, fun c2 => ?_, fun c2 => ⟨_, hV.mf_s, _, g_slot hV hE ht hk2, fun c3 => ?_, fun c3 => ?_⟩⟩⟩⟩))
    · rw [ha] at c
      obtain ⟨c1, i, c2, c3⟩ := bI_n0.mp c
      rw [nI_1]
      exact ih (k + 1) (by omega) 1 (bI_t ⟨c1, i, by omega, c3⟩).symm
    · rw [nI_1]
      exact ih (k + 1) (by omega) 0 (bI_f (fun z => b2i_0.mp c2 z.1)).symm
    · rw [nI_1]
      refine ih (k + 1) (by omega) 0 (bI_f (fun z => ?_)).symm
      obtain ⟨z1, i, z2, z3⟩ := z
      rw [ha] at c
      rcases Nat.lt_or_ge i k with y | y
      · exact bI_0.mp c ⟨z1, i, y, z3⟩
      · have : i = k := by omega
        subst this
        exact c3 z3
    · rw [nI_1]
      exact ih (k + 1) (by omega) 1 (bI_t ⟨b2i_n0.mp c2, k, by omega, c3⟩).symm
theorem c_X3_isHeld (hV : V g w) (hE : EG g P) {t : Nat} (ht : t < 20) {b : Int32} (h : QR (some (vI (bI (hK (P_kind P t) ∧ held P t b)))) w) : ct KX3_isHeld 0 0 [vR (some (g_m g)), vI (nI t), vI b] w QR QX := by
  refine st_X3_isHeld (sg_X3_isHeld_0 (lp_isHeld hV hE ht h 12 0 rfl 0 (bI_f ?_).symm))
  rintro ⟨-, i, z, -⟩
  omega
theorem lp_spaceOf (hV : V g w) (hE : EG g P) (hO : SO P) {t : Nat} (ht : t < 20) (h : QR (some (vL (spS P t))) w) : ∀ n k, k + n = 12 → wp KX3_spaceOf rc rs QR QX 5 [(0, vR (some (g_m g))), (1, vI (nI t)), (2, vL (sm (fun k => szO P (P_slot P t k)) k)), (4, vI (nI k))] [] w := by
  intro n
  induction n with
  | zero =>
    intro k hk
    refine sg_X3_spaceOf_5 (lpc (N := 12) rfl (by decide) hk (fun _ => ?_) (fun m e => by omega))
    have : k = 12 := by omega
    subst this
    exact h
  | succ n ih =>
    intro k hk
    refine sg_X3_spaceOf_5 (lpc (N := 12) rfl (by decide) hk (fun e => by omega) (fun m e hk2 => ⟨_, hV.mf_s, _, g_slot hV hE ht hk2, fun c => ?_, fun c => ?_⟩))
    · rcases hO t k ht hk2 with z | ⟨b, hb, z⟩
      · exact absurd z c
      · have e2 : sm (fun k => szO P (P_slot P t k)) (k + 1) = sm (fun k => szO P (P_slot P t k)) k + (P_size P b).toInt64 := by
          show _ + szO P (P_slot P t k) = _
          rw [z, szO_n hb]
        have := ih (k + 1) (by omega)
        rw [e2] at this
        rw [z, nI_1]
        exact ⟨_, hV.mf_s, _, g_size hV hE hb, this⟩
    · have e2 : sm (fun k => szO P (P_slot P t k)) (k + 1) = sm (fun k => szO P (P_slot P t k)) k + 0 := by
        show _ + szO P (P_slot P t k) = _
        rw [c]
        rfl
      have := ih (k + 1) (by omega)
      rw [e2] at this
      rw [nI_1]
      exact this
theorem c_X3_spaceOf (hV : V g w) (hE : EG g P) (hO : SO P) {t : Nat} (ht : t < 20) (h : QR (some (vL (spS P t))) w) : ct KX3_spaceOf 0 0 [vR (some (g_m g)), vI (nI t)] w QR QX :=
  st_X3_spaceOf (sg_X3_spaceOf_0 (lp_spaceOf hV hE hO ht h 12 0 rfl))
def szI (P : PT) (b : Int32) : Int32 := if b = -1 then 0 else P_size P b.toNatClampNeg
theorem c_X3_sizeIn (hV : V g w) (hE : EG g P) (hO : SO P) {t k : Nat} (ht : t < 20) (hk : k < 12) (h : QR (some (vI (szI P (P_slot P t k)))) w) : ct KX3_sizeIn 0 0 [vR (some (g_m g)), vI (nI t), vI (nI k)] w QR QX := by
  refine st_X3_sizeIn (sg_X3_sizeIn_0 ⟨_, hV.mf_s, _, g_slot hV hE ht hk, fun c => ?_, fun c => ?_⟩)
  · rcases hO t k ht hk with z | ⟨b, hb, z⟩
    · exact absurd z c
    · unfold szI at h
      rw [if_neg c] at h
      rw [z] at h ⊢
      rw [nI_clamp (by omega)] at h
      exact ⟨_, hV.mf_s, _, g_size hV hE hb, h⟩
  · unfold szI at h
    rwa [if_pos c] at h
noncomputable def lB (P : PT) : Nat := lst (fun b => P_size P b ≤ 0) 96 0
theorem lp_newBlock (hV : V g w) (hE : EG g P) (h : QR (some (vI (nI (lB P)))) w) : ∀ n k, k + n = 96 → lst (fun b => P_size P b ≤ 0) n k = lB P → wp KX3_newBlock rc rs QR QX 2 [(0, vR (some (g_m g))), (1, vI (nI k))] [] w := by
  intro n
  induction n with
  | zero =>
    intro k hk e
    refine sg_X3_newBlock_2 (lpc (N := 96) rfl (by decide) hk (fun _ => ?_) (fun m e => by omega))
    rw [← e] at h
    exact h
  | succ n ih =>
    intro k hk e
    refine sg_X3_newBlock_2 (lpc (N := 96) rfl (by decide) hk (fun e => by omega) (fun m e2 hk2 => ⟨_, hV.mf_s, _, g_size hV hE hk2, fun c => ?_, fun c => ?_⟩))
    · rw [lst_t c] at e
      rw [← e] at h
      exact h
    · rw [lst_f c] at e
      rw [nI_1]
      exact ih (k + 1) (by omega) e
theorem c_X3_newBlock (hV : V g w) (hE : EG g P) (h : QR (some (vI (nI (lB P)))) w) : ct KX3_newBlock 0 0 [vR (some (g_m g))] w QR QX :=
  st_X3_newBlock (sg_X3_newBlock_0 (lp_newBlock hV hE h 96 0 rfl rfl))
noncomputable def lT (P : PT) : Nat := lst (fun t => P_kind P t = -1) 20 0
theorem lp_newThing (hV : V g w) (hE : EG g P) (h : QR (some (vI (nI (lT P)))) w) : ∀ n k, k + n = 20 → lst (fun t => P_kind P t = -1) n k = lT P → wp KX3_newThing rc rs QR QX 2 [(0, vR (some (g_m g))), (1, vI (nI k))] [] w := by
  intro n
  induction n with
  | zero =>
    intro k hk e
    refine sg_X3_newThing_2 (lpc (N := 20) rfl (by decide) hk (fun _ => ?_) (fun m e => by omega))
    rw [← e] at h
    exact h
  | succ n ih =>
    intro k hk e
    refine sg_X3_newThing_2 (lpc (N := 20) rfl (by decide) hk (fun e => by omega) (fun m e2 hk2 => ⟨_, hV.mf_s, _, g_kind hV hE hk2, fun c => ?_, fun c => ?_⟩))
    · rw [lst_t (p := fun t => P_kind P t = -1) c] at e
      rw [← e] at h
      exact h
    · rw [lst_f (p := fun t => P_kind P t = -1) c] at e
      rw [nI_1]
      exact ih (k + 1) (by omega) e
theorem c_X3_newThing (hV : V g w) (hE : EG g P) (h : QR (some (vI (nI (lT P)))) w) : ct KX3_newThing 0 0 [vR (some (g_m g))] w QR QX :=
  st_X3_newThing (sg_X3_newThing_0 (lp_newThing hV hE h 20 0 rfl rfl))
theorem i_0 (x : Int32) : x + 0 = x := by simp
theorem l_0 (x : Int64) : x + 0 = x := by simp
noncomputable def nBk (P : PT) : Nat := cn (fun b => ¬ P_size P b ≤ 0) 96
theorem lp_blocks (hV : V g w) (hE : EG g P) (h : QR (some (vI (nI (nBk P)))) w) : ∀ n k, k + n = 96 → wp KX3_blocks rc rs QR QX 4 [(0, vR (some (g_m g))), (1, vI (nI (cn (fun b => ¬ P_size P b ≤ 0) k))), (2, vI (nI k))] [] w := by
  intro n
  induction n with
  | zero =>
    intro k hk
    refine sg_X3_blocks_4 (lpc (N := 96) rfl (by decide) hk (fun _ => ?_) (fun m e => by omega))
    have : k = 96 := by omega
    subst this
    exact h
  | succ n ih =>
    intro k hk
    have ih1 := ih (k + 1) (by omega)
    refine sg_X3_blocks_4 (lpc (N := 96) rfl (by decide) hk (fun e => by omega) (fun m e hk2 => ⟨_, hV.mf_s, _, g_size hV hE hk2, fun c => ?_, fun c => ?_⟩))
    · rw [cn_f (fun z => z c)] at ih1
      rw [nI_1, i_0]
      exact ih1
    · rw [cn_t c] at ih1
      rw [nI_1, nI_1]
      exact ih1
theorem c_X3_blocks (hV : V g w) (hE : EG g P) (h : QR (some (vI (nI (nBk P)))) w) : ct KX3_blocks 0 0 [vR (some (g_m g))] w QR QX :=
  st_X3_blocks (sg_X3_blocks_0 (lp_blocks hV hE h 96 0 rfl))
noncomputable def nTh (P : PT) : Nat := cn (fun t => ¬ P_kind P t = -1) 20
theorem c_X3_isThing_n (hV : V g w) (hE : EG g P) {t : Nat} (ht : t < 20) (h : QR (some (vI (b2i (¬ P_kind P t = -1)))) w) : ct KX3_isThing 0 0 [vR (some (g_m g)), vI (nI t)] w QR QX := by
  refine c_X3_isThing hV hE ?_
  rw [kdI_n ht]
  exact h
theorem lp_things (hV : V g w) (hE : EG g P) (h : QR (some (vI (nI (nTh P)))) w) : ∀ n k, k + n = 20 → wp KX3_things rc rs QR QX 4 [(0, vR (some (g_m g))), (1, vI (nI (cn (fun t => ¬ P_kind P t = -1) k))), (2, vI (nI k))] [] w := by
  intro n
  induction n with
  | zero =>
    intro k hk
    refine sg_X3_things_4 (lpc (N := 20) rfl (by decide) hk (fun _ => ?_) (fun m e => by omega))
    have : k = 20 := by omega
    subst this
    exact h
  | succ n ih =>
    intro k hk
    have ih1 := ih (k + 1) (by omega)
    refine sg_X3_things_4 (lpc (N := 20) rfl (by decide) hk (fun e => by omega) (fun m e hk2 => ⟨hV.mO, c_X3_isThing_n hV hE hk2 ⟨_, rfl, fun c => ?_, fun c => ?_⟩⟩))
    · rw [cn_f (p := fun t => ¬ P_kind P t = -1) (b2i_0.mp c)] at ih1
      rw [nI_1, i_0]
      exact ih1
    · rw [cn_t (p := fun t => ¬ P_kind P t = -1) (b2i_n0.mp c)] at ih1
      rw [nI_1, nI_1]
      exact ih1
theorem c_X3_things (hV : V g w) (hE : EG g P) (h : QR (some (vI (nI (nTh P)))) w) : ct KX3_things 0 0 [vR (some (g_m g))] w QR QX :=
  st_X3_things (sg_X3_things_0 (lp_things hV hE h 20 0 rfl))
noncomputable def nNx (P : PT) (x : Int32) : Nat := cn (fun t => hK (P_kind P t) ∧ P_prev P t = x) 20
theorem lp_nexts (hV : V g w) (hE : EG g P) {x : Int32} (h : QR (some (vI (nI (nNx P x)))) w) : ∀ n k, k + n = 20 → wp KX3_nexts rc rs QR QX 4 [(0, vR (some (g_m g))), (1, vI x), (2, vI (nI (cn (fun t => hK (P_kind P t) ∧ P_prev P t = x) k))), (3, vI (nI k))] [] w := by
  intro n
  induction n with
  | zero =>
    intro k hk
    refine sg_X3_nexts_4 (lpc (N := 20) rfl (by decide) hk (fun _ => ?_) (fun m e => by omega))
    have : k = 20 := by omega
    subst this
    exact h
  | succ n ih =>
    intro k hk
    have ih1 := ih (k + 1) (by omega)
    refine sg_X3_nexts_4 (lpc (N := 20) rfl (by decide) hk (fun e => by omega) (fun m e hk2 => ⟨hV.mO, c_X3_hasSlots_n hV hE hk2 ⟨_, rfl, fun c => ?_, fun c => ⟨_, hV.mf_s, _, g_prev hV hE hk2, fun c2 => ?_, fun c2 => ?_⟩⟩⟩))
    · rw [cn_f (p := fun t => hK (P_kind P t) ∧ P_prev P t = x) (fun z => b2i_0.mp c z.1)] at ih1
      rw [nI_1, i_0]
      exact ih1
    · rw [cn_f (p := fun t => hK (P_kind P t) ∧ P_prev P t = x) (fun z => c2 z.2)] at ih1
      rw [nI_1, i_0]
      exact ih1
    · rw [cn_t (p := fun t => hK (P_kind P t) ∧ P_prev P t = x) ⟨b2i_n0.mp c, c2⟩] at ih1
      rw [nI_1, nI_1]
      exact ih1
theorem c_X3_nexts (hV : V g w) (hE : EG g P) {x : Int32} (h : QR (some (vI (nI (nNx P x)))) w) : ct KX3_nexts 0 0 [vR (some (g_m g)), vI x] w QR QX :=
  st_X3_nexts (sg_X3_nexts_0 (lp_nexts hV hE h 20 0 rfl))
noncomputable def nOw (P : PT) (x : Int32) : Nat := cn (fun t => sK (P_kind P t) ∧ P_owner P t = x) 20
theorem lp_owned (hV : V g w) (hE : EG g P) {x : Int32} (h : QR (some (vI (nI (nOw P x)))) w) : ∀ n k, k + n = 20 → wp KX3_owned rc rs QR QX 4 [(0, vR (some (g_m g))), (1, vI x), (2, vI (nI (cn (fun t => sK (P_kind P t) ∧ P_owner P t = x) k))), (3, vI (nI k))] [] w := by
  intro n
  induction n with
  | zero =>
    intro k hk
    refine sg_X3_owned_4 (lpc (N := 20) rfl (by decide) hk (fun _ => ?_) (fun m e => by omega))
    have : k = 20 := by omega
    subst this
    exact h
  | succ n ih =>
    intro k hk
    have ih1 := ih (k + 1) (by omega)
    refine sg_X3_owned_4 (lpc (N := 20) rfl (by decide) hk (fun e => by omega) (fun m e hk2 => ⟨hV.mO, c_X3_isSnapshot_n hV hE hk2 ⟨_, rfl, fun c => ?_, fun c => ⟨_, hV.mf_s, _, g_owner hV hE hk2, fun c2 => ?_, fun c2 => ?_⟩⟩⟩))
    · rw [cn_f (p := fun t => sK (P_kind P t) ∧ P_owner P t = x) (fun z => b2i_0.mp c z.1)] at ih1
      rw [nI_1, i_0]
      exact ih1
    · rw [cn_f (p := fun t => sK (P_kind P t) ∧ P_owner P t = x) (fun z => c2 z.2)] at ih1
      rw [nI_1, i_0]
      exact ih1
    · rw [cn_t (p := fun t => sK (P_kind P t) ∧ P_owner P t = x) ⟨b2i_n0.mp c, c2⟩] at ih1
      rw [nI_1, nI_1]
      exact ih1
theorem c_X3_owned (hV : V g w) (hE : EG g P) {x : Int32} (h : QR (some (vI (nI (nOw P x)))) w) : ct KX3_owned 0 0 [vR (some (g_m g)), vI x] w QR QX :=
  st_X3_owned (sg_X3_owned_0 (lp_owned hV hE h 20 0 rfl))
theorem c_X3_isLoose (hV : V g w) (hE : EG g P) {t : Nat} (ht : t < 20) (h : QR (some (vI (bI (P_tags P t = 0 ∧ nNx P (nI t) = 1)))) w) : ct KX3_isLoose 0 0 [vR (some (g_m g)), vI (nI t)] w QR QX := by
  refine st_X3_isLoose (sg_X3_isLoose_0 ⟨_, hV.mf_s, _, g_tags hV hE ht, fun c => ?_, fun c => ⟨hV.mO, c_X3_nexts hV hE ⟨_, rfl, fun c2 => ?_, fun c2 => ?_⟩⟩⟩)
  · rwa [bI_f (fun z => c z.1)] at h
  · rwa [bI_f (fun z => c2 (by rw [z.2]; rfl))] at h
  · have hl := cn_le (fun t' => hK (P_kind P t') ∧ P_prev P t' = nI t) 20
    have e : nNx P (nI t) = 1 := (nI_eq (b := 1) (by unfold nNx; omega) (by decide)).mp c2
    rwa [bI_t ⟨c, e⟩] at h
noncomputable def nHd (P : PT) (t : Nat) : Nat := cn (fun k => hK (P_kind P t) ∧ ¬ P_slot P t k = -1) 12
theorem lp_heldMany (hV : V g w) (hE : EG g P) {t : Nat} (ht : t < 20) (h : QR (some (vI (nI (nHd P t)))) w) : ∀ n k, k + n = 12 → wp KX3_heldMany rc rs QR QX 4 [(0, vR (some (g_m g))), (1, vI (nI t)), (2, vI (nI (cn (fun k => hK (P_kind P t) ∧ ¬ P_slot P t k = -1) k))), (3, vI (nI k))] [] w := by
  intro n
  induction n with
  | zero =>
    intro k hk
    refine sg_X3_heldMany_4 (lpc (N := 12) rfl (by decide) hk (fun _ => ?_) (fun m e => by omega))
    have : k = 12 := by omega
    subst this
    exact h
  | succ n ih =>
    intro k hk
    have ih1 := ih (k + 1) (by omega)
    refine sg_X3_heldMany_4 (lpc (N := 12) rfl (by decide) hk (fun e => by omega) (fun m e hk2 => ⟨hV.mO, c_X3_hasSlots_n hV hE ht ⟨_, rfl, fun c => ?_, fun c => ⟨_, hV.mf_s, _, g_slot hV hE ht hk2, fun c2 => ?_, fun c2 => ?_⟩⟩⟩))
    · rw [cn_f (p := fun k => hK (P_kind P t) ∧ ¬ P_slot P t k = -1) (fun z => b2i_0.mp c z.1)] at ih1
      rw [nI_1, i_0]
      exact ih1
    · rw [cn_f (p := fun k => hK (P_kind P t) ∧ ¬ P_slot P t k = -1) (fun z => z.2 c2)] at ih1
      rw [nI_1, i_0]
      exact ih1
    · rw [cn_t (p := fun k => hK (P_kind P t) ∧ ¬ P_slot P t k = -1) ⟨b2i_n0.mp c, c2⟩] at ih1
      rw [nI_1, nI_1]
      exact ih1
theorem c_X3_heldMany (hV : V g w) (hE : EG g P) {t : Nat} (ht : t < 20) (h : QR (some (vI (nI (nHd P t)))) w) : ct KX3_heldMany 0 0 [vR (some (g_m g)), vI (nI t)] w QR QX :=
  st_X3_heldMany (sg_X3_heldMany_0 (lp_heldMany hV hE ht h 12 0 rfl))
/-- the first of a chain that another owns -/
noncomputable def orig (P : PT) (x : Int32) : List Nat → Option Nat
  | [] => none
  | i :: l => @ite (Option Nat) (P_owner P i = x) (Classical.propDecidable _) (orig P x l) (some i)
theorem orig_t {x : Int32} {i : Nat} {l : List Nat} (h : P_owner P i = x) : orig P x (i :: l) = orig P x l := @if_pos _ (Classical.propDecidable _) h _ _ _
theorem orig_f {x : Int32} {i : Nat} {l : List Nat} (h : ¬ P_owner P i = x) : orig P x (i :: l) = some i := @if_neg _ (Classical.propDecidable _) h _ _ _
theorem lp_originOf (hV : V g w) (hE : EG g P) {x : Int32} : ∀ (l : List Nat) (y : Int32), Ch P y l → QR (some (vI (eO (orig P x l)))) w → wp KX3_originOf rc rs QR QX 10 [(0, vR (some (g_m g))), (1, vI x), (2, vI y)] [] w := by
  intro l
  induction l with
  | nil =>
    intro y hy h
    have e : y = -1 := hy
    subst e
    exact sg_X3_originOf_10 ⟨fun _ => h, fun c => absurd rfl c⟩
  | cons i l ih =>
    intro y hy h
    obtain ⟨rfl, hi, hc⟩ := hy
    refine sg_X3_originOf_10 ⟨fun c => absurd c (m1_ne i (by omega)), fun c => ⟨_, hV.mf_s, _, g_owner hV hE hi, fun c2 => ?_, fun c2 => ⟨_, hV.mf_s, _, g_prev hV hE hi, ?_⟩⟩⟩
    · rw [orig_f c2] at h
      exact h
    · rw [orig_t c2] at h
      exact ih _ hc h
theorem c_X3_originOf (hV : V g w) (hE : EG g P) {t : Nat} (ht : t < 20) {l : List Nat} (hc : Ch P (P_prev P t) l) (h : QR (some (vI (eO (orig P (nI t) l)))) w) : ct KX3_originOf 0 0 [vR (some (g_m g)), vI (nI t)] w QR QX :=
  st_X3_originOf (sg_X3_originOf_0 ⟨_, hV.mf_s, _, g_prev hV hE ht, lp_originOf hV hE l _ hc h⟩)
end ML
