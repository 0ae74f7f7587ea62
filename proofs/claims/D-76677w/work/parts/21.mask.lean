/-! ===== the reference's answers that only read ===== -/
def pn (P : PT) (t : Nat) : Nat := (P_prev P t).toNatClampNeg
def deadP (P : PT) (t : Nat) (b : Nat) : Prop := ¬ P_prev P t = -1 ∧ (hK (P_kind P (pn P t)) ∧ held P (pn P t) (nI b)) ∧ ¬ (hK (P_kind P t) ∧ held P t (nI b))
def szs (P : PT) (b : Nat) : Int64 := (P_size P b).toInt64
noncomputable def sb (P : PT) (p : Nat → Prop) (n : Nat) : Int64 := sm (fun b => sel (p b) (szs P b)) n
theorem sb_t {P : PT} {p : Nat → Prop} {n : Nat} (h : p n) : sb P p (n + 1) = sb P p n + szs P n := by
  show sb P p n + sel (p n) (szs P n) = _
  rw [sel_t h]
theorem sb_f {P : PT} {p : Nat → Prop} {n : Nat} (h : ¬ p n) : sb P p (n + 1) = sb P p n := by
  show sb P p n + sel (p n) (szs P n) = _
  rw [sel_f h, l_0]
/-- the latest of those that hold p, the least of equal ones -/
noncomputable def dlt (P : PT) (p : Nat → Prop) : Nat → Option Nat
  | 0 => none
  | n + 1 => @ite _ (p n) (Classical.propDecidable _) (match dlt P p n with
    | none => some n
    | some m => if P_birth P m < P_birth P n then some n else some m) (dlt P p n)
/-- the earliest, the greatest of equal ones -/
noncomputable def det (P : PT) (p : Nat → Prop) : Nat → Option Nat
  | 0 => none
  | n + 1 => @ite _ (p n) (Classical.propDecidable _) (match det P p n with
    | none => some n
    | some m => if P_birth P m < P_birth P n then some m else some n) (det P p n)
theorem dlt_f {P : PT} {p : Nat → Prop} {n : Nat} (h : ¬ p n) : dlt P p (n + 1) = dlt P p n := @if_neg _ (Classical.propDecidable _) h _ _ _
theorem det_f {P : PT} {p : Nat → Prop} {n : Nat} (h : ¬ p n) : det P p (n + 1) = det P p n := @if_neg _ (Classical.propDecidable _) h _ _ _
theorem dlt_t {P : PT} {p : Nat → Prop} {n : Nat} (h : p n) : dlt P p (n + 1) = (match dlt P p n with
    | none => some n
    | some m => if P_birth P m < P_birth P n then some n else some m) := @if_pos _ (Classical.propDecidable _) h _ _ _
theorem det_t {P : PT} {p : Nat → Prop} {n : Nat} (h : p n) : det P p (n + 1) = (match det P p n with
    | none => some n
    | some m => if P_birth P m < P_birth P n then some m else some n) := @if_pos _ (Classical.propDecidable _) h _ _ _
theorem dlt_lt {P : PT} {p : Nat → Prop} : ∀ n m, dlt P p n = some m → m < n ∧ p m := by
  intro n
  induction n with
  | zero => intro m h; cases h
  | succ n ih =>
    intro m h
    by_cases hp : p n
    · rw [dlt_t hp] at h
      cases e : dlt P p n with
      | none =>
        rw [e] at h
        cases h
        exact ⟨by omega, hp⟩
      | some j =>
        rw [e] at h
        have h' : (if P_birth P j < P_birth P n then some n else some j) = some m := h
        by_cases c : P_birth P j < P_birth P n
        · rw [if_pos c] at h'
          cases h'
          exact ⟨by omega, hp⟩
        · rw [if_neg c] at h'
          cases h'
          obtain ⟨a, b⟩ := ih _ e
          exact ⟨by omega, b⟩
    · rw [dlt_f hp] at h
      obtain ⟨a, b⟩ := ih m h
      exact ⟨by omega, b⟩
theorem det_lt {P : PT} {p : Nat → Prop} : ∀ n m, det P p n = some m → m < n ∧ p m := by
  intro n
  induction n with
  | zero => intro m h; cases h
  | succ n ih =>
    intro m h
    by_cases hp : p n
    · rw [det_t hp] at h
      cases e : det P p n with
      | none =>
        rw [e] at h
        cases h
        exact ⟨by omega, hp⟩
      | some j =>
        rw [e] at h
        have h' : (if P_birth P j < P_birth P n then some j else some n) = some m := h
        by_cases c : P_birth P j < P_birth P n
        · rw [if_pos c] at h'
          cases h'
          obtain ⟨a, b⟩ := ih _ e
          exact ⟨by omega, b⟩
        · rw [if_neg c] at h'
          cases h'
          exact ⟨by omega, hp⟩
    · rw [det_f hp] at h
      obtain ⟨a, b⟩ := ih m h
      exact ⟨by omega, b⟩
section MA
variable {g : GT} {w : aW} {P : PT} {QR : Option aV → aW → Prop} {QX : String → aW → Prop} {rc rs : Nat}
theorem c_X3_isDead (hV : V g w) (hE : EG g P) (hP : PO P) {t b : Nat} (ht : t < 20) (h : QR (some (vI (bI (deadP P t b)))) w) : ct KX3_isDead 0 0 [vR (some (g_m g)), vI (nI t), vI (nI b)] w QR QX := by
  refine st_X3_isDead (sg_X3_isDead_0 ⟨_, hV.mf_s, _, g_prev hV hE ht, fun c => ?_, fun c => ?_⟩)
  · rwa [bI_f (fun z => z.1 c)] at h
  · rcases hP t ht with e | ⟨i, hi, e⟩
    · exact absurd e c
    · have ep : pn P t = i := by
        unfold pn
        rw [e, nI_clamp (by omega)]
      refine ⟨_, hV.mf_s, _, g_prev hV hE ht, hV.mO, ?_⟩
      rw [e]
      refine c_X3_isHeld hV hE hi ⟨_, rfl, fun c2 => ?_, fun c2 => ⟨hV.mO, c_X3_isHeld hV hE ht ⟨_, rfl, fun c3 => ?_, fun c3 => ?_⟩⟩⟩
      · rw [bI_f] at h
        · exact h
        · intro z
          have := z.2.1
          rw [ep] at this
          exact bI_0.mp c2 this
      · rwa [bI_f (fun z => z.2.2 (bI_n0.mp c3))] at h
      · rw [bI_t] at h
        · exact h
        · refine ⟨c, ?_, bI_0.mp c3⟩
          rw [ep]
          exact bI_n0.mp c2
def dead_r (n : Int32) (a b what : Int32) : Int32 := if what = 0 then n else if what = 1 then a else b
theorem lp_dead (hV : V g w) (hE : EG g P) (hP : PO P) {t : Nat} (ht : t < 20) {i2 i3 : Int32} (h : QR (some (vI (dead_r (nI (cn (deadP P t) 96)) (eO (dlt P (deadP P t) 96)) (eO (det P (deadP P t) 96)) i2))) w) : ∀ n k, k + n = 96 → wp KX3_dead rc rs QR QX 36 [(0, vR (some (g_m g))), (1, vI (nI t)), (2, vI i2), (3, vI i3), (4, vI (nI (cn (deadP P t) k))), (5, vI (eO (dlt P (deadP P t) k))), (6, vI (eO (det P (deadP P t) k))), (7, vI (nI k))] [] w := by
  intro n
  induction n with
  | zero =>
    intro k hk
    refine sg_X3_dead_36 (lpc (N := 96) rfl (by decide) hk (fun _ => ⟨fun c => ⟨fun c2 => ?_, fun c2 => ?_⟩, fun c => ?_⟩) (fun m e => by omega))
    · have : k = 96 := by omega
      subst this
      unfold dead_r at h
      rwa [if_neg c, if_neg c2] at h
    · have : k = 96 := by omega
      subst this
      unfold dead_r at h
      rwa [if_neg c, if_pos c2] at h
    · have : k = 96 := by omega
      subst this
      unfold dead_r at h
      rwa [if_pos c] at h
  | succ n ih =>
    intro k hk
    have ih1 := ih (k + 1) (by omega)
    refine sg_X3_dead_36 (lpc (N := 96) rfl (by decide) hk (fun e => by omega) (fun m e hk2 => ⟨hV.mO, c_X3_isDead hV hE hP ht ⟨_, rfl, fun c => ?_, fun c => ?_⟩⟩))
    · have hd : ¬ deadP P t k := bI_0.mp c
      rw [cn_f hd, dlt_f hd, det_f hd] at ih1
      rw [nI_1]
      exact ih1
    · have hd : deadP P t k := bI_n0.mp c
      rw [cn_t hd, dlt_t hd, det_t hd] at ih1
      rw [nI_1, nI_1]
      have gk := g_birth hV hE hk2
      cases e1 : dlt P (deadP P t) k with
      | none =>
        cases e2 : det P (deadP P t) k with
        | none =>
          rw [e1, e2] at ih1
          exact ⟨fun _ => ⟨fun _ => ih1, fun z => absurd rfl z⟩, fun z => absurd rfl z⟩
        | some m2 =>
          have hm2 := (det_lt _ _ e2).1
          rw [e1, e2] at ih1
          refine ⟨fun _ => ⟨fun z => absurd z (m1_ne m2 (by omega)), fun _ => ⟨_, hV.mf_s, _, gk, _, hV.mf_s, _, g_birth hV hE (by omega : m2 < 96), fun c1 => ?_, fun c1 => ?_⟩⟩, fun z => absurd rfl z⟩
          · simp only [if_pos c1] at ih1
            exact ih1
          · simp only [if_neg c1] at ih1
            exact ih1
      | some m1 =>
        have hm1 := (dlt_lt _ _ e1).1
        cases e2 : det P (deadP P t) k with
        | none =>
          rw [e1, e2] at ih1
          refine ⟨fun z => absurd z (m1_ne m1 (by omega)), fun _ => ⟨_, hV.mf_s, _, gk, _, hV.mf_s, _, g_birth hV hE (by omega : m1 < 96), fun c1 => ⟨fun _ => ?_, fun z => absurd rfl z⟩, fun c1 => ⟨fun _ => ?_, fun z => absurd rfl z⟩⟩⟩
          · simp only [if_neg (Int32.not_lt.mpr c1)] at ih1
            exact ih1
          · simp only [if_pos (Int32.not_le.mp c1)] at ih1
            exact ih1
        | some m2 =>
          have hm2 := (det_lt _ _ e2).1
          have z2 : ¬ nI m2 = -1 := m1_ne m2 (by omega)
          rw [e1, e2] at ih1
          refine ⟨fun z => absurd z (m1_ne m1 (by omega)), fun _ => ⟨_, hV.mf_s, _, gk, _, hV.mf_s, _, g_birth hV hE (by omega : m1 < 96), fun c1 => ⟨fun z => absurd z z2, fun _ => ⟨_, hV.mf_s, _, gk, _, hV.mf_s, _, g_birth hV hE (by omega : m2 < 96), fun c3 => ?_, fun c3 => ?_⟩⟩, fun c1 => ⟨fun z => absurd z z2, fun _ => ⟨_, hV.mf_s, _, gk, _, hV.mf_s, _, g_birth hV hE (by omega : m2 < 96), fun c3 => ?_, fun c3 => ?_⟩⟩⟩⟩
          · simp only [if_neg (Int32.not_lt.mpr c1), if_pos c3] at ih1
            exact ih1
          · simp only [if_neg (Int32.not_lt.mpr c1), if_neg c3] at ih1
            exact ih1
          · simp only [if_pos (Int32.not_le.mp c1), if_pos c3] at ih1
            exact ih1
          · simp only [if_pos (Int32.not_le.mp c1), if_neg c3] at ih1
            exact ih1
abbrev inI (x lo hi : Int32) : Prop := ¬ x < lo ∧ ¬ hi < x
noncomputable def r_dead (P : PT) (x what : Int32) : Int32 := if inI what 0 2 then (if askS P x = 0 then dead_r (nI (cn (deadP P x.toNatClampNeg) 96)) (eO (dlt P (deadP P x.toNatClampNeg) 96)) (eO (det P (deadP P x.toNatClampNeg) 96)) what else askS P x) else -2
theorem c_X3_dead (hV : V g w) (hE : EG g P) (hP : PO P) {x what : Int32} (h : QR (some (vI (r_dead P x what))) w) : ct KX3_dead 0 0 [vR (some (g_m g)), vI x, vI what] w QR QX := by
  refine st_X3_dead (sg_X3_dead_0 (c_X3_in ⟨_, rfl, fun c => ⟨hV.mO, c_X3_askedSlots hV hE ⟨_, rfl, fun c2 => ?_, fun c2 => ?_⟩⟩, fun c => ?_⟩))
  · unfold r_dead at h
    rw [if_pos (b2i_n0.mp c), if_pos c2] at h
    obtain ⟨t, ht, rfl, hk⟩ := askS_0.mp c2
    rw [nI_clamp (by omega)] at h
    exact lp_dead hV hE hP ht h 96 0 rfl
  · unfold r_dead at h
    rwa [if_pos (b2i_n0.mp c), if_neg c2] at h
  · unfold r_dead at h
    rwa [if_neg (b2i_0.mp c)] at h
theorem lp_chained (hV : V g w) (hE : EG g P) {x : Int32} {K : Nat} (hK2 : K < 2 ^ 31) : ∀ (l : List Nat) (y : Int32) (k : Nat), k ≤ K → Ch P y l → QR (some (vI (eO (l[K - k]?)))) w → wp KX3_chained rc rs QR QX 13 [(0, vR (some (g_m g))), (1, vI x), (2, vI (nI K)), (3, vI y), (4, vI (nI k))] [] w := by
  intro l
  induction l with
  | nil =>
    intro y k hk hy h
    have e : y = -1 := hy
    subst e
    exact sg_X3_chained_13 ⟨fun _ => h, fun _ => ⟨fun _ => h, fun c => absurd rfl c⟩⟩
  | cons i l ih =>
    intro y k hk hy h
    obtain ⟨rfl, hi, hc⟩ := hy
    refine sg_X3_chained_13 ⟨fun c => ?_, fun c => ⟨fun c2 => absurd c2 (m1_ne i (by omega)), fun _ => ⟨_, hV.mf_s, _, g_prev hV hE hi, ?_⟩⟩⟩
    · have e : K = k := by
        rcases Nat.lt_or_ge k K with z | z
        · exact absurd c (nI_ge z hK2)
        · omega
      subst e
      rw [Nat.sub_self] at h
      exact h
    · have z : k < K := by
        rcases Nat.lt_or_ge k K with z | z
        · exact z
        · exact absurd (nI_le z (by omega)) c
      rw [nI_1]
      refine ih _ (k + 1) (by omega) hc ?_
      rw [show K - k = (K - (k + 1)) + 1 by omega] at h
      exact h
theorem c_X3_chained (hV : V g w) (hE : EG g P) {t K : Nat} (ht : t < 20) (hK2 : K < 2 ^ 31) {l : List Nat} (hc : Ch P (P_prev P t) l) (h : QR (some (vI (eO (l[K]?)))) w) : ct KX3_chained 0 0 [vR (some (g_m g)), vI (nI t), vI (nI K)] w QR QX :=
  st_X3_chained (sg_X3_chained_0 ⟨_, hV.mf_s, _, g_prev hV hE ht, lp_chained hV hE hK2 l _ 0 (by omega) hc (by rw [Nat.sub_zero]; exact h)⟩)
theorem Ch_lt {P : PT} : ∀ (l : List Nat) (x : Int32) (k i : Nat), Ch P x l → l[k]? = some i → i < 20 := by
  intro l
  induction l with
  | nil => intro x k i _ h; cases k <;> cases h
  | cons j l ih =>
    intro x k i hc h
    obtain ⟨-, hj, hc⟩ := hc
    cases k with
    | zero => cases h; exact hj
    | succ k => exact ih _ k i hc h
/-- of what died behind t: born not after from, and after behind -/
def dlP (P : PT) (t i : Nat) (o : Option Nat) (b : Nat) : Prop := deadP P t b ∧ ¬ P_made P i < P_birth P b ∧ (match o with
  | none => True
  | some j => ¬ P_birth P b ≤ P_made P j)
theorem lp_deadList (hV : V g w) (hE : EG g P) (hP : PO P) {t i : Nat} {o : Option Nat} (ht : t < 20) (hi : i < 20) (ho : ∀ j, o = some j → j < 20) {i2 : Int32} (h : QR (some (vL (sb P (dlP P t i o) 96))) w) : ∀ n k, k + n = 96 → wp KX3_deadList rc rs QR QX 55 [(0, vR (some (g_m g))), (1, vI (nI t)), (2, vI i2), (3, vI (nI i)), (4, vI (eO o)), (5, vL (sb P (dlP P t i o) k)), (7, vI (nI k))] [] w := by
  intro n
  induction n with
  | zero =>
    intro k hk
    refine sg_X3_deadList_55 (lpc (N := 96) rfl (by decide) hk (fun _ => ?_) (fun m e => by omega))
    have : k = 96 := by omega
    subst this
    exact h
  | succ n ih =>
    intro k hk
    have ih1 := ih (k + 1) (by omega)
    refine sg_X3_deadList_55 (lpc (N := 96) rfl (by decide) hk (fun e => by omega) (fun m e hk2 => ⟨hV.mO, c_X3_isDead hV hE hP ht ⟨_, rfl, fun c => ?_, fun c => ⟨_, hV.mf_s, _, g_birth hV hE hk2, _, hV.mf_s, _, g_made hV hE hi, fun c2 => ?_, fun c2 => ⟨fun c3 => ⟨_, hV.mf_s, _, g_size hV hE hk2, ?_⟩, fun c3 => ?_⟩⟩⟩⟩))
    · rw [sb_f (fun z => bI_0.mp c z.1)] at ih1
      rw [nI_1, l_0]
      exact ih1
    · rw [sb_f (fun z => z.2.1 c2)] at ih1
      rw [nI_1, l_0]
      exact ih1
    · cases o with
      | none =>
        rw [sb_t ⟨bI_n0.mp c, c2, trivial⟩] at ih1
        rw [nI_1]
        exact ih1
      | some j => exact absurd c3 (m1_ne j (by have := ho j rfl; omega))
    · cases o with
      | none => exact absurd rfl c3
      | some j =>
        refine ⟨_, hV.mf_s, _, g_birth hV hE hk2, _, hV.mf_s, _, g_made hV hE (ho j rfl), fun c4 => ?_, fun c4 => ⟨_, hV.mf_s, _, g_size hV hE hk2, ?_⟩⟩
        · rw [sb_f (fun z => z.2.2 c4)] at ih1
          rw [nI_1, l_0]
          exact ih1
        · rw [sb_t ⟨bI_n0.mp c, c2, c4⟩] at ih1
          rw [nI_1]
          exact ih1
abbrev NOL : Int64 := -4611686018427387904
theorem hK_n {x : Int32} (h : hK (kdI P x)) : ∃ t : Nat, t < 20 ∧ x = nI t ∧ hK (P_kind P t) := by
  by_cases hx : inR x
  · obtain ⟨t, ht, rfl⟩ := inR_n hx
    rw [kdI_n ht] at h
    exact ⟨t, ht, rfl, h⟩
  · rw [kdI_o hx] at h
    exact absurd rfl (hK_m1 h)
theorem inI_n {x lo hi : Int32} {H : Nat} (h : inI x lo hi) (hl : lo = 0) (hh : hi = nI H) (hH : H < 2 ^ 31) : ∃ k : Nat, k ≤ H ∧ x = nI k := by
  obtain ⟨h1, h2⟩ := h
  subst hl
  obtain ⟨j, hj, rfl⟩ := nI_of h1
  refine ⟨j, ?_, rfl⟩
  rcases Nat.lt_or_ge H j with z | z
  · exfalso
    apply h2
    rw [hh, Int32.lt_iff_toInt_lt, nI_toInt hj, nI_toInt hH]
    omega
  · exact z
theorem n_inI {k H : Nat} {hi : Int32} (h : k ≤ H) (hh : hi = nI H) (hH : H < 2 ^ 31) : inI (nI k) 0 hi := by
  constructor
  · exact nI_pos (by omega)
  · rw [hh]
    exact nI_nlt (by omega) (by omega)
noncomputable def r_deadList (P : PT) (l : List Nat) (x k : Int32) : Int64 := if hK (kdI P x) ∧ inI k 0 19 then (match l[k.toNatClampNeg]? with
  | none => NOL
  | some i => sb P (dlP P x.toNatClampNeg i (l[k.toNatClampNeg + 1]?)) 96) else NOL
theorem c_X3_deadList (hV : V g w) (hE : EG g P) (hP : PO P) {x k : Int32} {l : List Nat} (hc : ∀ t, t < 20 → x = nI t → hK (P_kind P t) → Ch P (P_prev P t) l) (h : QR (some (vL (r_deadList P l x k))) w) : ct KX3_deadList 0 0 [vR (some (g_m g)), vI x, vI k] w QR QX := by
  refine st_X3_deadList (sg_X3_deadList_0 ⟨hV.mO, c_X3_hasSlots hV hE ⟨_, rfl, fun c => ?_, fun c => c_X3_in ⟨_, rfl, fun c2 => ?_, fun c2 => ⟨hV.mO, ?_⟩⟩⟩⟩)
  · unfold r_deadList at h
    rwa [if_neg (fun z => b2i_0.mp c z.1)] at h
  · unfold r_deadList at h
    rwa [if_neg (fun z => b2i_0.mp c2 z.2)] at h
  · have c1 := b2i_n0.mp c
    obtain ⟨t, ht, rfl, hk⟩ := hK_n c1
    have c3 := b2i_n0.mp c2
    obtain ⟨K, hKK, rfl⟩ := inI_n (H := 19) c3 rfl rfl (by decide)
    unfold r_deadList at h
    rw [if_pos ⟨c1, c3⟩, nI_clamp (by omega), nI_clamp (by omega)] at h
    have hC := hc t ht rfl hk
    refine c_X3_chained hV hE ht (by omega) hC ⟨_, rfl, fun c4 => ⟨hV.mO, c_X3_chained hV hE ht (by omega) hC ⟨_, rfl, hV.mO, ?_⟩⟩, fun c4 => ?_⟩
    · rw [nI_1]
      refine c_X3_chained hV hE ht (by omega) hC ⟨_, rfl, ?_⟩
      cases e : l[K]? with
      | none =>
        rw [e] at c4
        exact absurd rfl c4
      | some i =>
        rw [e] at h
        exact lp_deadList hV hE hP ht (Ch_lt _ _ _ _ hC e) (fun j hj => Ch_lt _ _ _ _ hC hj) h 96 0 rfl
    · cases e : l[K]? with
      | none =>
        rw [e] at h
        exact h
      | some i =>
        rw [e] at c4
        exact absurd c4 (m1_ne i (by have := Ch_lt _ _ _ _ hC e; omega))
def r_space (P : PT) (x : Int32) : Int64 := if hK (kdI P x) then spS P x.toNatClampNeg else NOL
theorem c_X3_space (hV : V g w) (hE : EG g P) (hO : SO P) {x : Int32} (h : QR (some (vL (r_space P x))) w) : ct KX3_space 0 0 [vR (some (g_m g)), vI x] w QR QX := by
  refine st_X3_space (sg_X3_space_0 ⟨hV.mO, c_X3_hasSlots hV hE ⟨_, rfl, fun c => ?_, fun c => ⟨hV.mO, ?_⟩⟩⟩)
  · unfold r_space at h
    rwa [if_neg (b2i_0.mp c)] at h
  · have c1 := b2i_n0.mp c
    obtain ⟨t, ht, rfl, hk⟩ := hK_n c1
    unfold r_space at h
    rw [if_pos c1, nI_clamp (by omega)] at h
    exact c_X3_spaceOf hV hE hO ht ⟨_, rfl, h⟩
/-- sums of what slots hold, if it holds p -/
noncomputable def sS (P : PT) (t : Nat) (p : Nat → Prop) (n : Nat) : Int64 := sm (fun k => sel (¬ P_slot P t k = -1 ∧ p (P_slot P t k).toNatClampNeg) (szs P (P_slot P t k).toNatClampNeg)) n
theorem sS_f {t : Nat} {p : Nat → Prop} {n : Nat} (h : ¬ (¬ P_slot P t n = -1 ∧ p (P_slot P t n).toNatClampNeg)) : sS P t p (n + 1) = sS P t p n := by
  show sS P t p n + sel _ _ = _
  rw [sel_f h, l_0]
theorem sS_t {t b : Nat} {p : Nat → Prop} {n : Nat} (hb : b < 96) (e : P_slot P t n = nI b) (h : p b) : sS P t p (n + 1) = sS P t p n + szs P b := by
  show sS P t p n + sel _ _ = _
  rw [sel_t, e, nI_clamp (by omega)]
  rw [e, nI_clamp (by omega)]
  exact ⟨m1_ne b (by omega), h⟩
def afP (P : PT) (u b : Nat) : Prop := ¬ P_birth P b ≤ P_made P u
theorem lp_since (hV : V g w) (hE : EG g P) (hO : SO P) {t u : Nat} (ht : t < 20) (hu : u < 20) (h : QR (some (vL (sS P t (afP P u) 12))) w) : ∀ n k, k + n = 12 → wp KX3_since rc rs QR QX 25 [(0, vR (some (g_m g))), (1, vI (nI t)), (2, vI (nI u)), (3, vL (sS P t (afP P u) k)), (5, vI (nI k))] [] w := by
  intro n
  induction n with
  | zero =>
    intro k hk
    refine sg_X3_since_25 (lpc (N := 12) rfl (by decide) hk (fun _ => ?_) (fun m e => by omega))
    have : k = 12 := by omega
    subst this
    exact h
  | succ n ih =>
    intro k hk
    have ih1 := ih (k + 1) (by omega)
    refine sg_X3_since_25 (lpc (N := 12) rfl (by decide) hk (fun e => by omega) (fun m e hk2 => ⟨_, hV.mf_s, _, g_slot hV hE ht hk2, fun c => ?_, fun c => ?_⟩))
    · rw [sS_f (fun z => z.1 c)] at ih1
      rw [nI_1, l_0]
      exact ih1
    · rcases hO t k ht hk2 with z | ⟨b, hb, z⟩
      · exact absurd z c
      · rw [z]
        refine ⟨_, hV.mf_s, _, g_birth hV hE hb, _, hV.mf_s, _, g_made hV hE hu, fun c2 => ?_, fun c2 => ⟨_, hV.mf_s, _, g_size hV hE hb, ?_⟩⟩
        · rw [sS_f] at ih1
          · rw [nI_1, l_0]
            exact ih1
          · rw [z, nI_clamp (by omega)]
            exact fun y => y.2 c2
        · rw [sS_t hb z c2] at ih1
          rw [nI_1]
          exact ih1
noncomputable def r_since (P : PT) (x y : Int32) : Int64 := if hK (kdI P x) ∧ ¬ kdI P y = -1 then sS P x.toNatClampNeg (afP P y.toNatClampNeg) 12 else NOL
theorem tK_n {x : Int32} (h : ¬ kdI P x = -1) : ∃ t : Nat, t < 20 ∧ x = nI t ∧ ¬ P_kind P t = -1 := by
  by_cases hx : inR x
  · obtain ⟨t, ht, rfl⟩ := inR_n hx
    rw [kdI_n ht] at h
    exact ⟨t, ht, rfl, h⟩
  · exact absurd (kdI_o hx) h
theorem c_X3_since (hV : V g w) (hE : EG g P) (hO : SO P) {x y : Int32} (h : QR (some (vL (r_since P x y))) w) : ct KX3_since 0 0 [vR (some (g_m g)), vI x, vI y] w QR QX := by
  refine st_X3_since (sg_X3_since_0 ⟨hV.mO, c_X3_hasSlots hV hE ⟨_, rfl, fun c => ?_, fun c => ⟨hV.mO, c_X3_isThing hV hE ⟨_, rfl, fun c2 => ?_, fun c2 => ?_⟩⟩⟩⟩)
  · unfold r_since at h
    rwa [if_neg (fun z => b2i_0.mp c z.1)] at h
  · have c1 := b2i_n0.mp c
    have c3 := b2i_n0.mp c2
    unfold r_since at h
    rw [if_pos ⟨c1, c3⟩] at h
    obtain ⟨t, ht, rfl, hk⟩ := hK_n c1
    obtain ⟨u, hu, rfl, hk2⟩ := tK_n c3
    rw [nI_clamp (by omega), nI_clamp (by omega)] at h
    exact lp_since hV hE hO ht hu h 12 0 rfl
  · unfold r_since at h
    rwa [if_neg (fun z => b2i_0.mp c2 z.2)] at h
def coP (P : PT) (t u b : Nat) : Prop := ¬ P_size P b ≤ 0 ∧ held P t (nI b) ∧ held P u (nI b)
theorem lp_common (hV : V g w) (hE : EG g P) {t u : Nat} (ht : t < 20) (hu : u < 20) (hkt : hK (P_kind P t)) (hku : hK (P_kind P u)) (h : QR (some (vL (sb P (coP P t u) 96))) w) : ∀ n k, k + n = 96 → wp KX3_common rc rs QR QX 25 [(0, vR (some (g_m g))), (1, vI (nI t)), (2, vI (nI u)), (3, vL (sb P (coP P t u) k)), (5, vI (nI k))] [] w := by
  intro n
  induction n with
  | zero =>
    intro k hk
    refine sg_X3_common_25 (lpc (N := 96) rfl (by decide) hk (fun _ => ?_) (fun m e => by omega))
    have : k = 96 := by omega
    subst this
    exact h
  | succ n ih =>
    intro k hk
    have ih1 := ih (k + 1) (by omega)
    refine sg_X3_common_25 (lpc (N := 96) rfl (by decide) hk (fun e => by omega) (fun m e hk2 => ⟨_, hV.mf_s, _, g_size hV hE hk2, fun c => ?_, fun c => ⟨hV.mO, c_X3_isHeld hV hE ht ⟨_, rfl, fun c2 => ?_, fun c2 => ⟨hV.mO, c_X3_isHeld hV hE hu ⟨_, rfl, fun c3 => ?_, fun c3 => ⟨_, hV.mf_s, _, g_size hV hE hk2, ?_⟩⟩⟩⟩⟩⟩))
    · rw [sb_f (fun z => z.1 c)] at ih1
      rw [nI_1, l_0]
      exact ih1
    · rw [sb_f (fun z => bI_0.mp c2 ⟨hkt, z.2.1⟩)] at ih1
      rw [nI_1, l_0]
      exact ih1
    · rw [sb_f (fun z => bI_0.mp c3 ⟨hku, z.2.2⟩)] at ih1
      rw [nI_1, l_0]
      exact ih1
    · rw [sb_t ⟨c, (bI_n0.mp c2).2, (bI_n0.mp c3).2⟩] at ih1
      rw [nI_1]
      exact ih1
noncomputable def r_common (P : PT) (x y : Int32) : Int64 := if hK (kdI P x) ∧ hK (kdI P y) then sb P (coP P x.toNatClampNeg y.toNatClampNeg) 96 else NOL
theorem c_X3_common (hV : V g w) (hE : EG g P) {x y : Int32} (h : QR (some (vL (r_common P x y))) w) : ct KX3_common 0 0 [vR (some (g_m g)), vI x, vI y] w QR QX := by
  refine st_X3_common (sg_X3_common_0 ⟨hV.mO, c_X3_hasSlots hV hE ⟨_, rfl, fun c => ?_, fun c => ⟨hV.mO, c_X3_hasSlots hV hE ⟨_, rfl, fun c2 => ?_, fun c2 => ?_⟩⟩⟩⟩)
  · unfold r_common at h
    rwa [if_neg (fun z => b2i_0.mp c z.1)] at h
  · have c1 := b2i_n0.mp c
    have c3 := b2i_n0.mp c2
    unfold r_common at h
    rw [if_pos ⟨c1, c3⟩] at h
    obtain ⟨t, ht, rfl, hk⟩ := hK_n c1
    obtain ⟨u, hu, rfl, hk2⟩ := hK_n c3
    rw [nI_clamp (by omega), nI_clamp (by omega)] at h
    exact lp_common hV hE ht hu hk hk2 h 96 0 rfl
  · unfold r_common at h
    rwa [if_neg (fun z => b2i_0.mp c2 z.2)] at h
def r_slot (P : PT) (x k : Int32) : Int32 := if inI k 0 11 then (if askS P x = 0 then P_slot P x.toNatClampNeg k.toNatClampNeg else askS P x) else -2
theorem c_X3_slot (hV : V g w) (hE : EG g P) {x k : Int32} (h : QR (some (vI (r_slot P x k))) w) : ct KX3_slot 0 0 [vR (some (g_m g)), vI x, vI k] w QR QX := by
  refine st_X3_slot (sg_X3_slot_0 (c_X3_in ⟨_, rfl, fun c => ⟨hV.mO, c_X3_askedSlots hV hE ⟨_, rfl, fun c2 => ?_, fun c2 => ?_⟩⟩, fun c => ?_⟩))
  · have c1 := b2i_n0.mp c
    unfold r_slot at h
    rw [if_pos c1, if_pos c2] at h
    obtain ⟨K, hKK, rfl⟩ := inI_n (H := 11) c1 rfl rfl (by decide)
    obtain ⟨t, ht, rfl, hk⟩ := askS_0.mp c2
    rw [nI_clamp (by omega), nI_clamp (by omega)] at h
    exact ⟨_, hV.mf_s, _, g_slot hV hE ht (by omega), h⟩
  · unfold r_slot at h
    rwa [if_pos (b2i_n0.mp c), if_neg c2] at h
  · unfold r_slot at h
    rwa [if_neg (b2i_0.mp c)] at h
def r_taken (P : PT) (x k : Int32) : Int32 := if inI k 0 4 then (if ask P x k = 0 then P_made P x.toNatClampNeg else ask P x k) else -2
theorem c_X3_taken (hV : V g w) (hE : EG g P) {x k : Int32} (h : QR (some (vI (r_taken P x k))) w) : ct KX3_taken 0 0 [vR (some (g_m g)), vI x, vI k] w QR QX := by
  refine st_X3_taken (sg_X3_taken_0 (c_X3_in ⟨_, rfl, fun c => ⟨hV.mO, c_X3_asked hV hE ⟨_, rfl, fun c2 => ?_, fun c2 => ?_⟩⟩, fun c => ?_⟩))
  · have c1 := b2i_n0.mp c
    unfold r_taken at h
    rw [if_pos c1, if_pos c2] at h
    have hkm : ¬ k = -1 := by
      intro e
      rw [e] at c1
      exact c1.1 (by decide)
    obtain ⟨t, ht, rfl, hk⟩ := (ask_0 hkm).mp c2
    rw [nI_clamp (by omega)] at h
    exact ⟨_, hV.mf_s, _, g_made hV hE ht, h⟩
  · unfold r_taken at h
    rwa [if_pos (b2i_n0.mp c), if_neg c2] at h
  · unfold r_taken at h
    rwa [if_neg (b2i_0.mp c)] at h
noncomputable def r_count (P : PT) (x : Int32) : Int32 := if x = 0 then nI (nTh P) else if x = 1 then nI (nBk P) else if x = 2 then P_time P else if x = 3 then P_freed P else -2
theorem c_X3_count (hV : V g w) (hE : EG g P) {x : Int32} (h : QR (some (vI (r_count P x))) w) : ct KX3_count 0 0 [vR (some (g_m g)), vI x] w QR QX := by
  unfold r_count at h
  refine st_X3_count (sg_X3_count_0 ⟨fun c => ?_, fun c => ?_, fun c => ?_, fun c => ?_, fun c0 c1 c2 c3 => ?_⟩)
  · subst c
    exact ⟨hV.mO, c_X3_things hV hE ⟨_, rfl, h⟩⟩
  · subst c
    exact ⟨hV.mO, c_X3_blocks hV hE ⟨_, rfl, h⟩⟩
  · subst c
    exact ⟨_, hV.mf_s, _, g_time hV hE, h⟩
  · subst c
    exact ⟨_, hV.mf_s, _, g_freed hV hE, h⟩
  · rwa [if_neg c0, if_neg c1, if_neg c2, if_neg c3] at h
/-- what is told of a thing -/
noncomputable def tl (P : PT) (l : List Nat) (t : Nat) (what : Int32) : Int32 :=
  if what = 0 then P_kind P t else if what = 1 then P_made P t else if what = 2 then P_prev P t else if what = 3 then P_owner P t
  else if what = 4 then (if fK (P_kind P t) then eO (orig P (nI t) l) else -1) else if what = 5 then nI (nNx P (nI t)) else if what = 6 then nI (nHd P t)
  else if what = 7 then P_tags P t else if what = 8 then P_quota P t else nI (nOw P (nI t))
noncomputable def r_told (P : PT) (l : List Nat) (x what : Int32) : Int32 := if inI what 0 9 then (if thr P x = 0 then tl P l x.toNatClampNeg what else thr P x) else -2
theorem c_X3_told (hV : V g w) (hE : EG g P) {x what : Int32} {l : List Nat} (hc : ∀ t, t < 20 → x = nI t → fK (P_kind P t) → Ch P (P_prev P t) l) (h : QR (some (vI (r_told P l x what))) w) : ct KX3_told 0 0 [vR (some (g_m g)), vI x, vI what] w QR QX := by
  refine st_X3_told (sg_X3_told_0 (c_X3_in ⟨_, rfl, fun c => ⟨hV.mO, c_X3_there hV hE ⟨_, rfl, fun c2 => ?_, fun c2 => ?_⟩⟩, fun c => ?_⟩))
  · unfold r_told at h
    rw [if_pos (b2i_n0.mp c), if_pos c2] at h
    obtain ⟨t, ht, rfl, hk⟩ := thr_0.mp c2
    rw [nI_clamp (by omega)] at h
    unfold tl at h
    refine ⟨fun e => ?_, fun e => ?_, fun e => ?_, fun e => ?_, fun e => ?_, fun e => ?_, fun e => ?_, fun e => ?_, fun e => ?_, fun e0 e1 e2 e3 e4 e5 e6 e7 e8 => ?_⟩
    · subst e
      exact ⟨_, hV.mf_s, _, g_kind hV hE ht, h⟩
    · subst e
      exact ⟨_, hV.mf_s, _, g_made hV hE ht, h⟩
    · subst e
      exact ⟨_, hV.mf_s, _, g_prev hV hE ht, h⟩
    · subst e
      exact ⟨_, hV.mf_s, _, g_owner hV hE ht, h⟩
    · subst e
      refine ⟨hV.mO, c_X3_isFiles hV hE ?_⟩
      rw [kdI_n ht]
      refine ⟨_, rfl, fun c3 => ?_, fun c3 => ⟨hV.mO, ?_⟩⟩
      · have h' : QR (some (vI (if fK (P_kind P t) then eO (orig P (nI t) l) else -1))) w := h
        rwa [if_neg (b2i_0.mp c3)] at h'
      · have h' : QR (some (vI (if fK (P_kind P t) then eO (orig P (nI t) l) else -1))) w := h
        rw [if_pos (b2i_n0.mp c3)] at h'
        exact c_X3_originOf hV hE ht (hc t ht rfl (b2i_n0.mp c3)) ⟨_, rfl, h'⟩
    · subst e
      exact ⟨hV.mO, c_X3_nexts hV hE ⟨_, rfl, h⟩⟩
    · subst e
      exact ⟨hV.mO, c_X3_heldMany hV hE ht ⟨_, rfl, h⟩⟩
    · subst e
      exact ⟨_, hV.mf_s, _, g_tags hV hE ht, h⟩
    · subst e
      exact ⟨_, hV.mf_s, _, g_quota hV hE ht, h⟩
    · rw [if_neg e0, if_neg e1, if_neg e2, if_neg e3, if_neg e4, if_neg e5, if_neg e6, if_neg e7, if_neg e8] at h
      exact ⟨hV.mO, c_X3_owned hV hE ⟨_, rfl, h⟩⟩
  · unfold r_told at h
    rwa [if_pos (b2i_n0.mp c), if_neg c2] at h
  · unfold r_told at h
    rwa [if_neg (b2i_0.mp c)] at h
end MA
