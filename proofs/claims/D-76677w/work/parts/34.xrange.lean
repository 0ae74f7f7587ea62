/-! ===== the pool: ranges ===== -/
set_option maxRecDepth 100000
section XG
variable {l : LT} {x : XT} {m : MT} {sc : Nat × (Nat → Int32)} {w : aW} {a : AT} {P : PT} {D : DT} {t u : Nat} {QR : Option aV → aW → Prop} {QX : String → aW → Prop} {rc rs : Nat}
theorem upt_fs {q i : Nat} {L R : List Nat} (h : ¬ i = q) (e : upt q (i :: L) = some R) : ∃ R', upt q L = some R' ∧ R = i :: R' := by
  rw [upt_f h] at e
  cases h2 : upt q L with
  | none =>
    rw [h2] at e
    cases e
  | some R' =>
    rw [h2] at e
    cases e
    exact ⟨R', rfl, rfl⟩
theorem upt_ts {q : Nat} {L R : List Nat} (e : upt q (q :: L) = some R) : R = [q] := by
  rw [upt_t] at e
  exact (Option.some.inj e).symm
theorem lp_isOnWay (hV : V (l, x, m, sc) w) (hX : XP x a P D) (hI : PI P) {q : Nat} (hq : q < 20) (hkq : hK (P_kind P q)) (hu : u < 20) (hku : hK (P_kind P u)) {r2 : Option Nat} : ∀ (L : List Nat) (y : Int32) (R : List Nat), CS P L → Ch P y L → upt q L = some R → QR (some (vI (bI (u ∈ R)))) w → wp KX0_isOnWay rc rs QR QX 3 [(0, vR (some (L_ad l 0))), (1, vR (some (a.1 q))), (2, vR r2), (3, vR (some (a.1 u))), (4, vR (pO a y))] [] w := by
  intro L
  induction L with
  | nil =>
    intro y R _ _ e
    cases e
  | cons i L ih =>
    intro y R hcs hy e h
    rw [hy.pO]
    obtain ⟨hi, hs⟩ := hcs i (List.mem_cons_self ..)
    have iu : (some (a.1 i) : Option Nat) = some (a.1 u) ↔ i = u := ⟨fun z => hX.inj hi hu (Or.inr hs) hku (Option.some.inj z), fun z => by rw [z]⟩
    have iq : (some (a.1 i) : Option Nat) = some (a.1 q) ↔ i = q := ⟨fun z => hX.inj hi hq (Or.inr hs) hkq (Option.some.inj z), fun z => by rw [z]⟩
    by_cases c : i = q
    · subst c
      rw [upt_ts e] at h
      refine sg_X0_isOnWay_3 ⟨fun _ => ⟨fun c2 => ?_, fun c2 => ?_⟩, fun z => absurd rfl z⟩
      · rwa [bI_f (fun z => c2 (iu.mpr (List.mem_singleton.mp z).symm))] at h
      · rwa [bI_t (List.mem_singleton.mpr (iu.mp c2).symm)] at h
    · obtain ⟨R', e', rfl⟩ := upt_fs c e
      refine sg_X0_isOnWay_3 ⟨fun z => absurd (iq.mp z) c, fun _ => ⟨fun c2 => ⟨fun c3 => absurd c2 c3, fun _ => ?_⟩, fun c2 => ⟨_, rfl, _, x_prev hV hX hi (cI_s hs), ?_⟩⟩⟩
      · rwa [bI_t (by rw [iu.mp c2]; exact List.mem_cons_self ..)] at h
      · refine ih _ R' (fun j hj => hcs j (List.mem_cons_of_mem _ hj)) hy.2.2 e' ?_
        rw [bI_c (p := u ∈ R') (q := u ∈ i :: R') ⟨fun z => List.mem_cons_of_mem _ z, fun z => (List.mem_cons.mp z).resolve_left (fun y => c2 (iu.mpr y.symm))⟩]
        exact h
theorem c_X0_isOnWay (hV : V (l, x, m, sc) w) (hX : XP x a P D) (hI : PI P) {q b : Nat} (hq : q < 20) (hkq : hK (P_kind P q)) (hb : b < 20) (hu : u < 20) (hku : hK (P_kind P u)) {L R : List Nat} (hcs : CS P L) (hc : Ch P (nI b) L) (e : upt q L = some R) (h : QR (some (vI (bI (u ∈ R)))) w) : ct KX0_isOnWay 0 0 [vR (some (L_ad l 0)), vR (some (a.1 q)), vR (some (a.1 b)), vR (some (a.1 u))] w QR QX := by
  have := lp_isOnWay (rc := 0) (rs := 0) (QX := QX) (r2 := some (a.1 b)) hV hX hI hq hkq hu hku L _ R hcs hc e h
  rw [pO_n rfl hb] at this
  exact st_X0_isOnWay (sg_X0_isOnWay_0 this)
theorem lp_isHeldOutside (hV : V (l, x, m, sc) w) (hX : XP x a P D) (hI : PI P) {q b : Nat} (hq : q < 20) (hkq : hK (P_kind P q)) (hb : b < 20) {L R : List Nat} (hcs : CS P L) (hc : Ch P (nI b) L) (e : upt q L = some R) {v : Int32} (h : QR (some (vI (bI (hoP P R v)))) w) : ∀ n k, k + n = 20 → (∀ t, t < k → ¬ (hK (P_kind P t) ∧ held P t v ∧ ¬ t ∈ R)) → wp KX0_isHeldOutside rc rs QR QX 3 [(0, vR (some (L_ad l 0))), (1, vR (some (a.1 q))), (2, vR (some (a.1 b))), (3, vI v), (4, vI (nI k))] [] w := by
  intro n
  induction n with
  | zero =>
    intro k hk hn
    refine sg_X0_isHeldOutside_3 (lpc (N := 20) rfl (by decide) hk (fun _ => ?_) (fun m e => by omega))
    rwa [bI_f (fun z => by obtain ⟨t, z1, z2⟩ := z; exact hn t (by omega) z2)] at h
  | succ n ih =>
    intro k hk hn
    have nx : ¬ (hK (P_kind P k) ∧ held P k v ∧ ¬ k ∈ R) → wp KX0_isHeldOutside rc rs QR QX 3 [(0, vR (some (L_ad l 0))), (1, vR (some (a.1 q))), (2, vR (some (a.1 b))), (3, vI v), (4, vI (nI k + 1))] [] w := by
      intro hz
      rw [nI_1]
      refine ih (k + 1) (by omega) (fun t ht => ?_)
      rcases Nat.lt_or_ge t k with y | y
      · exact hn t y
      · have : t = k := by omega
        rw [this]
        exact hz
    refine sg_X0_isHeldOutside_3 (lpc (N := 20) rfl (by decide) hk (fun e => by omega) (fun m _ hk2 => ⟨hV.xO, c_X0_holderAt_n hV hX hI hk2 (fun c => ⟨_, rfl, fun y => (by cases y), fun z y => ?_⟩) (fun c => ⟨_, rfl, fun _ => nx (fun z => c z.1), fun z y => (by cases y)⟩)⟩))
    cases y
    refine ⟨x_ck hV hX hk2 (cI_h c), c_X4_holds hV hX hk2 c ⟨_, rfl, fun c2 => nx (fun z => bI_0.mp c2 z.2.1), fun c2 => ⟨hV.xO, c_X0_isOnWay hV hX hI hq hkq hb hk2 c hcs hc e ⟨_, rfl, fun c3 => nx (fun z => z.2.2 (bI_n0.mp c3)), fun c3 => ?_⟩⟩⟩⟩
    rwa [bI_t ⟨k, hk2, c, bI_n0.mp c2, bI_0.mp c3⟩] at h
theorem c_X0_isHeldOutside (hV : V (l, x, m, sc) w) (hX : XP x a P D) (hI : PI P) {q b : Nat} (hq : q < 20) (hkq : hK (P_kind P q)) (hb : b < 20) {L R : List Nat} (hcs : CS P L) (hc : Ch P (nI b) L) (e : upt q L = some R) {v : Int32} (h : QR (some (vI (bI (hoP P R v)))) w) : ct KX0_isHeldOutside 0 0 [vR (some (L_ad l 0)), vR (some (a.1 q)), vR (some (a.1 b)), vI v] w QR QX :=
  st_X0_isHeldOutside (sg_X0_isHeldOutside_0 (lp_isHeldOutside hV hX hI hq hkq hb hcs hc e h 20 0 rfl (fun t ht => by omega)))
theorem rbT_t {R : List Nat} {s k b : Nat} {nw : Option Nat} (hb : b < 96) (e : P_slot P s k = nI b) (h1 : ∀ n, nw = some n → ¬ held P n (nI b)) (h2 : ¬ hoP P R (nI b)) : sm (rbT P R s nw) (k + 1) = sm (rbT P R s nw) k + (P_size P b).toInt64 := by
  show sm (rbT P R s nw) k + rbT P R s nw k = _
  unfold rbT
  rw [e, sel_t ⟨m1_ne b (by omega), h1, h2⟩, nI_clamp (by omega)]
  rfl
theorem rbT_f {R : List Nat} {s k : Nat} {nw : Option Nat} (h : ¬ (¬ P_slot P s k = -1 ∧ (∀ n, nw = some n → ¬ held P n (P_slot P s k)) ∧ ¬ hoP P R (P_slot P s k))) : sm (rbT P R s nw) (k + 1) = sm (rbT P R s nw) k + 0 := by
  show sm (rbT P R s nw) k + rbT P R s nw k = _
  unfold rbT
  rw [sel_f h]
theorem lp_rbInner (hV : V (l, x, m, sc) w) (hX : XP x a P D) (hI : PI P) {q b : Nat} (hq : q < 20) (hkq : hK (P_kind P q)) (hb : b < 20) {L R : List Nat} (hcs : CS P L) (hc : Ch P (nI b) L) (e : upt q L = some R) {s : Nat} (hs : s < 20) (hks : sK (P_kind P s)) {nw : Option Nat} (hnw : ∀ n, nw = some n → n < 20 ∧ sK (P_kind P n)) {c : Int64} (h1 : ¬ s = q → wp KX0_rangeByBlocks rc rs QR QX 8 [(0, vR (some (L_ad l 0))), (1, vR (some (a.1 q))), (2, vR (some (a.1 b))), (3, vL (c + sm (rbT P R s nw) 12)), (5, vR (some (a.1 s))), (6, vR (pO a (P_prev P s)))] [] w) (h2 : s = q → QR (some (vL (c + sm (rbT P R s nw) 12))) w) : ∀ n k, k + n = 12 → wp KX0_rangeByBlocks rc rs QR QX 11 [(0, vR (some (L_ad l 0))), (1, vR (some (a.1 q))), (2, vR (some (a.1 b))), (3, vL (c + sm (rbT P R s nw) k)), (5, vR (oA a nw)), (6, vR (some (a.1 s))), (7, vI (nI k))] [] w := by
  have iq : (some (a.1 s) : Option Nat) = some (a.1 q) ↔ s = q := ⟨fun z => hX.inj hs hq (Or.inr hks) hkq (Option.some.inj z), fun z => by rw [z]⟩
  intro n
  induction n with
  | zero =>
    intro k hk
    refine sg_X0_rangeByBlocks_11 (lpc (N := 12) rfl (by decide) hk (fun _ => ?_) (fun m e => by omega))
    have : k = 12 := by omega
    subst this
    exact ⟨fun c1 => ⟨_, rfl, _, x_prev hV hX hs (cI_s hks), h1 (fun z => c1 (iq.mpr z))⟩, fun c1 => h2 (iq.mp c1)⟩
  | succ n ih =>
    intro k hk
    have ih1 := ih (k + 1) (by omega)
    have f0 : ¬ (¬ P_slot P s k = -1 ∧ (∀ n, nw = some n → ¬ held P n (P_slot P s k)) ∧ ¬ hoP P R (P_slot P s k)) → wp KX0_rangeByBlocks rc rs QR QX 11 [(0, vR (some (L_ad l 0))), (1, vR (some (a.1 q))), (2, vR (some (a.1 b))), (3, vL ((c + sm (rbT P R s nw) k) + 0)), (5, vR (oA a nw)), (6, vR (some (a.1 s))), (7, vI (nI k + 1))] [] w := by
      intro hz
      rw [rbT_f hz] at ih1
      rw [nI_1, Int64.add_assoc]
      exact ih1
    refine sg_X0_rangeByBlocks_11 (lpc (N := 12) rfl (by decide) hk (fun e => by omega) (fun m _ hk2 => ⟨_, rfl, _, x_sa hV hX hs (cI_s hks), _, x_slot hV hX hs (Or.inr hks) hk2, fun c1 => f0 (fun z => z.1 c1), fun c1 => ?_⟩))
    rcases hI.s s k hs hk2 with z | ⟨d, hd, z⟩
    · exact absurd z c1
    · have fin : (∀ n, nw = some n → ¬ held P n (nI d)) → isO w (L_ad l 0) 0 ∧ ct (KX0_isHeldOutside) 0 0 [vR (some (L_ad l 0)), vR (some (a.1 q)), vR (some (a.1 b)), vI (nI d)] w (fun v67 w67 => ∃ x67 : Int32, v67 = some (vI x67) ∧ (¬ x67 = 0 → wp (KX0_rangeByBlocks) rc rs QR QX 11 [(0, vR (some (L_ad l 0))), (1, vR (some (a.1 q))), (2, vR (some (a.1 b))), (3, vL ((c + sm (rbT P R s nw) k) + 0)), (5, vR (oA a nw)), (6, vR (some (a.1 s))), (7, vI (nI k + 1))] [] w67) ∧ (x67 = 0 → ∃ x74 : Nat, gf w67 (L_ad l 0) [0] 0 (vR (some x74)) ∧ ∃ x79 : Int32, gI w67 x74 (nI d) x79 ∧ wp (KX0_rangeByBlocks) rc rs QR QX 11 [(0, vR (some (L_ad l 0))), (1, vR (some (a.1 q))), (2, vR (some (a.1 b))), (3, vL ((c + sm (rbT P R s nw) k) + (Int32.toInt64 x79))), (5, vR (oA a nw)), (6, vR (some (a.1 s))), (7, vI (nI k + 1))] [] w67)) (fun E67 w67 => False) := by
        intro hn
        refine ⟨hV.xO, c_X0_isHeldOutside hV hX hI hq hkq hb hcs hc e ⟨_, rfl, fun c3 => f0 (fun y => y.2.2 (by rw [z]; exact bI_n0.mp c3)), fun c3 => ⟨_, hV.xf0, _, x_size hV hX hd, ?_⟩⟩⟩
        rw [rbT_t hd z hn (bI_0.mp c3)] at ih1
        rw [nI_1, Int64.add_assoc]
        exact ih1
      rw [z]
      cases nw with
      | none => exact ⟨fun _ => fin (fun n y => (by cases y)), fun q' y => (by cases y)⟩
      | some n =>
        refine ⟨fun y => (by cases y), fun q' y => ?_⟩
        cases y
        obtain ⟨hn, hkn⟩ := hnw n rfl
        refine ⟨x_ck hV hX hn (cI_s hkn), c_X4_holds hV hX hn (Or.inr hkn) ⟨_, rfl, fun c3 => f0 (fun y => y.2.1 n rfl (by rw [z]; exact bI_n0.mp c3)), fun c3 => fin (fun n' y => by cases y; exact bI_0.mp c3)⟩⟩
theorem lp_rb (hV : V (l, x, m, sc) w) (hX : XP x a P D) (hI : PI P) {q b : Nat} (hq : q < 20) (hkq : hK (P_kind P q)) (hb : b < 20) {Lb R : List Nat} (hcs : CS P Lb) (hc : Ch P (nI b) Lb) (e : upt q Lb = some R) : ∀ (L : List Nat) (y : Int32) (R' : List Nat) (nw : Option Nat) (c : Int64), CS P L → Ch P y L → upt q L = some R' → (∀ n, nw = some n → n < 20 ∧ sK (P_kind P n)) → QR (some (vL (rbS P R nw R' c))) w → wp KX0_rangeByBlocks rc rs QR QX 8 [(0, vR (some (L_ad l 0))), (1, vR (some (a.1 q))), (2, vR (some (a.1 b))), (3, vL c), (5, vR (oA a nw)), (6, vR (pO a y))] [] w := by
  intro L
  induction L with
  | nil =>
    intro y R' nw c _ _ e
    cases e
  | cons i L ih =>
    intro y R' nw c hcs' hy e' hnw h
    rw [hy.pO]
    obtain ⟨hi, hs⟩ := hcs' i (List.mem_cons_self ..)
    have hin := lp_rbInner (rc := rc) (rs := rs) (QR := QR) (QX := QX) hV hX hI hq hkq hb hcs hc e hi hs hnw (c := c) (fun c1 => ?_) (fun c1 => ?_) 12 0 rfl
    · rw [show c + sm (rbT P R i nw) 0 = c from Int64.add_zero c] at hin
      exact sg_X0_rangeByBlocks_8 hin
    · obtain ⟨R2, e2, rfl⟩ := upt_fs c1 e'
      exact ih _ R2 (some i) _ (fun j hj => hcs' j (List.mem_cons_of_mem _ hj)) hy.2.2 e2 (fun n y => by cases y; exact ⟨hi, hs⟩) h
    · subst c1
      rw [upt_ts e'] at h
      exact h
theorem lp_rangeByLists (hV : V (l, x, m, sc) w) (hX : XP x a P D) (hI : PI P) (hB : DB P D) {q : Nat} (hq : q < 20) (hkq : sK (P_kind P q)) {r2 : Option Nat} : ∀ (L : List Nat) (y : Int32) (R' : List Nat) (c : Int64), CS P L → Ch P y L → upt q L = some R' → (∀ s, s ∈ R' → nNx P (nI s) = 1) → QR (some (vL (rlS P D (pm P q) R' c))) w → wp KX0_rangeByLists rc rs QR QX 5 [(0, vR (some (L_ad l 0))), (1, vR (some (a.1 q))), (2, vR r2), (3, vL c), (5, vR (pO a y))] [] w := by
  intro L
  induction L with
  | nil =>
    intro y R' c _ _ e
    cases e
  | cons i L ih =>
    intro y R' c hcs hy e h1 h
    rw [hy.pO]
    obtain ⟨hi, hs⟩ := hcs i (List.mem_cons_self ..)
    have iq : (some (a.1 i) : Option Nat) = some (a.1 q) ↔ i = q := ⟨fun z => hX.inj hi hq (Or.inr hs) (Or.inr hkq) (Option.some.inj z), fun z => by rw [z]⟩
    have hin : i ∈ R' := by
      by_cases c1 : i = q
      · rw [c1]
        exact upt_last _ _ _ e
      · obtain ⟨R2, e2, rfl⟩ := upt_fs c1 e
        exact List.mem_cons_self ..
    obtain ⟨n1, n2, n3⟩ := nxO_lt (h1 i hin)
    refine sg_X0_rangeByLists_5 ⟨hV.xO, c_X0_nextOf hV hX hI hi hs (fun _ => ⟨_, rfl, _, rfl, x_ck hV hX hq (cI_s hkq), c_X4_prevMade hV hX hI hq (Or.inr hkq) ⟨_, rfl, hV.xO, c_X0_deadBetween hV hX hB n1 n2 ⟨_, rfl, fun c1 => ⟨_, rfl, _, x_prev hV hX hi (cI_s hs), ?_⟩, fun c1 => ?_⟩⟩⟩) (fun z => by omega)⟩
    · obtain ⟨R2, e2, rfl⟩ := upt_fs (fun z => c1 (iq.mpr z)) e
      exact ih _ R2 _ (fun j hj => hcs j (List.mem_cons_of_mem _ hj)) hy.2.2 e2 (fun s hs => h1 s (List.mem_cons_of_mem _ hs)) h
    · have c2 := iq.mp c1
      subst c2
      rw [upt_ts e] at h
      exact h
theorem lp_rangeOf (hV : V (l, x, m, sc) w) (hX : XP x a P D) (hI : PI P) (hB : DB P D) {q b : Nat} (hq : q < 20) (hkq : sK (P_kind P q)) (hb : b < 20) {Lb R : List Nat} (hcs : CS P Lb) (hc : Ch P (nI b) Lb) (e : upt q Lb = some R) (g1 : (∀ s, s ∈ R → nNx P (nI s) = 1) → QR (some (vL (rlS P D (pm P q) R 0))) w) (g2 : (¬ ∀ s, s ∈ R → nNx P (nI s) = 1) → QR (some (vL (rbS P R none R 0))) w) : ∀ (L : List Nat) (y : Int32) (R' : List Nat) (i3 : Int32), CS P L → Ch P y L → upt q L = some R' → (¬ i3 = 0 → (∀ s, s ∈ R' → nNx P (nI s) = 1) → ∀ s, s ∈ R → nNx P (nI s) = 1) → ((i3 = 0 ∨ ¬ ∀ s, s ∈ R' → nNx P (nI s) = 1) → ¬ ∀ s, s ∈ R → nNx P (nI s) = 1) → wp KX0_rangeOf rc rs QR QX 5 [(0, vR (some (L_ad l 0))), (1, vR (some (a.1 q))), (2, vR (some (a.1 b))), (3, vI i3), (4, vR (pO a y))] [] w := by
  have one : ∀ s, nI (nNx P (nI s)) = 1 ↔ nNx P (nI s) = 1 := by
    intro s
    have hl := cn_le (fun t' => hK (P_kind P t') ∧ P_prev P t' = nI s) 20
    exact nI_eq (b := 1) (by unfold nNx; omega) (by decide)
  have hbl : (¬ ∀ s, s ∈ R → nNx P (nI s) = 1) → ct (KX0_rangeByBlocks) 0 0 [vR (some (L_ad l 0)), vR (some (a.1 q)), vR (some (a.1 b))] w (fun v66 w66 => ∃ x66 : Int64, v66 = some (vL x66) ∧ QR (some (vL x66)) w66) (fun E66 w66 => False) := by
    intro hz
    have hr : (fun v66 w66 => ∃ x66 : Int64, v66 = some (vL x66) ∧ QR (some (vL x66)) w66) (some (vL (rbS P R none R 0))) w := ⟨_, rfl, g2 hz⟩
    have := lp_rb (rc := 0) (rs := 0) (QX := fun _ _ => False) (QR := fun v66 w66 => ∃ x66 : Int64, v66 = some (vL x66) ∧ QR (some (vL x66)) w66) hV hX hI hq (Or.inr hkq) hb hcs hc e Lb _ R none 0 hcs hc e (fun n y => (by cases y)) hr
    rw [pO_n rfl hb] at this
    exact st_X0_rangeByBlocks (sg_X0_rangeByBlocks_0 this)
  have hls : (∀ s, s ∈ R → nNx P (nI s) = 1) → ct (KX0_rangeByLists) 0 0 [vR (some (L_ad l 0)), vR (some (a.1 q)), vR (some (a.1 b))] w (fun v57 w57 => ∃ x57 : Int64, v57 = some (vL x57) ∧ QR (some (vL x57)) w57) (fun E57 w57 => False) := by
    intro hz
    have hr : (fun v66 w66 => ∃ x66 : Int64, v66 = some (vL x66) ∧ QR (some (vL x66)) w66) (some (vL (rlS P D (pm P q) R 0))) w := ⟨_, rfl, g1 hz⟩
    have := lp_rangeByLists (rc := 0) (rs := 0) (r2 := some (a.1 b)) (QX := fun _ _ => False) (QR := fun v66 w66 => ∃ x66 : Int64, v66 = some (vL x66) ∧ QR (some (vL x66)) w66) hV hX hI hB hq hkq Lb _ R 0 hcs hc e hz hr
    rw [pO_n rfl hb] at this
    exact st_X0_rangeByLists (sg_X0_rangeByLists_0 this)
  intro L
  induction L with
  | nil =>
    intro y R' i3 _ _ e
    cases e
  | cons i L ih =>
    intro y R' i3 hcs' hy e' k1 k2
    rw [hy.pO]
    obtain ⟨hi, hs⟩ := hcs' i (List.mem_cons_self ..)
    have iq : (some (a.1 i) : Option Nat) = some (a.1 q) ↔ i = q := ⟨fun z => hX.inj hi hq (Or.inr hs) (Or.inr hkq) (Option.some.inj z), fun z => by rw [z]⟩
    refine sg_X0_rangeOf_5 ⟨fun c => ?_, fun c => ?_⟩
    · have c1 := iq.mp c
      subst c1
      have eR := upt_ts e'
      subst eR
      refine ⟨fun c2 => ⟨hV.xO, hbl (k2 (Or.inl c2))⟩, fun c2 => ⟨hV.xO, c_X0_nextMany hV hX hI hi hs ⟨_, rfl, fun c3 => ⟨hV.xO, hbl (k2 (Or.inr (fun z => c3 ((one i).mpr (z i (List.mem_cons_self ..))))))⟩, fun c3 => ⟨hV.xO, hls (k1 c2 (fun s z => by rw [List.mem_singleton.mp z]; exact (one i).mp c3))⟩⟩⟩⟩
    · obtain ⟨R2, e2, rfl⟩ := upt_fs (fun z => c (iq.mpr z)) e'
      have cs2 : CS P L := fun j hj => hcs' j (List.mem_cons_of_mem _ hj)
      refine ⟨fun c2 => ⟨_, rfl, _, x_prev hV hX hi (cI_s hs), ih _ R2 0 cs2 hy.2.2 e2 (fun z => absurd rfl z) (fun _ => k2 (Or.inl c2))⟩, fun c2 => ⟨hV.xO, c_X0_nextMany hV hX hI hi hs ⟨_, rfl, fun c3 => ⟨_, rfl, _, x_prev hV hX hi (cI_s hs), ih _ R2 0 cs2 hy.2.2 e2 (fun z => absurd rfl z) (fun _ => k2 (Or.inr (fun z => c3 ((one i).mpr (z i (List.mem_cons_self ..))))))⟩, fun c3 => ⟨_, rfl, _, x_prev hV hX hi (cI_s hs), ih _ R2 1 cs2 hy.2.2 e2 (fun _ z => k1 c2 (fun s hs' => ?_)) (fun z => k2 (Or.inr (fun y => ?_)))⟩⟩⟩⟩
      · rcases List.mem_cons.mp hs' with y | y
        · rw [y]
          exact (one i).mp c3
        · exact z s y
      · rcases z with z | z
        · exact absurd z (by decide)
        · exact z (fun s hs' => y s (List.mem_cons_of_mem _ hs'))
theorem c_X0_rangeOf (hV : V (l, x, m, sc) w) (hX : XP x a P D) (hI : PI P) (hB : DB P D) {q b : Nat} (hq : q < 20) (hkq : sK (P_kind P q)) (hb : b < 20) {L R : List Nat} (hcs : CS P L) (hc : Ch P (nI b) L) (e : upt q L = some R) (h : QR (some (vL (rgS P D q R))) w) : ct KX0_rangeOf 0 0 [vR (some (L_ad l 0)), vR (some (a.1 q)), vR (some (a.1 b))] w QR QX := by
  have := lp_rangeOf (rc := 0) (rs := 0) (QR := QR) (QX := QX) hV hX hI hB hq hkq hb hcs hc e (fun z => by rw [rgS_t z] at h; exact h) (fun z => by rw [rgS_f z] at h; exact h) L _ R 1 hcs hc e (fun _ z => z) (fun z => z.elim (fun y => absurd y (by decide)) id)
  rw [pO_n rfl hb] at this
  exact st_X0_rangeOf (sg_X0_rangeOf_0 this)
theorem lp_isInChain (hV : V (l, x, m, sc) w) (hX : XP x a P D) (hI : PI P) {q : Nat} (hq : q < 20) (hkq : hK (P_kind P q)) {r1 : Option Nat} : ∀ (L : List Nat) (y : Int32), CS P L → Ch P y L → QR (some (vI (bI (¬ upt q L = none)))) w → wp KX0_isInChain rc rs QR QX 2 [(0, vR (some (a.1 q))), (1, vR r1), (2, vR (pO a y))] [] w := by
  intro L
  induction L with
  | nil =>
    intro y _ hy h
    rw [hy.pO]
    refine sg_X0_isInChain_2 ⟨fun _ => ⟨fun _ => ?_, fun z => (by cases z)⟩, fun q' z => (by cases z)⟩
    rwa [bI_f (fun z => z rfl)] at h
  | cons i L ih =>
    intro y hcs hy h
    rw [hy.pO]
    obtain ⟨hi, hs⟩ := hcs i (List.mem_cons_self ..)
    have iq : (some (a.1 i) : Option Nat) = some (a.1 q) ↔ i = q := ⟨fun z => hX.inj hi hq (Or.inr hs) hkq (Option.some.inj z), fun z => by rw [z]⟩
    refine sg_X0_isInChain_2 ⟨fun z => (by cases z), fun q' z => ?_⟩
    cases z
    refine ⟨fun c => ⟨fun c2 => absurd c c2, fun _ => ?_⟩, fun c => ⟨_, x_prev hV hX hi (cI_s hs), ih _ (fun j hj => hcs j (List.mem_cons_of_mem _ hj)) hy.2.2 ?_⟩⟩
    · rw [iq.mp c, bI_t (by rw [upt_t]; exact fun z => (by cases z))] at h
      exact h
    · rw [bI_c (p := ¬ upt q L = none) (q := ¬ upt q (i :: L) = none)]
      · exact h
      · rw [upt_f (fun z => c (iq.mpr z))]
        cases upt q L with
        | none => exact Iff.rfl
        | some R => exact ⟨fun _ z => (by cases z), fun _ z => (by cases z)⟩
noncomputable def r_rangeX (P : PT) (D : DT) (L : List Nat) (i j : Int32) : Int64 := if sK (kdI P i) ∧ sK (kdI P j) then (match upt i.toNatClampNeg L with
  | none => NOL
  | some R => rgS P D i.toNatClampNeg R) else NOL
theorem c_X0_range (hV : V (l, x, m, sc) w) (hX : XP x a P D) (hI : PI P) (hB : DB P D) {i j : Int32} {L : List Nat} (hc : ∀ t, t < 20 → j = nI t → sK (P_kind P t) → Ch P j L) (h : QR (some (vL (r_rangeX P D L i j))) w) : ct KX0_range 0 0 [vR (some (L_ad l 0)), vI i, vI j] w QR QX := by
  unfold r_rangeX at h
  refine st_X0_range (sg_X0_range_0 ⟨hV.xO, c_X0_snapshotAt hV hX hI (fun t ht e hk => ⟨_, rfl, hV.xO, c_X0_snapshotAt hV hX hI (fun u hu e2 hku => ⟨_, rfl, fun z => (by cases z), fun q z => ⟨fun z2 => (by cases z2), fun q2 z2 => ?_⟩⟩) (fun z => ⟨_, rfl, fun y => (by cases y), fun q y => ⟨fun _ => ?_, fun q z => (by cases z)⟩⟩)⟩) (fun z => ⟨_, rfl, hV.xO, c_X0_snapshotAt hV hX hI (fun u hu e2 hku => ⟨_, rfl, fun _ => ?_, fun q y => (by cases y)⟩) (fun z2 => ⟨_, rfl, fun _ => ?_, fun q y => (by cases y)⟩)⟩)⟩)
  · subst e
    have hC := hc u hu e2 hku
    subst e2
    cases z
    cases z2
    rw [kdI_n ht, kdI_n hu, if_pos ⟨hk, hku⟩, nI_clamp (by omega)] at h
    have hcs : CS P L := Ch.cs hI L _ (Or.inr ⟨u, hu, rfl, hku⟩) hC
    have hic := lp_isInChain (rc := 0) (rs := 0) (QX := fun _ _ => False) (r1 := some (a.1 u)) (QR := fun v25 w25 => ∃ x25 : Int32, v25 = some (vI x25) ∧ (¬ x25 = 0 → isO w25 (L_ad l 0) 0 ∧ ct (KX0_rangeOf) 0 0 [vR (some (L_ad l 0)), vR (some (a.1 t)), vR (some (a.1 u))] w25 (fun v41 w41 => ∃ x41 : Int64, v41 = some (vL x41) ∧ QR (some (vL x41)) w41) (fun E41 w41 => False)) ∧ (x25 = 0 → QR (some (vL (-4611686018427387904))) w25)) hV hX hI ht (Or.inr hk) L _ hcs hC ⟨_, rfl, fun c => ⟨hV.xO, ?_⟩, fun c => ?_⟩
    · rw [pO_n rfl hu] at hic
      exact st_X0_isInChain (sg_X0_isInChain_0 hic)
    · cases eu : upt t L with
      | none => exact absurd eu (bI_n0.mp c)
      | some R =>
        rw [eu] at h
        exact c_X0_rangeOf hV hX hI hB ht hk hu hcs hC eu ⟨_, rfl, h⟩
    · have eu : upt t L = none := Classical.byContradiction (bI_0.mp c)
      rw [eu] at h
      exact h
  · rw [if_neg (fun y => z y.2)] at h
    exact h
  · rw [if_neg (fun y => z y.1)] at h
    exact h
  · rw [if_neg (fun y => z y.1)] at h
    exact h
noncomputable def r_aloX (P : PT) (D : DT) (i : Int32) : Int64 := if hK (kdI P i) then (if fK (kdI P i) then sS P i.toNatClampNeg (laP P i.toNatClampNeg) 12 else rgS P D i.toNatClampNeg [i.toNatClampNeg]) else NOL
theorem c_X0_alone (hV : V (l, x, m, sc) w) (hX : XP x a P D) (hI : PI P) (hB : DB P D) {i : Int32} {L : List Nat} (hc : ∀ t, t < 20 → i = nI t → hK (P_kind P t) → Ch P (P_prev P t) L) (h : QR (some (vL (r_aloX P D i))) w) : ct KX0_alone 0 0 [vR (some (L_ad l 0)), vI i] w QR QX := by
  unfold r_aloX at h
  refine st_X0_alone (sg_X0_alone_0 ⟨hV.xO, c_X0_holderAt hV hX hI (fun t ht e hk => ⟨_, rfl, fun z => (by cases z), fun q z => ?_⟩) (fun z => ⟨_, rfl, fun _ => ?_, fun q z => (by cases z)⟩)⟩)
  · subst e
    cases z
    rw [kdI_n ht, if_pos hk, nI_clamp (by omega)] at h
    by_cases cf : fK (P_kind P t)
    · rw [if_pos cf] at h
      exact Or.inl ⟨x_ck hV hX ht (cI_f cf), x_ck hV hX ht (cI_f cf), hV.xO, c_X0_liveAlone hV hX hI ht cf ⟨_, rfl, h⟩⟩
    · have cs := hk.resolve_left cf
      rw [if_neg cf] at h
      have hC := hc t ht rfl hk
      have hcs := hI.cs ht hk hC
      refine Or.inr ⟨x_cka hV hX hI ht (hK_m1 hk) (ci_nf hI ht (hK_m1 hk) cf), x_ck hV hX ht (cI_s cs), x_ck hV hX ht (cI_s cs), hV.xO, c_X0_rangeOf hV hX hI hB ht cs ht (L := t :: L) (fun j hj => ?_) ⟨rfl, ht, hC⟩ upt_t ⟨_, rfl, h⟩⟩
      rcases List.mem_cons.mp hj with z | z
      · rw [z]
        exact ⟨ht, cs⟩
      · exact hcs j z
  · rw [if_neg z] at h
    exact h
end XG
