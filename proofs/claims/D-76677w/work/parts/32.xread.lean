/-! ===== the pool's questions: walked, as functions of P and the dead lists ===== -/
set_option maxRecDepth 100000
theorem i64_lt {i j : Int32} : i.toInt64 < j.toInt64 ↔ i < j := by
  rw [Int64.lt_iff_toInt_lt, Int32.toInt_toInt64, Int32.toInt_toInt64, Int32.lt_iff_toInt_lt]
theorem thO_none {a : AT} {P : PT} {t : Nat} (h : thO a P t = none) : P_kind P t = -1 := by
  unfold thO at h
  by_cases c : P_kind P t = -1
  · exact c
  · rw [if_neg c] at h
    cases h
theorem thO_some {a : AT} {P : PT} {t q : Nat} (h : thO a P t = some q) : ¬ P_kind P t = -1 ∧ q = a.1 t := by
  unfold thO at h
  by_cases c : P_kind P t = -1
  · rw [if_pos c] at h
    cases h
  · rw [if_neg c] at h
    cases h
    exact ⟨c, rfl⟩
def pm (P : PT) (t : Nat) : Int32 := if P_prev P t = -1 then 0 else P_made P (pn P t)
theorem pm_m {P : PT} {t : Nat} (h : P_prev P t = -1) : pm P t = 0 := if_pos h
theorem pn_n {P : PT} {t p : Nat} (hp : p < 20) (h : P_prev P t = nI p) : pn P t = p := by
  unfold pn
  rw [h, nI_clamp (by omega)]
theorem pm_n {P : PT} {t p : Nat} (hp : p < 20) (h : P_prev P t = nI p) : pm P t = P_made P p := by
  unfold pm
  rw [if_neg (by rw [h]; exact m1_ne p (by omega)), pn_n hp h]
def CS (P : PT) (L : List Nat) : Prop := ∀ i, i ∈ L → i < 20 ∧ sK (P_kind P i)
theorem Ch.cs {P : PT} (hI : PI P) : ∀ (L : List Nat) (y : Int32), (y = -1 ∨ ∃ p : Nat, p < 20 ∧ y = nI p ∧ sK (P_kind P p)) → Ch P y L → CS P L := by
  intro L
  induction L with
  | nil =>
    intro y _ _ i hi
    cases hi
  | cons j L ih =>
    intro y hy hc i hi
    obtain ⟨e, hj, hc⟩ := hc
    have hs : sK (P_kind P j) := by
      rcases hy with z | ⟨p, hp, z, hs⟩
      · exact absurd (e.symm.trans z) (m1_ne j (by omega))
      · rw [z] at e
        rw [(nI_eq (by omega) (by omega)).mp e] at hs
        exact hs
    rcases List.mem_cons.mp hi with z | z
    · rw [z]
      exact ⟨hj, hs⟩
    · exact ih _ (hI.p hj (Or.inr hs)) hc i z
/-- what dead lists hold is among the blocks -/
def DB (P : PT) (D : DT) : Prop := ∀ t, t < 20 → hK (P_kind P t) → ∀ i, i < (D t).length → gD (D t) i < 96
section XR
variable {l : LT} {x : XT} {m : MT} {sc : Nat × (Nat → Int32)} {w : aW} {a : AT} {P : PT} {D : DT} {t u : Nat} {QR : Option aV → aW → Prop} {QX : String → aW → Prop} {rc rs : Nat}
theorem c_X0_in {v lo hi : Int64} (h : QR (some (vI (b2i (¬ v < lo ∧ ¬ hi < v)))) w) : ct KX0_in 0 0 [vL v, vL lo, vL hi] w QR QX := by
  refine st_X0_in (sg_X0_in_0 ⟨fun c => ?_, fun c => ⟨fun c2 => ?_, fun c2 => ?_⟩⟩)
  · rwa [b2i_f (fun z => z.1 c)] at h
  · rwa [b2i_f (fun z => z.2 c2)] at h
  · rwa [b2i_t ⟨c, c2⟩] at h
theorem c_X0_inI {i : Int32} (lo' hi' : Int32) {lo hi : Int64} (e1 : lo = lo'.toInt64) (e2 : hi = hi'.toInt64) (h : QR (some (vI (b2i (inI i lo' hi')))) w) : ct KX0_in 0 0 [vL i.toInt64, vL lo, vL hi] w QR QX := by
  subst e1
  subst e2
  refine c_X0_in ?_
  have e : b2i (¬ i.toInt64 < lo'.toInt64 ∧ ¬ hi'.toInt64 < i.toInt64) = b2i (inI i lo' hi') := by
    by_cases c : inI i lo' hi'
    · rw [b2i_t c, b2i_t ⟨fun z => c.1 (i64_lt.mp z), fun z => c.2 (i64_lt.mp z)⟩]
    · rw [b2i_f c, b2i_f (fun z => c ⟨fun y => z.1 (i64_lt.mpr y), fun y => z.2 (i64_lt.mpr y)⟩)]
  rw [e]
  exact h
theorem c_X0_asksPlace {i n : Int32} (h1 : ¬ i < 0 → i < n → QR none w) (h2 : (i < 0 ∨ ¬ i < n) → QX "java/lang/IndexOutOfBoundsException" w) : ct KX0_asksPlace 1 6 [vI i, vI n] w QR QX :=
  st_X0_asksPlace (sg_X0_asksPlace_0 ⟨fun c => ⟨Nat.le_refl _, Nat.le_refl _, h2 (Or.inl c)⟩, fun c => ⟨fun c2 => h1 c c2, fun c2 => ⟨Nat.le_refl _, Nat.le_refl _, h2 (Or.inr c2)⟩⟩⟩)
theorem inR_lt {i : Int32} : inR i ↔ (¬ i < 0 ∧ i < 20) := by
  constructor
  · intro h
    obtain ⟨j, hj, rfl⟩ := inR_n h
    exact ⟨h.1, nI_lt hj (by decide)⟩
  · rintro ⟨h1, h2⟩
    obtain ⟨j, hj, rfl⟩ := nI_of h1
    have : j < 20 := (nI_ltI (b := 20) hj (by decide)).mp h2
    exact n_inR this
theorem c_X0_thingAt (hV : V (l, x, m, sc) w) (hX : XP x a P D) (hI : PI P) {i : Int32} (h1 : ∀ t, t < 20 → i = nI t → QR (some (vR (thO a P t))) w) (h2 : ¬ inR i → QX "java/lang/IndexOutOfBoundsException" w) : ct KX0_thingAt 1 6 [vR (some (L_ad l 0)), vI i] w QR QX := by
  refine st_X0_thingAt (sg_X0_thingAt_0 ⟨Nat.le_refl _, Nat.le_refl _, c_X0_asksPlace (fun c c2 => ⟨rfl, _, hV.xf4, ?_⟩) (fun c => ⟨rfl, h2 (fun z => ?_)⟩)⟩)
  · obtain ⟨t, ht, rfl⟩ := inR_n (inR_lt.mpr ⟨c, c2⟩)
    exact ⟨_, x_th hV hX hI ht, h1 t ht rfl⟩
  · obtain ⟨z1, z2⟩ := inR_lt.mp z
    exact c.elim z1 (fun y => y z2)
theorem x_cka (hV : V (l, x, m, sc) w) (hX : XP x a P D) (hI : PI P) (ht : t < 20) (hn : ¬ P_kind P t = -1) {cs : List Nat} (h : ciK (P_kind P t) ∈ cs) : ck w (a.1 t) cs := by
  rcases hI.k ht with z | z | z
  · exact absurd z hn
  · rw [z] at h
    exact x_bck hV hX ht z h
  · exact x_ck hV hX ht ⟨z, h⟩
theorem ci_nf (hI : PI P) (ht : t < 20) (hn : ¬ P_kind P t = -1) (h : ¬ fK (P_kind P t)) : ciK (P_kind P t) ∈ [6, 7, 8] := by
  rcases hI.k ht with z | z | z
  · exact absurd z hn
  · rw [z]; decide
  · rcases z with z | z | z
    · exact absurd z h
    · rw [z]; decide
    · rw [z]; decide
theorem ci_ns (hI : PI P) (ht : t < 20) (hn : ¬ P_kind P t = -1) (h : ¬ sK (P_kind P t)) : ciK (P_kind P t) ∈ [4, 5, 8] := by
  rcases hI.k ht with z | z | z
  · exact absurd z hn
  · rw [z]; decide
  · rcases z with (z | z) | z
    · rw [z]; decide
    · rw [z]; decide
    · exact absurd z h
theorem k_nh (hI : PI P) (ht : t < 20) (hn : ¬ P_kind P t = -1) (h : ¬ hK (P_kind P t)) : P_kind P t = 4 := by
  rcases hI.k ht with z | z | z
  · exact absurd z hn
  · exact z
  · exact absurd z h
theorem ask_out {i j : Int32} (h : ¬ inR i) : ask P i j = -12 := by
  unfold ask thr
  rw [if_neg h, if_neg (by decide)]
theorem ask_none {j : Int32} (ht : t < 20) (h : P_kind P t = -1) : ask P (nI t) j = -11 := by
  unfold ask thr
  rw [if_pos (n_inR ht), kdI_n ht, if_pos h, if_neg (by decide)]
theorem ask_bad {j : Int32} (ht : t < 20) (h : ¬ P_kind P t = -1) (h2 : ¬ uKd (P_kind P t) j) : ask P (nI t) j = -13 := by
  unfold ask thr
  rw [if_pos (n_inR ht), kdI_n ht, if_neg h, if_pos rfl, if_neg h2]
theorem ask_ok {j : Int32} (ht : t < 20) (h : ¬ P_kind P t = -1) (h2 : uKd (P_kind P t) j) : ask P (nI t) j = 0 := by
  unfold ask thr
  rw [if_pos (n_inR ht), kdI_n ht, if_neg h, if_pos rfl, if_pos h2]
theorem askS_out {i : Int32} (h : ¬ inR i) : askS P i = -12 := by
  unfold askS thr
  rw [if_neg h, if_neg (by decide)]
theorem askS_none (ht : t < 20) (h : P_kind P t = -1) : askS P (nI t) = -11 := by
  unfold askS thr
  rw [if_pos (n_inR ht), kdI_n ht, if_pos h, if_neg (by decide)]
theorem askS_bad (ht : t < 20) (h : ¬ P_kind P t = -1) (h2 : ¬ hK (P_kind P t)) : askS P (nI t) = -13 := by
  unfold askS thr
  rw [if_pos (n_inR ht), kdI_n ht, if_neg h, if_pos rfl, if_neg h2]
theorem askS_ok (ht : t < 20) (h2 : hK (P_kind P t)) : askS P (nI t) = 0 := by
  unfold askS thr
  rw [if_pos (n_inR ht), kdI_n ht, if_neg (hK_m1 h2), if_pos rfl, if_pos h2]
theorem c_X0_madeOf (hV : V (l, x, m, sc) w) (hX : XP x a P D) (hI : PI P) (ht : t < 20) (hn : ¬ P_kind P t = -1) (h : QR (some (vI (P_made P t))) w) : ct KX0_madeOf 0 0 [vR (some (a.1 t))] w QR QX := by
  refine st_X0_madeOf (sg_X0_madeOf_0 ⟨_, rfl, ?_⟩)
  by_cases c : hK (P_kind P t)
  · exact Or.inr ⟨x_ck hV hX ht (cI_h c), x_ck hV hX ht (cI_h c), _, x_made hV hX ht (cI_h c), h⟩
  · have c4 := k_nh hI ht hn c
    exact Or.inl ⟨x_bck hV hX ht c4 (by decide), x_bck hV hX ht c4 (by decide), _, x_bm hV hX ht c4, h⟩
theorem c_X5_kind {q : Nat} (h : QR (some (vI 0)) w) : ct KX5_kind 0 0 [vR (some q)] w QR QX := st_X5_kind (sg_X5_kind_0 h)
theorem c_X7_kind {q : Nat} (h : QR (some (vI 2)) w) : ct KX7_kind 0 0 [vR (some q)] w QR QX := st_X7_kind (sg_X7_kind_0 h)
theorem c_X0_kindOf (hV : V (l, x, m, sc) w) (hX : XP x a P D) (hI : PI P) (ht : t < 20) (hn : ¬ P_kind P t = -1) (h : QR (some (vI (P_kind P t))) w) : ct KX0_kindOf 0 0 [vR (some (a.1 t))] w QR QX := by
  refine st_X0_kindOf (sg_X0_kindOf_0 ⟨_, rfl, ?_⟩)
  by_cases c : hK (P_kind P t)
  · refine Or.inr ⟨x_ck hV hX ht (cI_h c), x_ck hV hX ht (cI_h c), ?_⟩
    rcases id c with (z | z) | (z | z)
    · have o := x_O hV hX ht c (c := 4) (by rw [z]; decide)
      rw [z] at h
      exact Or.inl ⟨o, c_X5_kind ⟨_, rfl, h⟩⟩
    · have o := x_O hV hX ht c (c := 5) (by rw [z]; decide)
      rw [z] at h
      exact Or.inr (Or.inl ⟨o, st_X6_kind (sg_X6_kind_0 ⟨o, c_X5_kind ⟨_, rfl, ⟨_, rfl, h⟩⟩⟩)⟩)
    · have o := x_O hV hX ht c (c := 6) (by rw [z]; decide)
      rw [z] at h
      exact Or.inr (Or.inr (Or.inl ⟨o, c_X7_kind ⟨_, rfl, h⟩⟩))
    · have o := x_O hV hX ht c (c := 7) (by rw [z]; decide)
      rw [z] at h
      exact Or.inr (Or.inr (Or.inr ⟨o, st_X8_kind (sg_X8_kind_0 ⟨o, c_X7_kind ⟨_, rfl, ⟨_, rfl, h⟩⟩⟩)⟩))
  · have c4 := k_nh hI ht hn c
    rw [c4] at h
    exact Or.inl ⟨x_bck hV hX ht c4 (by decide), h⟩
theorem c_X0_holderAt (hV : V (l, x, m, sc) w) (hX : XP x a P D) (hI : PI P) {i : Int32} (h1 : ∀ t, t < 20 → i = nI t → hK (P_kind P t) → QR (some (vR (some (a.1 t)))) w) (h2 : ¬ hK (kdI P i) → QR (some (vR none)) w) : ct KX0_holderAt 0 0 [vR (some (L_ad l 0)), vI i] w QR QX := by
  refine st_X0_holderAt (sg_X0_holderAt_0 (c_X0_inI 0 19 (by decide) (by decide) ⟨_, rfl, fun c => ?_, fun c => ?_⟩))
  · refine h2 ?_
    rw [kdI_o (b2i_0.mp c)]
    decide
  · obtain ⟨t, ht, rfl⟩ := inR_n (b2i_n0.mp c)
    refine ⟨_, hV.xf4, _, x_th hV hX hI ht, fun e => ?_, fun q e => ?_⟩
    · refine h2 ?_
      rw [kdI_n ht, thO_none e]
      decide
    · obtain ⟨hn, rfl⟩ := thO_some e
      by_cases ch : hK (P_kind P t)
      · exact Or.inl ⟨x_ck hV hX ht (cI_h ch), _, hV.xf4, _, x_th hV hX hI ht, _, e, x_ck hV hX ht (cI_h ch), h1 t ht rfl ch⟩
      · refine Or.inr ⟨x_bck hV hX ht (k_nh hI ht hn ch) (by decide), h2 ?_⟩
        rw [kdI_n ht]
        exact ch
theorem c_X0_holderAt_n (hV : V (l, x, m, sc) w) (hX : XP x a P D) (hI : PI P) (ht : t < 20) (h1 : hK (P_kind P t) → QR (some (vR (some (a.1 t)))) w) (h2 : ¬ hK (P_kind P t) → QR (some (vR none)) w) : ct KX0_holderAt 0 0 [vR (some (L_ad l 0)), vI (nI t)] w QR QX := by
  refine c_X0_holderAt hV hX hI (fun u hu e hk => ?_) (fun hk => h2 (by rw [kdI_n ht] at hk; exact hk))
  have := (nI_eq (by omega) (by omega)).mp e
  subst this
  exact h1 hk
theorem c_X0_snapshotAt (hV : V (l, x, m, sc) w) (hX : XP x a P D) (hI : PI P) {i : Int32} (h1 : ∀ t, t < 20 → i = nI t → sK (P_kind P t) → QR (some (vR (some (a.1 t)))) w) (h2 : ¬ sK (kdI P i) → QR (some (vR none)) w) : ct KX0_snapshotAt 0 0 [vR (some (L_ad l 0)), vI i] w QR QX := by
  refine st_X0_snapshotAt (sg_X0_snapshotAt_0 (c_X0_inI 0 19 (by decide) (by decide) ⟨_, rfl, fun c => ?_, fun c => ?_⟩))
  · refine h2 ?_
    rw [kdI_o (b2i_0.mp c)]
    decide
  · obtain ⟨t, ht, rfl⟩ := inR_n (b2i_n0.mp c)
    refine ⟨_, hV.xf4, _, x_th hV hX hI ht, fun e => ?_, fun q e => ?_⟩
    · refine h2 ?_
      rw [kdI_n ht, thO_none e]
      decide
    · obtain ⟨hn, rfl⟩ := thO_some e
      by_cases ch : sK (P_kind P t)
      · exact Or.inl ⟨x_ck hV hX ht (cI_s ch), _, hV.xf4, _, x_th hV hX hI ht, _, e, x_ck hV hX ht (cI_s ch), h1 t ht rfl ch⟩
      · refine Or.inr ⟨x_cka hV hX hI ht hn (ci_ns hI ht hn ch), h2 ?_⟩
        rw [kdI_n ht]
        exact ch
theorem c_X0_snapshotAt_n (hV : V (l, x, m, sc) w) (hX : XP x a P D) (hI : PI P) (ht : t < 20) (h1 : sK (P_kind P t) → QR (some (vR (some (a.1 t)))) w) (h2 : ¬ sK (P_kind P t) → QR (some (vR none)) w) : ct KX0_snapshotAt 0 0 [vR (some (L_ad l 0)), vI (nI t)] w QR QX := by
  refine c_X0_snapshotAt hV hX hI (fun u hu e hk => ?_) (fun hk => h2 (by rw [kdI_n ht] at hk; exact hk))
  have := (nI_eq (by omega) (by omega)).mp e
  subst this
  exact h1 hk
/-- the number of a thing, or none -/
theorem c_X0_numberOf (hV : V (l, x, m, sc) w) (hX : XP x a P D) {v : Int32} (hv : v = -1 ∨ ∃ p : Nat, p < 20 ∧ v = nI p ∧ hK (P_kind P p)) (h : QR (some (vI v)) w) : ct KX0_numberOf 0 0 [vR (pO a v)] w QR QX := by
  rcases hv with rfl | ⟨p, hp, rfl, hs⟩
  · rw [pO_m rfl]
    exact st_X0_numberOf (sg_X0_numberOf_0 ⟨fun _ => h, fun q e => by cases e⟩)
  · rw [pO_n rfl hp]
    refine st_X0_numberOf (sg_X0_numberOf_0 ⟨fun e => (by cases e), fun q e => ?_⟩)
    cases e
    exact ⟨_, x_num hV hX hp (cI_h hs), h⟩
theorem lp_leastThing (hV : V (l, x, m, sc) w) (hX : XP x a P D) (hI : PI P) (h : QR (some (vI (if lT P = 20 then -1 else nI (lT P)))) w) : ∀ n k, k + n = 20 → lst (fun t => P_kind P t = -1) n k = lT P → wp KX0_leastThing rc rs QR QX 2 [(0, vR (some (L_ad l 0))), (1, vI (nI k))] [] w := by
  intro n
  induction n with
  | zero =>
    intro k hk hl
    refine sg_X0_leastThing_2 (lpc (N := 20) rfl (by decide) hk (fun _ => ?_) (fun m e => by omega))
    have e : lT P = 20 := by
      rw [← hl]
      show k = 20
      omega
    rwa [if_pos e] at h
  | succ n ih =>
    intro k hk hl
    refine sg_X0_leastThing_2 (lpc (N := 20) rfl (by decide) hk (fun e => by omega) (fun m e hk2 => ⟨_, hV.xf4, _, x_th hV hX hI hk2, fun c => ?_, fun q c => ?_⟩))
    · have c1 := thO_none c
      rw [lst_t (p := fun t => P_kind P t = -1) c1] at hl
      rw [← hl, if_neg (by omega)] at h
      exact h
    · obtain ⟨c1, -⟩ := thO_some c
      rw [lst_f (p := fun t => P_kind P t = -1) c1] at hl
      rw [nI_1]
      exact ih (k + 1) (by omega) hl
theorem c_X0_leastThing (hV : V (l, x, m, sc) w) (hX : XP x a P D) (hI : PI P) (h : QR (some (vI (if lT P = 20 then -1 else nI (lT P)))) w) : ct KX0_leastThing 0 0 [vR (some (L_ad l 0))] w QR QX :=
  st_X0_leastThing (sg_X0_leastThing_0 (lp_leastThing hV hX hI h 20 0 rfl rfl))
/-- sizes are none or more -/
def SZ (P : PT) : Prop := ∀ b, b < 96 → ¬ P_size P b < 0
theorem SZ.e (h : SZ P) {b : Nat} (hb : b < 96) : P_size P b = 0 ↔ P_size P b ≤ 0 := by
  constructor
  · intro e
    rw [e]
    exact Int32.le_refl 0
  · intro e
    have := h b hb
    exact Int32.le_antisymm e (Int32.not_lt.mp this)
theorem lp_leastBlock (hV : V (l, x, m, sc) w) (hX : XP x a P D) (hZ : SZ P) (h : QR (some (vI (if lB P = 96 then -1 else nI (lB P)))) w) : ∀ n k, k + n = 96 → lst (fun b => P_size P b ≤ 0) n k = lB P → wp KX0_leastBlock rc rs QR QX 2 [(0, vR (some (L_ad l 0))), (1, vI (nI k))] [] w := by
  intro n
  induction n with
  | zero =>
    intro k hk hl
    refine sg_X0_leastBlock_2 (lpc (N := 96) rfl (by decide) hk (fun _ => ?_) (fun m e => by omega))
    have e : lB P = 96 := by
      rw [← hl]
      show k = 96
      omega
    rwa [if_pos e] at h
  | succ n ih =>
    intro k hk hl
    refine sg_X0_leastBlock_2 (lpc (N := 96) rfl (by decide) hk (fun e => by omega) (fun m e hk2 => ⟨_, hV.xf0, _, x_size hV hX hk2, fun c => ?_, fun c => ?_⟩))
    · rw [lst_f (p := fun b => P_size P b ≤ 0) (fun z => c ((hZ.e hk2).mpr z))] at hl
      rw [nI_1]
      exact ih (k + 1) (by omega) hl
    · rw [lst_t (p := fun b => P_size P b ≤ 0) ((hZ.e hk2).mp c)] at hl
      rw [← hl, if_neg (by omega)] at h
      exact h
theorem c_X0_leastBlock (hV : V (l, x, m, sc) w) (hX : XP x a P D) (hZ : SZ P) (h : QR (some (vI (if lB P = 96 then -1 else nI (lB P)))) w) : ct KX0_leastBlock 0 0 [vR (some (L_ad l 0))] w QR QX :=
  st_X0_leastBlock (sg_X0_leastBlock_0 (lp_leastBlock hV hX hZ h 96 0 rfl rfl))
theorem pO_eq (hX : XP x a P D) (hI : PI P) (ht : t < 20) (hk : hK (P_kind P t)) {s : Nat} (hs : s < 20) (hks : sK (P_kind P s)) : pO a (P_prev P t) = some (a.1 s) ↔ P_prev P t = nI s := by
  constructor
  · intro e
    rcases hI.p ht hk with z | ⟨p, hp, z, hsp⟩
    · rw [pO_m z] at e
      cases e
    · rw [pO_n z hp] at e
      rw [z, hX.inj hp hs (Or.inr hsp) (Or.inr hks) (Option.some.inj e)]
  · intro e
    exact pO_n e hs
theorem lp_nextMany (hV : V (l, x, m, sc) w) (hX : XP x a P D) (hI : PI P) {s : Nat} (hs : s < 20) (hks : sK (P_kind P s)) (h : QR (some (vI (nI (nNx P (nI s))))) w) : ∀ n k, k + n = 20 → wp KX0_nextMany rc rs QR QX 4 [(0, vR (some (L_ad l 0))), (1, vR (some (a.1 s))), (2, vI (nI (cn (fun t => hK (P_kind P t) ∧ P_prev P t = nI s) k))), (3, vI (nI k))] [] w := by
  intro n
  induction n with
  | zero =>
    intro k hk
    refine sg_X0_nextMany_4 (lpc (N := 20) rfl (by decide) hk (fun _ => ?_) (fun m e => by omega))
    have : k = 20 := by omega
    subst this
    exact h
  | succ n ih =>
    intro k hk
    have ih1 := ih (k + 1) (by omega)
    refine sg_X0_nextMany_4 (lpc (N := 20) rfl (by decide) hk (fun e => by omega) (fun m e hk2 => ⟨hV.xO, c_X0_holderAt_n hV hX hI hk2 (fun c => ⟨_, rfl, fun e => (by cases e), fun q e => ⟨hV.xO, c_X0_holderAt_n hV hX hI hk2 (fun _ => ⟨_, rfl, _, rfl, _, x_prev hV hX hk2 (cI_h c), fun c2 => ?_, fun c2 => ?_⟩) (fun z => absurd c z)⟩⟩) (fun c => ⟨_, rfl, fun e => ?_, fun q e => (by cases e)⟩)⟩))
    · rw [cn_f (p := fun t => hK (P_kind P t) ∧ P_prev P t = nI s) (fun z => c2 ((pO_eq hX hI hk2 c hs hks).mpr z.2))] at ih1
      rw [nI_1, i_0]
      exact ih1
    · rw [cn_t (p := fun t => hK (P_kind P t) ∧ P_prev P t = nI s) ⟨c, (pO_eq hX hI hk2 c hs hks).mp c2⟩] at ih1
      rw [nI_1, nI_1]
      exact ih1
    · rw [cn_f (p := fun t => hK (P_kind P t) ∧ P_prev P t = nI s) (fun z => c z.1)] at ih1
      rw [nI_1, i_0]
      exact ih1
theorem c_X0_nextMany (hV : V (l, x, m, sc) w) (hX : XP x a P D) (hI : PI P) {s : Nat} (hs : s < 20) (hks : sK (P_kind P s)) (h : QR (some (vI (nI (nNx P (nI s))))) w) : ct KX0_nextMany 0 0 [vR (some (L_ad l 0)), vR (some (a.1 s))] w QR QX :=
  st_X0_nextMany (sg_X0_nextMany_0 (lp_nextMany hV hX hI hs hks h 20 0 rfl))
/-- the first whose prev it is -/
noncomputable def nxO (P : PT) (s : Nat) : Nat := lst (fun t => hK (P_kind P t) ∧ P_prev P t = nI s) 20 0
theorem lp_nextOf (hV : V (l, x, m, sc) w) (hX : XP x a P D) (hI : PI P) {s : Nat} (hs : s < 20) (hks : sK (P_kind P s)) (h : nxO P s < 20 → QR (some (vR (some (a.1 (nxO P s))))) w) (h0 : nxO P s = 20 → QR (some (vR none)) w) : ∀ n k, k + n = 20 → lst (fun t => hK (P_kind P t) ∧ P_prev P t = nI s) n k = nxO P s → wp KX0_nextOf rc rs QR QX 2 [(0, vR (some (L_ad l 0))), (1, vR (some (a.1 s))), (2, vI (nI k))] [] w := by
  intro n
  induction n with
  | zero =>
    intro k hk hl
    refine sg_X0_nextOf_2 (lpc (N := 20) rfl (by decide) hk (fun _ => h0 ?_) (fun m e => by omega))
    rw [← hl]
    show k = 20
    omega
  | succ n ih =>
    intro k hk hl
    refine sg_X0_nextOf_2 (lpc (N := 20) rfl (by decide) hk (fun e => by omega) (fun m e hk2 => ⟨hV.xO, c_X0_holderAt_n hV hX hI hk2 (fun c => ⟨_, rfl, fun e => (by cases e), fun q e => ?_⟩) (fun c => ⟨_, rfl, fun e => ?_, fun q e => (by cases e)⟩)⟩))
    · cases e
      refine ⟨_, x_prev hV hX hk2 (cI_h c), fun c2 => ?_, fun c2 => ?_⟩
      · rw [lst_f (p := fun t => hK (P_kind P t) ∧ P_prev P t = nI s) (fun z => c2 ((pO_eq hX hI hk2 c hs hks).mpr z.2))] at hl
        rw [nI_1]
        exact ih (k + 1) (by omega) hl
      · rw [lst_t (p := fun t => hK (P_kind P t) ∧ P_prev P t = nI s) ⟨c, (pO_eq hX hI hk2 c hs hks).mp c2⟩] at hl
        rw [hl]
        exact h (by rw [← hl]; exact hk2)
    · rw [lst_f (p := fun t => hK (P_kind P t) ∧ P_prev P t = nI s) (fun z => c z.1)] at hl
      rw [nI_1]
      exact ih (k + 1) (by omega) hl
theorem c_X0_nextOf (hV : V (l, x, m, sc) w) (hX : XP x a P D) (hI : PI P) {s : Nat} (hs : s < 20) (hks : sK (P_kind P s)) (h : nxO P s < 20 → QR (some (vR (some (a.1 (nxO P s))))) w) (h0 : nxO P s = 20 → QR (some (vR none)) w) : ct KX0_nextOf 0 0 [vR (some (L_ad l 0)), vR (some (a.1 s))] w QR QX :=
  st_X0_nextOf (sg_X0_nextOf_0 (lp_nextOf hV hX hI hs hks h h0 20 0 rfl rfl))
theorem oO_eq (hX : XP x a P D) (hI : PI P) (ht : t < 20) (hk : sK (P_kind P t)) {f : Nat} (hf : f < 20) (hkf : hK (P_kind P f)) : ∃ o : Nat, (∀ (w : aW) (l : LT) (m : MT) (sc : Nat × (Nat → Int32)) (cs : List Nat), V (l, x, m, sc) w → cIn (P_kind P t) cs → gf w (a.1 t) cs 6 (vR (some (a.1 o)))) ∧ o < 20 ∧ fK (P_kind P o) ∧ P_owner P t = nI o ∧ (some (a.1 o) = some (a.1 f) ↔ P_owner P t = nI f) := by
  obtain ⟨o, ho, e, hko⟩ := hI.o ht hk
  refine ⟨o, fun w l m sc cs hV hc => x_owner hV hX ht hk hc ho e, ho, hko, e, fun z => ?_, fun z => ?_⟩
  · rw [e, hX.inj ho hf (Or.inl hko) hkf (Option.some.inj z)]
  · rw [(nI_eq (by omega) (by omega)).mp (e.symm.trans z)]
theorem lp_ownMany (hV : V (l, x, m, sc) w) (hX : XP x a P D) (hI : PI P) {f : Nat} (hf : f < 20) (hkf : hK (P_kind P f)) (h : QR (some (vI (nI (nOw P (nI f))))) w) : ∀ n k, k + n = 20 → wp KX0_ownMany rc rs QR QX 4 [(0, vR (some (L_ad l 0))), (1, vR (some (a.1 f))), (2, vI (nI (cn (fun t => sK (P_kind P t) ∧ P_owner P t = nI f) k))), (3, vI (nI k))] [] w := by
  intro n
  induction n with
  | zero =>
    intro k hk
    refine sg_X0_ownMany_4 (lpc (N := 20) rfl (by decide) hk (fun _ => ?_) (fun m e => by omega))
    have : k = 20 := by omega
    subst this
    exact h
  | succ n ih =>
    intro k hk
    have ih1 := ih (k + 1) (by omega)
    refine sg_X0_ownMany_4 (lpc (N := 20) rfl (by decide) hk (fun e => by omega) (fun m e hk2 => ⟨hV.xO, c_X0_snapshotAt_n hV hX hI hk2 (fun c => ⟨_, rfl, fun e => (by cases e), fun q e => ⟨hV.xO, c_X0_snapshotAt_n hV hX hI hk2 (fun _ => ?_) (fun z => absurd c z)⟩⟩) (fun c => ⟨_, rfl, fun e => ?_, fun q e => (by cases e)⟩)⟩))
    · obtain ⟨o, o1, o2, o3, o4, o5⟩ := oO_eq hX hI hk2 c hf hkf
      refine ⟨_, rfl, _, rfl, _, o1 _ _ _ _ _ hV (cI_s c), fun c2 => ?_, fun c2 => ?_⟩
      · rw [cn_f (p := fun t => sK (P_kind P t) ∧ P_owner P t = nI f) (fun z => c2 (o5.mpr z.2))] at ih1
        rw [nI_1, i_0]
        exact ih1
      · rw [cn_t (p := fun t => sK (P_kind P t) ∧ P_owner P t = nI f) ⟨c, o5.mp c2⟩] at ih1
        rw [nI_1, nI_1]
        exact ih1
    · rw [cn_f (p := fun t => sK (P_kind P t) ∧ P_owner P t = nI f) (fun z => c z.1)] at ih1
      rw [nI_1, i_0]
      exact ih1
theorem c_X0_ownMany (hV : V (l, x, m, sc) w) (hX : XP x a P D) (hI : PI P) {f : Nat} (hf : f < 20) (hkf : hK (P_kind P f)) (h : QR (some (vI (nI (nOw P (nI f))))) w) : ct KX0_ownMany 0 0 [vR (some (L_ad l 0)), vR (some (a.1 f))] w QR QX :=
  st_X0_ownMany (sg_X0_ownMany_0 (lp_ownMany hV hX hI hf hkf h 20 0 rfl))
def oA (a : AT) (o : Option Nat) : Option Nat := match o with
  | none => none
  | some i => some (a.1 i)
theorem Ch.pO {y : Int32} {L : List Nat} (h : Ch P y L) : pO a y = oA a L.head? := by
  cases L with
  | nil => exact pO_m h
  | cons i L => exact pO_n h.1 h.2.1
theorem lp_originOfX (hV : V (l, x, m, sc) w) (hX : XP x a P D) (hI : PI P) {f : Nat} (hf : f < 20) (hkf : hK (P_kind P f)) : ∀ (L : List Nat) (y : Int32), CS P L → Ch P y L → QR (some (vR (oA a (orig P (nI f) L)))) w → wp KX0_originOf rc rs QR QX 5 [(0, vR (some (a.1 f))), (1, vR (pO a y))] [] w := by
  intro L
  induction L with
  | nil =>
    intro y _ hy h
    rw [hy.pO]
    exact sg_X0_originOf_5 ⟨fun _ => h, fun q e => (by cases e)⟩
  | cons i L ih =>
    intro y hcs hy h
    rw [hy.pO]
    obtain ⟨hi, hs⟩ := hcs i (List.mem_cons_self ..)
    obtain ⟨o, o1, o2, o3, o4, o5⟩ := oO_eq hX hI hi hs hf hkf
    refine sg_X0_originOf_5 ⟨fun e => (by cases e), fun q e => ?_⟩
    have e' : q = a.1 i := (Option.some.inj e).symm
    subst e'
    refine ⟨_, o1 _ _ _ _ _ hV (cI_s hs), fun c => ?_, fun c => ⟨_, x_prev hV hX hi (cI_s hs), ?_⟩⟩
    · rw [orig_f (fun z => c (o5.mpr z))] at h
      exact h
    · rw [orig_t (o5.mp c)] at h
      exact ih _ (fun j hj => hcs j (List.mem_cons_of_mem _ hj)) hy.2.2 h
theorem PI.cs (hI : PI P) (ht : t < 20) (hk : hK (P_kind P t)) {L : List Nat} (hc : Ch P (P_prev P t) L) : CS P L := Ch.cs hI L _ (hI.p ht hk) hc
theorem c_X0_originOf (hV : V (l, x, m, sc) w) (hX : XP x a P D) (hI : PI P) {f : Nat} (hf : f < 20) (hkf : fK (P_kind P f)) {L : List Nat} (hc : Ch P (P_prev P f) L) (h : QR (some (vR (oA a (orig P (nI f) L)))) w) : ct KX0_originOf 1 8 [vR (some (a.1 f))] w QR QX := by
  refine st_X0_originOf (sg_X0_originOf_0 ⟨fun e => (by cases e), fun q e => ?_⟩)
  cases e
  exact ⟨_, x_prev hV hX hf (cI_f hkf), lp_originOfX hV hX hI hf (Or.inl hkf) L _ (hI.cs hf (Or.inl hkf) hc) hc h⟩
theorem lp_spaceOfX (hV : V (l, x, m, sc) w) (hX : XP x a P D) (hO : SO P) (ht : t < 20) (hk : hK (P_kind P t)) (h : QR (some (vL (spS P t))) w) : ∀ n k, k + n = 12 → wp KX0_spaceOf rc rs QR QX 5 [(0, vR (some (L_ad l 0))), (1, vR (some (a.1 t))), (2, vL (sm (fun k => szO P (P_slot P t k)) k)), (4, vI (nI k))] [] w := by
  intro n
  induction n with
  | zero =>
    intro k hk
    refine sg_X0_spaceOf_5 (lpc (N := 12) rfl (by decide) hk (fun _ => ?_) (fun m e => by omega))
    have : k = 12 := by omega
    subst this
    exact h
  | succ n ih =>
    intro k hk3
    refine sg_X0_spaceOf_5 (lpc (N := 12) rfl (by decide) hk3 (fun e => by omega) (fun m e hk2 => ⟨fun e => (by cases e), fun q e => ?_⟩))
    cases e
    refine ⟨_, x_sa hV hX ht (cI_h hk), _, x_slot hV hX ht hk hk2, fun c => ?_, fun c => ?_⟩
    · rcases hO t k ht hk2 with z | ⟨b, hb, z⟩
      · exact absurd z c
      · have e2 : sm (fun k => szO P (P_slot P t k)) (k + 1) = sm (fun k => szO P (P_slot P t k)) k + (P_size P b).toInt64 := by
          show _ + szO P (P_slot P t k) = _
          rw [z, szO_n hb]
        have := ih (k + 1) (by omega)
        rw [e2] at this
        rw [nI_1]
        exact ⟨_, hV.xf0, _, x_sa hV hX ht (cI_h hk), _, x_slot hV hX ht hk hk2, _, by rw [z]; exact x_size hV hX hb, this⟩
    · have e2 : sm (fun k => szO P (P_slot P t k)) (k + 1) = sm (fun k => szO P (P_slot P t k)) k + 0 := by
        show _ + szO P (P_slot P t k) = _
        rw [c]
        rfl
      have := ih (k + 1) (by omega)
      rw [e2] at this
      rw [nI_1]
      exact this
theorem c_X0_spaceOf (hV : V (l, x, m, sc) w) (hX : XP x a P D) (hO : SO P) (ht : t < 20) (hk : hK (P_kind P t)) (h : QR (some (vL (spS P t))) w) : ct KX0_spaceOf 1 8 [vR (some (L_ad l 0)), vR (some (a.1 t))] w QR QX :=
  st_X0_spaceOf (sg_X0_spaceOf_0 (lp_spaceOfX hV hX hO ht hk h 12 0 rfl))
/-- a block that died later: by birth, of one birth the lower number -/
def lat (P : PT) (b c : Nat) : Prop := P_birth P c < P_birth P b ∨ (P_birth P b = P_birth P c ∧ b < c)
theorem c_X0_isLater (hV : V (l, x, m, sc) w) (hX : XP x a P D) {b c : Nat} (hb : b < 96) (hc : c < 96) (h : QR (some (vI (bI (lat P b c)))) w) : ct KX0_isLater 0 0 [vR (some (L_ad l 0)), vI (nI b), vI (nI c)] w QR QX := by
  unfold lat at h
  refine st_X0_isLater (sg_X0_isLater_0 ⟨_, hV.xf1, _, x_birth hV hX hb, _, hV.xf1, _, x_birth hV hX hc, fun z => ?_, fun z => ⟨_, hV.xf1, _, x_birth hV hX hb, _, hV.xf1, _, x_birth hV hX hc, fun z2 => ?_, fun z2 => ⟨fun z3 => ?_, fun z3 => ?_⟩⟩⟩)
  · rwa [bI_t (Or.inl z)] at h
  · rwa [bI_f (fun y => y.elim z (fun y => z2 y.1))] at h
  · rwa [bI_f (fun y => y.elim z (fun y => nI_ge y.2 (by omega) z3))] at h
  · rw [bI_t (Or.inr ⟨z2, Classical.byContradiction (fun y => z3 (nI_le (by omega) (by omega)))⟩)] at h
    exact h
/-! holders -/
theorem c_X4_prevMade (hV : V (l, x, m, sc) w) (hX : XP x a P D) (hI : PI P) (ht : t < 20) (hk : hK (P_kind P t)) (h : QR (some (vI (pm P t))) w) : ct KX4_prevMade 0 0 [vR (some (a.1 t))] w QR QX := by
  rcases hI.p ht hk with e | ⟨p, hp, e, hs⟩
  · rw [pm_m e] at h
    exact st_X4_prevMade (sg_X4_prevMade_0 ⟨_, x_prevN hV hX ht (cI_h hk) e, fun _ => h, fun q z => (by cases z)⟩)
  · rw [pm_n hp e] at h
    exact st_X4_prevMade (sg_X4_prevMade_0 ⟨_, x_prevS hV hX ht (cI_h hk) hp e, fun z => (by cases z), fun q z => ⟨_, x_prevS hV hX ht (cI_h hk) hp e, _, rfl, _, x_made hV hX hp (cI_s hs), h⟩⟩)
theorem lp_holds (hV : V (l, x, m, sc) w) (hX : XP x a P D) (ht : t < 20) (hk : hK (P_kind P t)) {b : Int32} (h : QR (some (vI (bI (held P t b)))) w) : ∀ n k, k + n = 12 → (∀ i, i < k → ¬ P_slot P t i = b) → wp KX4_holds rc rs QR QX 2 [(0, vR (some (a.1 t))), (1, vI b), (2, vI (nI k))] [] w := by
  intro n
  induction n with
  | zero =>
    intro k hk3 hn
    refine sg_X4_holds_2 (lpc (N := 12) rfl (by decide) hk3 (fun _ => ?_) (fun m e => by omega))
    rw [bI_f (fun z => by obtain ⟨i, hi, e⟩ := z; exact hn i (by omega) e)] at h
    exact h
  | succ n ih =>
    intro k hk3 hn
    refine sg_X4_holds_2 (lpc (N := 12) rfl (by decide) hk3 (fun e => by omega) (fun m e hk2 => ⟨_, x_sa hV hX ht (cI_h hk), _, x_slot hV hX ht hk hk2, fun c => ?_, fun c => ?_⟩))
    · rw [nI_1]
      refine ih (k + 1) (by omega) (fun i hi => ?_)
      rcases Nat.lt_or_ge i k with y | y
      · exact hn i y
      · have : i = k := by omega
        subst this
        exact c
    · rw [bI_t ⟨k, hk2, c⟩] at h
      exact h
theorem c_X4_holds (hV : V (l, x, m, sc) w) (hX : XP x a P D) (ht : t < 20) (hk : hK (P_kind P t)) {b : Int32} (h : QR (some (vI (bI (held P t b)))) w) : ct KX4_holds 0 0 [vR (some (a.1 t)), vI b] w QR QX :=
  st_X4_holds (sg_X4_holds_0 (lp_holds hV hX ht hk h 12 0 rfl (fun i hi => by omega)))
theorem lp_holdsMany (hV : V (l, x, m, sc) w) (hX : XP x a P D) (ht : t < 20) (hk : hK (P_kind P t)) (h : QR (some (vI (nI (nHd P t)))) w) : ∀ n k, k + n = 12 → wp KX4_holdsMany rc rs QR QX 4 [(0, vR (some (a.1 t))), (1, vI (nI (cn (fun k => hK (P_kind P t) ∧ ¬ P_slot P t k = -1) k))), (2, vI (nI k))] [] w := by
  intro n
  induction n with
  | zero =>
    intro k hk3
    refine sg_X4_holdsMany_4 (lpc (N := 12) rfl (by decide) hk3 (fun _ => ?_) (fun m e => by omega))
    have : k = 12 := by omega
    subst this
    exact h
  | succ n ih =>
    intro k hk3
    have ih1 := ih (k + 1) (by omega)
    refine sg_X4_holdsMany_4 (lpc (N := 12) rfl (by decide) hk3 (fun e => by omega) (fun m e hk2 => ⟨_, x_sa hV hX ht (cI_h hk), _, x_slot hV hX ht hk hk2, fun c => ?_, fun c => ?_⟩))
    · rw [cn_t (p := fun k => hK (P_kind P t) ∧ ¬ P_slot P t k = -1) ⟨hk, c⟩] at ih1
      rw [nI_1, nI_1]
      exact ih1
    · rw [cn_f (p := fun k => hK (P_kind P t) ∧ ¬ P_slot P t k = -1) (fun z => z.2 c)] at ih1
      rw [nI_1, i_0]
      exact ih1
theorem c_X4_holdsMany (hV : V (l, x, m, sc) w) (hX : XP x a P D) (ht : t < 20) (hk : hK (P_kind P t)) (h : QR (some (vI (nI (nHd P t)))) w) : ct KX4_holdsMany 0 0 [vR (some (a.1 t))] w QR QX :=
  st_X4_holdsMany (sg_X4_holdsMany_0 (lp_holdsMany hV hX ht hk h 12 0 rfl))
theorem c_X4_tags {q : Nat} (h : QR (some (vI 0)) w) : ct KX4_tags 0 0 [vR (some q)] w QR QX := st_X4_tags (sg_X4_tags_0 h)
theorem c_X4_quota {q : Nat} (h : QR (some (vI (-1))) w) : ct KX4_quota 0 0 [vR (some q)] w QR QX := st_X4_quota (sg_X4_quota_0 h)
theorem c_X8_tags (hV : V (l, x, m, sc) w) (hX : XP x a P D) (ht : t < 20) (hk : P_kind P t = 3) (h : QR (some (vI (P_tags P t))) w) : ct KX8_tags 0 0 [vR (some (a.1 t))] w QR QX :=
  st_X8_tags (sg_X8_tags_0 ⟨_, x_tags hV hX ht hk (cI_3 hk), h⟩)
theorem c_X6_quota (hV : V (l, x, m, sc) w) (hX : XP x a P D) (ht : t < 20) (hk : P_kind P t = 1) (h : QR (some (vI (P_quota P t))) w) : ct KX6_quota 0 0 [vR (some (a.1 t))] w QR QX :=
  st_X6_quota (sg_X6_quota_0 ⟨_, x_quota hV hX ht hk (cI_1 hk), h⟩)
theorem c_X5_mayHave {q : Nat} {v : Int64} (h : QR (some (vI 1)) w) : ct KX5_mayHave 0 0 [vR (some q), vL v] w QR QX := st_X5_mayHave (sg_X5_mayHave_0 h)
theorem c_X6_mayHave (hV : V (l, x, m, sc) w) (hX : XP x a P D) (ht : t < 20) (hk : P_kind P t = 1) {v : Int64} (h : QR (some (vI (bI (¬ (P_quota P t).toInt64 < v)))) w) : ct KX6_mayHave 0 0 [vR (some (a.1 t)), vL v] w QR QX := by
  refine st_X6_mayHave (sg_X6_mayHave_0 ⟨x_O hV hX ht (Or.inl (Or.inr hk)) (by rw [hk]; decide), c_X5_mayHave ⟨_, rfl, fun c => absurd c (by decide), fun _ => ⟨_, x_quota hV hX ht hk (cI_1 hk), fun c => ?_, fun c => ?_⟩⟩⟩)
  · rwa [bI_f (fun z => z c)] at h
  · rwa [bI_t c] at h
/-- tags are none but of those tagged, quotas none but of those bound -/
def TQ (P : PT) : Prop := ∀ t, t < 20 → (¬ P_kind P t = 3 → P_kind P t = -1 ∨ P_tags P t = 0) ∧ (¬ P_kind P t = 1 → P_kind P t = -1 ∨ P_quota P t = -1) ∧ (¬ sK (P_kind P t) → P_kind P t = -1 ∨ P_owner P t = -1) ∧ (P_kind P t = 4 → P_prev P t = -1)
theorem c_X0_isLoose (hV : V (l, x, m, sc) w) (hX : XP x a P D) (hI : PI P) (hQ : TQ P) (ht : t < 20) (hk : sK (P_kind P t)) (h : QR (some (vI (bI (lsP P t)))) w) : ct KX0_isLoose 0 0 [vR (some (L_ad l 0)), vR (some (a.1 t))] w QR QX := by
  have hl := cn_le (fun t' => hK (P_kind P t') ∧ P_prev P t' = nI t) 20
  have e1 : nI (nNx P (nI t)) = 1 ↔ nNx P (nI t) = 1 := nI_eq (b := 1) (by unfold nNx; omega) (by decide)
  have f : ∀ v : Int32, v = P_tags P t → (¬ v = 0 → QR (some (vI 0)) w) ∧ (v = 0 → isO w (L_ad l 0) 0 ∧ ct (KX0_nextMany) 0 0 [vR (some (L_ad l 0)), vR (some (a.1 t))] w (fun v9 w9 => ∃ x9 : Int32, v9 = some (vI x9) ∧ (¬ x9 = 1 → QR (some (vI 0)) w9) ∧ (x9 = 1 → QR (some (vI 1)) w9)) (fun E9 w9 => False)) := by
    intro v hv
    subst hv
    refine ⟨fun c => ?_, fun c => ⟨hV.xO, c_X0_nextMany hV hX hI ht hk ⟨_, rfl, fun c2 => ?_, fun c2 => ?_⟩⟩⟩
    · rwa [bI_f (fun z => c z.1)] at h
    · rwa [bI_f (fun z => c2 (e1.mpr z.2))] at h
    · rwa [bI_t ⟨c, e1.mp c2⟩] at h
  refine st_X0_isLoose (sg_X0_isLoose_0 ⟨_, rfl, ?_⟩)
  rcases id hk with z | z
  · refine Or.inl ⟨x_O hV hX ht (Or.inr hk) (by rw [z]; decide), c_X4_tags ⟨_, rfl, f 0 ?_⟩⟩
    exact ((hQ t ht).1 (by rw [z]; decide)).elim (fun y => absurd (z.symm.trans y) (by decide)) (fun y => y.symm)
  · exact Or.inr ⟨x_O hV hX ht (Or.inr hk) (by rw [z]; decide), c_X8_tags hV hX ht z ⟨_, rfl, f _ rfl⟩⟩
end XR
