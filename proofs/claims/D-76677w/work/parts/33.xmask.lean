/-! ===== the pool's questions: told, slot, block, dead, lists, runs ===== -/
set_option maxRecDepth 100000
/-- sizes of those of a dead list born after one time, not after another -/
def dbS (P : PT) (af ti : Int32) : List Nat → Int64 → Int64
  | [], c => c
  | b :: r, c => if af < P_birth P b then (if ti < P_birth P b then dbS P af ti r (c + 0) else dbS P af ti r (c + (P_size P b).toInt64)) else c
theorem gD_drop (L : List Nat) {k : Nat} (h : k < L.length) : L.drop k = gD L k :: L.drop (k + 1) := by
  rw [List.drop_eq_getElem_cons h]
  unfold gD
  rw [List.getD_eq_getElem?_getD, List.getElem?_eq_getElem h]
  rfl
noncomputable def hoP (P : PT) (R : List Nat) (b : Int32) : Prop := ∃ t, t < 20 ∧ hK (P_kind P t) ∧ held P t b ∧ ¬ t ∈ R
/-- a snapshot's slot, counted with the newest that has it -/
noncomputable def rbT (P : PT) (R : List Nat) (s : Nat) (nw : Option Nat) (k : Nat) : Int64 := sel (¬ P_slot P s k = -1 ∧ (∀ n, nw = some n → ¬ held P n (P_slot P s k)) ∧ ¬ hoP P R (P_slot P s k)) (szs P (P_slot P s k).toNatClampNeg)
noncomputable def rbS (P : PT) (R : List Nat) : Option Nat → List Nat → Int64 → Int64
  | _, [], c => c
  | nw, s :: r, c => rbS P R (some s) r (c + sm (rbT P R s nw) 12)
noncomputable def rlS (P : PT) (D : DT) (af : Int32) : List Nat → Int64 → Int64
  | [], c => c
  | s :: r, c => rlS P D af r (c + dbS P af 2147483647 (D (nxO P s)) 0)
noncomputable def rgS (P : PT) (D : DT) (q : Nat) (R : List Nat) : Int64 := @ite Int64 (∀ s, s ∈ R → nNx P (nI s) = 1) (Classical.propDecidable _) (rlS P D (pm P q) R 0) (rbS P R none R 0)
theorem rgS_t {P : PT} {D : DT} {q : Nat} {R : List Nat} (h : ∀ s, s ∈ R → nNx P (nI s) = 1) : rgS P D q R = rlS P D (pm P q) R 0 := @if_pos _ (Classical.propDecidable _) h _ _ _
theorem rgS_f {P : PT} {D : DT} {q : Nat} {R : List Nat} (h : ¬ ∀ s, s ∈ R → nNx P (nI s) = 1) : rgS P D q R = rbS P R none R 0 := @if_neg _ (Classical.propDecidable _) h _ _ _
theorem upt_t {q : Nat} {L : List Nat} : upt q (q :: L) = some [q] := if_pos rfl
theorem upt_f {q i : Nat} {L : List Nat} (h : ¬ i = q) : upt q (i :: L) = (upt q L).map (fun r => i :: r) := if_neg h
theorem upt_sub : ∀ (L : List Nat) (q : Nat) (R : List Nat), upt q L = some R → ∀ i, i ∈ R → i ∈ L := by
  intro L
  induction L with
  | nil =>
    intro q R h
    cases h
  | cons j L ih =>
    intro q R h i hi
    by_cases e : j = q
    · subst e
      rw [upt_t] at h
      cases h
      rw [List.mem_singleton.mp hi]
      exact List.mem_cons_self ..
    · rw [upt_f e] at h
      cases h2 : upt q L with
      | none =>
        rw [h2] at h
        cases h
      | some R' =>
        rw [h2] at h
        cases h
        rcases List.mem_cons.mp hi with z | z
        · rw [z]
          exact List.mem_cons_self ..
        · exact List.mem_cons_of_mem _ (ih q R' h2 i z)
theorem upt_last : ∀ (L : List Nat) (q : Nat) (R : List Nat), upt q L = some R → q ∈ R := by
  intro L
  induction L with
  | nil =>
    intro q R h
    cases h
  | cons j L ih =>
    intro q R h
    by_cases e : j = q
    · subst e
      rw [upt_t] at h
      cases h
      exact List.mem_cons_self ..
    · rw [upt_f e] at h
      cases h2 : upt q L with
      | none =>
        rw [h2] at h
        cases h
      | some R' =>
        rw [h2] at h
        cases h
        exact List.mem_cons_of_mem _ (ih q R' h2)
theorem lst_lt {p : Nat → Prop} {N : Nat} (h : 0 < cn p N) : lst p N 0 < N := by
  obtain ⟨s1, s2, s3, s4⟩ := lst_spec p N 0
  rcases Nat.lt_or_ge (lst p N 0) N with z | z
  · exact z
  · exfalso
    have : cn p N = cn (fun _ => False) N := cn_congr (fun i hi => ⟨fun y => absurd y (s3 i (Nat.zero_le _) (by omega)), fun y => y.elim⟩)
    rw [this] at h
    have h0 : ∀ n, cn (fun _ => False) n = 0 := by
      intro n
      induction n with
      | zero => rfl
      | succ n ih => rw [cn_f (p := fun _ => False) (fun y => y)]; exact ih
    rw [h0] at h
    omega
theorem nxO_lt {P : PT} {s : Nat} (h : nNx P (nI s) = 1) : nxO P s < 20 ∧ hK (P_kind P (nxO P s)) ∧ P_prev P (nxO P s) = nI s := by
  have h1 : nxO P s < 20 := lst_lt (by unfold nNx at h; omega)
  exact ⟨h1, (lst_spec (fun t => hK (P_kind P t) ∧ P_prev P t = nI s) 20 0).2.2.2 (by unfold nxO at h1; omega)⟩
def r_aloneX (P : PT) (D : DT) (x : Int32) (S : Nat → Int64) : Int64 := if hK (kdI P x) then (if fK (kdI P x) then S x.toNatClampNeg else 0) else NOL
section XM
variable {l : LT} {x : XT} {m : MT} {sc : Nat × (Nat → Int32)} {w : aW} {a : AT} {P : PT} {D : DT} {t u : Nat} {QR : Option aV → aW → Prop} {QX : String → aW → Prop} {rc rs : Nat}
theorem c_X0_toldOfMark {v : Int32} (h : QR (some (vI (if v = 5 ∨ v = 6 ∨ v = 7 ∨ v = 9 then 0 else -1))) w) : ct KX0_toldOfMark 0 0 [vI v] w QR QX := by
  refine st_X0_toldOfMark (sg_X0_toldOfMark_0 ⟨fun c => ?_, fun c => ⟨fun c2 => ?_, fun c2 => ⟨fun c3 => ?_, fun c3 => ⟨fun c4 => ?_, fun c4 => ?_⟩⟩⟩⟩)
  · rwa [if_pos (Or.inl c)] at h
  · rwa [if_pos (Or.inr (Or.inl c2))] at h
  · rwa [if_pos (Or.inr (Or.inr (Or.inl c3)))] at h
  · rwa [if_neg (fun z => z.elim c (fun z => z.elim c2 (fun z => z.elim c3 c4)))] at h
  · rwa [if_pos (Or.inr (Or.inr (Or.inr c4)))] at h
theorem nNx_0 (hI : PI P) (ht : t < 20) (hn : ¬ sK (P_kind P t)) : nNx P (nI t) = 0 := by
  unfold nNx
  rw [cn_congr (q := fun _ => False) (fun i hi => ⟨fun y => ?_, fun y => y.elim⟩)]
  · have h0 : ∀ n, cn (fun _ => False) n = 0 := by
      intro n
      induction n with
      | zero => rfl
      | succ n ih => rw [cn_f (p := fun _ => False) (fun y => y)]; exact ih
    exact h0 20
  · rcases hI.p hi y.1 with z | ⟨p, hp, z, hs⟩
    · exact m1_ne t (by omega) (y.2.symm.trans z)
    · have := (nI_eq (by omega) (by omega)).mp (y.2.symm.trans z)
      rw [← this] at hs
      exact hn hs
theorem nOw_0 (hI : PI P) (ht : t < 20) (hn : ¬ fK (P_kind P t)) : nOw P (nI t) = 0 := by
  unfold nOw
  rw [cn_congr (q := fun _ => False) (fun i hi => ⟨fun y => ?_, fun y => y.elim⟩)]
  · have h0 : ∀ n, cn (fun _ => False) n = 0 := by
      intro n
      induction n with
      | zero => rfl
      | succ n ih => rw [cn_f (p := fun _ => False) (fun y => y)]; exact ih
    exact h0 20
  · obtain ⟨p, hp, z, hs⟩ := hI.o hi y.1
    have := (nI_eq (by omega) (by omega)).mp (y.2.symm.trans z)
    rw [← this] at hs
    exact hn hs
theorem origX_mem : ∀ (L : List Nat) (v : Int32) (o : Nat), orig P v L = some o → o ∈ L := by
  intro L
  induction L with
  | nil =>
    intro v o h
    cases h
  | cons i L ih =>
    intro v o h
    by_cases c : P_owner P i = v
    · rw [orig_t c] at h
      exact List.mem_cons_of_mem _ (ih v o h)
    · rw [orig_f c] at h
      cases h
      exact List.mem_cons_self ..
theorem oA_pO {o : Option Nat} (h : ∀ i, o = some i → i < 20) : oA a o = pO a (eO o) := by
  cases o with
  | none => exact (pO_m rfl).symm
  | some i => exact (pO_n rfl (h i rfl)).symm
theorem c_X0_toldOf (hV : V (l, x, m, sc) w) (hX : XP x a P D) (hI : PI P) (hQ : TQ P) (ht : t < 20) (hk : hK (P_kind P t)) {L : List Nat} (hc : Ch P (P_prev P t) L) {v : Int32} (h2 : ¬ v = 0) (h1 : ¬ v = 1) (h : QR (some (vI (tl P L t v))) w) : ct KX0_toldOf 1 8 [vR (some (L_ad l 0)), vR (some (a.1 t)), vI v] w QR QX := by
  unfold tl at h
  rw [if_neg h2, if_neg h1] at h
  have hcs := hI.cs ht hk hc
  refine st_X0_toldOf (sg_X0_toldOf_0 ⟨fun e => ?_, fun e => ?_, fun e => ?_, fun e => ?_, fun e => ?_, fun e => ?_, fun e => ?_, fun e2 e3 e4 e5 e6 e7 e8 => ?_⟩)
  · rw [if_pos e] at h
    refine ⟨_, rfl, _, x_prev hV hX ht (cI_h hk), c_X0_numberOf hV hX ?_ ⟨_, rfl, h⟩⟩
    rcases hI.p ht hk with z | ⟨p, hp, z, hs⟩
    · exact Or.inl z
    · exact Or.inr ⟨p, hp, z, Or.inr hs⟩
  · rw [if_neg (by rw [e]; decide), if_pos e] at h
    refine ⟨fun z => (by cases z), fun q z => ?_⟩
    cases z
    by_cases cs : sK (P_kind P t)
    · obtain ⟨o, ho, eo, hko⟩ := hI.o ht cs
      rw [eo] at h
      exact Or.inl ⟨x_ck hV hX ht (cI_s cs), x_ck hV hX ht (cI_s cs), _, x_owner hV hX ht cs (cI_s cs) ho eo, _, x_num hV hX ho (cI_f hko), h⟩
    · rw [((hQ t ht).2.2.1 cs).resolve_left (hK_m1 hk)] at h
      exact Or.inr ⟨x_cka hV hX hI ht (hK_m1 hk) (ci_ns hI ht (hK_m1 hk) cs), h⟩
  · rw [if_neg (by rw [e]; decide), if_neg (by rw [e]; decide), if_pos e] at h
    refine ⟨fun z => (by cases z), fun q z => ?_⟩
    cases z
    by_cases cs : fK (P_kind P t)
    · rw [if_pos cs] at h
      refine Or.inl ⟨x_ck hV hX ht (cI_f cs), x_ck hV hX ht (cI_f cs), Nat.le_refl _, Nat.le_refl _, c_X0_originOf hV hX hI ht cs hc ⟨_, rfl, ?_⟩⟩
      have hm : ∀ i, orig P (nI t) L = some i → i < 20 := fun i hi => (hcs i (origX_mem L _ i hi)).1
      rw [oA_pO hm]
      refine c_X0_numberOf hV hX ?_ ⟨_, rfl, h⟩
      cases ho : orig P (nI t) L with
      | none => exact Or.inl rfl
      | some i => exact Or.inr ⟨i, hm i ho, rfl, Or.inr (hcs i (origX_mem L _ i ho)).2⟩
    · rw [if_neg cs] at h
      exact Or.inr ⟨x_cka hV hX hI ht (hK_m1 hk) (ci_nf hI ht (hK_m1 hk) cs), h⟩
  · rw [if_neg (by rw [e]; decide), if_neg (by rw [e]; decide), if_neg (by rw [e]; decide), if_pos e] at h
    refine ⟨fun z => (by cases z), fun q z => ?_⟩
    cases z
    by_cases cs : sK (P_kind P t)
    · exact Or.inl ⟨x_ck hV hX ht (cI_s cs), x_ck hV hX ht (cI_s cs), hV.xO, c_X0_nextMany hV hX hI ht cs ⟨_, rfl, h⟩⟩
    · rw [nNx_0 hI ht cs] at h
      exact Or.inr ⟨x_cka hV hX hI ht (hK_m1 hk) (ci_ns hI ht (hK_m1 hk) cs), h⟩
  · rw [if_neg (by rw [e]; decide), if_neg (by rw [e]; decide), if_neg (by rw [e]; decide), if_neg (by rw [e]; decide), if_pos e] at h
    exact ⟨_, rfl, x_ck hV hX ht (cI_h hk), c_X4_holdsMany hV hX ht hk ⟨_, rfl, h⟩⟩
  · rw [if_neg (by rw [e]; decide), if_neg (by rw [e]; decide), if_neg (by rw [e]; decide), if_neg (by rw [e]; decide), if_neg (by rw [e]; decide), if_pos e] at h
    refine ⟨_, rfl, ?_⟩
    by_cases c3 : P_kind P t = 3
    · exact Or.inr ⟨x_O hV hX ht hk (by rw [c3]; decide), c_X8_tags hV hX ht c3 ⟨_, rfl, h⟩⟩
    · rw [((hQ t ht).1 c3).resolve_left (hK_m1 hk)] at h
      refine Or.inl ⟨x_ck hV hX ht ⟨hk, ?_⟩, c_X4_tags ⟨_, rfl, h⟩⟩
      rcases hk with (z | z) | (z | z)
      · rw [z]; decide
      · rw [z]; decide
      · rw [z]; decide
      · exact absurd z c3
  · rw [if_neg (by rw [e]; decide), if_neg (by rw [e]; decide), if_neg (by rw [e]; decide), if_neg (by rw [e]; decide), if_neg (by rw [e]; decide), if_neg (by rw [e]; decide), if_pos e] at h
    refine ⟨_, rfl, ?_⟩
    by_cases c1 : P_kind P t = 1
    · exact Or.inr ⟨x_O hV hX ht hk (by rw [c1]; decide), c_X6_quota hV hX ht c1 ⟨_, rfl, h⟩⟩
    · rw [((hQ t ht).2.1 c1).resolve_left (hK_m1 hk)] at h
      refine Or.inl ⟨x_ck hV hX ht ⟨hk, ?_⟩, c_X4_quota ⟨_, rfl, h⟩⟩
      rcases hk with (z | z) | (z | z)
      · rw [z]; decide
      · exact absurd z c1
      · rw [z]; decide
      · rw [z]; decide
  · rw [if_neg e2, if_neg e3, if_neg e4, if_neg e5, if_neg e6, if_neg e7, if_neg e8] at h
    refine ⟨fun z => (by cases z), fun q z => ?_⟩
    cases z
    by_cases cs : fK (P_kind P t)
    · exact Or.inl ⟨x_ck hV hX ht (cI_f cs), x_ck hV hX ht (cI_f cs), hV.xO, c_X0_ownMany hV hX hI ht hk ⟨_, rfl, h⟩⟩
    · rw [nOw_0 hI ht cs] at h
      exact Or.inr ⟨x_cka hV hX hI ht (hK_m1 hk) (ci_nf hI ht (hK_m1 hk) cs), h⟩
theorem nHd_0 (hn : ¬ hK (P_kind P t)) : nHd P t = 0 := by
  unfold nHd
  rw [cn_congr (q := fun _ => False) (fun i hi => ⟨fun y => absurd y.1 hn, fun y => y.elim⟩)]
  have h0 : ∀ n, cn (fun _ => False) n = 0 := by
    intro n
    induction n with
    | zero => rfl
    | succ n ih => rw [cn_f (p := fun _ => False) (fun y => y)]; exact ih
  exact h0 12
theorem lit_c {v : Int32} {n : Nat} (h1 : ¬ v < 0) (h2 : ¬ (nI n) < v) (hn : n < 2 ^ 31) : ∃ k : Nat, k ≤ n ∧ v = nI k := by
  obtain ⟨j, hj, rfl⟩ := nI_of h1
  refine ⟨j, ?_, rfl⟩
  rcases Nat.lt_or_ge n j with z | z
  · exact absurd (nI_lt z hj) h2
  · exact z
theorem tl_mark (hI : PI P) (hQ : TQ P) (ht : t < 20) (hk : P_kind P t = 4) {L : List Nat} {v : Int32} (h2 : 2 ≤ v) (h9 : ¬ 9 < v) : tl P L t v = if v = 5 ∨ v = 6 ∨ v = 7 ∨ v = 9 then 0 else -1 := by
  have n1 : ¬ P_kind P t = -1 := by rw [hk]; decide
  have nf : ¬ fK (P_kind P t) := by rw [hk]; decide
  have ns : ¬ sK (P_kind P t) := by rw [hk]; decide
  have nh : ¬ hK (P_kind P t) := by rw [hk]; decide
  have h0 : ¬ v < 0 := by
    intro z
    have := Int32.lt_of_le_of_lt h2 z
    exact absurd this (by decide)
  obtain ⟨k, hk9, rfl⟩ := lit_c (n := 9) h0 h9 (by decide)
  have hk2 : 2 ≤ k := (nI_leI (a := 2) (by decide) (by omega)).mp h2
  have q0 : ¬ nI k = 0 := nI_ne0 (by omega) (by omega)
  have q1 : ¬ nI k = 1 := nI_ne (b := 1) (by omega) (by decide) (by omega)
  unfold tl
  rw [if_neg q0, if_neg q1, (hQ t ht).2.2.2 hk, ((hQ t ht).2.2.1 ns).resolve_left n1, ((hQ t ht).1 (by rw [hk]; decide)).resolve_left n1, ((hQ t ht).2.1 (by rw [hk]; decide)).resolve_left n1, nNx_0 hI ht ns, nOw_0 hI ht nf, nHd_0 nh, if_neg nf]
  have : k = 2 ∨ k = 3 ∨ k = 4 ∨ k = 5 ∨ k = 6 ∨ k = 7 ∨ k = 8 ∨ k = 9 := by omega
  rcases this with rfl | rfl | rfl | rfl | rfl | rfl | rfl | rfl <;> decide
theorem c_X0_told (hV : V (l, x, m, sc) w) (hX : XP x a P D) (hI : PI P) (hQ : TQ P) {i v : Int32} {L : List Nat} (hc : ∀ t, t < 20 → i = nI t → hK (P_kind P t) → Ch P (P_prev P t) L) (h : QR (some (vI (r_told P L i v))) w) : ct KX0_told 1 8 [vR (some (L_ad l 0)), vI i, vI v] w QR QX := by
  unfold r_told thr at h
  refine st_X0_told (sg_X0_told_0 (c_X0_inI 0 9 (by decide) (by decide) ⟨_, rfl, fun c => c_X0_inI 0 19 (by decide) (by decide) ⟨_, rfl, fun c2 => ?_, fun c2 => ?_⟩, fun c => ?_⟩))
  · have c3 := b2i_n0.mp c2
    rw [if_pos (b2i_n0.mp c), if_pos c3] at h
    obtain ⟨t, ht, rfl⟩ := inR_n c3
    rw [kdI_n ht, nI_clamp (by omega)] at h
    refine ⟨_, hV.xf4, _, x_th hV hX hI ht, fun e => ?_, fun q e => ?_⟩
    · rw [if_pos (thO_none e), if_neg (by decide)] at h
      exact h
    · obtain ⟨hn, rfl⟩ := thO_some e
      rw [if_neg hn, if_pos rfl] at h
      refine ⟨fun c4 => ?_, fun c4 => ⟨fun c5 => ?_, fun c5 => ?_⟩⟩
      · by_cases ch : hK (P_kind P t)
        · refine Or.inr ⟨x_ck hV hX ht (cI_h ch), x_ck hV hX ht (cI_h ch), Nat.le_refl _, Nat.le_refl _, hV.xO, ?_⟩
          have v0 : ¬ v = 0 := by
            intro z
            rw [z] at c4
            exact absurd c4 (by decide)
          have v1 : ¬ v = 1 := by
            intro z
            rw [z] at c4
            exact absurd c4 (by decide)
          exact c_X0_toldOf hV hX hI hQ ht ch (hc t ht rfl ch) v0 v1 ⟨_, rfl, h⟩
        · have c4' := k_nh hI ht hn ch
          rw [tl_mark hI hQ ht c4' c4 (b2i_n0.mp c).2] at h
          exact Or.inl ⟨x_bck hV hX ht c4' (by decide), c_X0_toldOfMark ⟨_, rfl, h⟩⟩
      · have e1 : v = 1 := by
          obtain ⟨k, hk, rfl⟩ := lit_c (n := 9) (b2i_n0.mp c).1 (b2i_n0.mp c).2 (by decide)
          have k2 : ¬ 2 ≤ k := fun z => c4 (nI_le z (by omega))
          have k0 : ¬ k = 0 := fun z => c5 (by rw [z]; rfl)
          have : k = 1 := by omega
          rw [this]
          rfl
        unfold tl at h
        rw [if_neg c5, if_pos e1] at h
        exact c_X0_madeOf hV hX hI ht hn ⟨_, rfl, h⟩
      · unfold tl at h
        rw [if_pos c5] at h
        exact c_X0_kindOf hV hX hI ht hn ⟨_, rfl, h⟩
  · rw [if_pos (b2i_n0.mp c), if_neg (b2i_0.mp c2), if_neg (by decide)] at h
    exact h
  · rwa [if_neg (b2i_0.mp c)] at h
theorem c_X0_slot (hV : V (l, x, m, sc) w) (hX : XP x a P D) (hI : PI P) {i k : Int32} (h : QR (some (vI (r_slot P i k))) w) : ct KX0_slot 4 956 [vR (some (L_ad l 0)), vI i, vI k] w QR QX := by
  unfold r_slot at h
  refine st_X0_slot (sg_X0_slot_0 (c_X0_inI 0 11 (by decide) (by decide) ⟨_, rfl, fun c => ⟨by decide, by decide, hV.xO, c_X0_thingAt hV hX hI (fun t ht e => ⟨_, rfl, fun z => ⟨by decide, by decide, ?_⟩, fun q z => ?_⟩) (fun z => ⟨rfl, ?_⟩)⟩, fun c => ?_⟩))
  · subst e
    rw [if_pos (b2i_n0.mp c), askS_none ht (thO_none z), if_neg (by decide)] at h
    exact h
  · subst e
    obtain ⟨hn, rfl⟩ := thO_some z
    obtain ⟨K, hK', rfl⟩ := inI_n (H := 11) (b2i_n0.mp c) rfl rfl (by decide)
    rw [if_pos (b2i_n0.mp c)] at h
    by_cases ch : hK (P_kind P t)
    · rw [if_pos (askS_ok ht ch), nI_clamp (by omega), nI_clamp (by omega)] at h
      exact Or.inl ⟨x_ck hV hX ht (cI_h ch), _, x_sa hV hX ht (cI_h ch), _, x_slot hV hX ht ch (by omega), h⟩
    · rw [askS_bad ht hn ch, if_neg (by decide)] at h
      exact Or.inr ⟨x_bck hV hX ht (k_nh hI ht hn ch) (by decide), by decide, by decide, h⟩
  · rw [if_pos (b2i_n0.mp c), askS_out z, if_neg (by decide)] at h
    exact h
  · rwa [if_neg (b2i_0.mp c)] at h
noncomputable def xHn (P : PT) (b : Nat) : Nat := cn (fun t => hK (P_kind P t) ∧ held P t (nI b)) 20
theorem lp_holdersOf (hV : V (l, x, m, sc) w) (hX : XP x a P D) (hI : PI P) {b : Nat} (h : QR (some (vI (nI (xHn P b)))) w) : ∀ n k, k + n = 20 → wp KX0_holdersOf rc rs QR QX 4 [(0, vR (some (L_ad l 0))), (1, vI (nI b)), (2, vI (nI (cn (fun t => hK (P_kind P t) ∧ held P t (nI b)) k))), (3, vI (nI k))] [] w := by
  intro n
  induction n with
  | zero =>
    intro k hk
    refine sg_X0_holdersOf_4 (lpc (N := 20) rfl (by decide) hk (fun _ => ?_) (fun m e => by omega))
    have : k = 20 := by omega
    subst this
    exact h
  | succ n ih =>
    intro k hk
    have ih1 := ih (k + 1) (by omega)
    refine sg_X0_holdersOf_4 (lpc (N := 20) rfl (by decide) hk (fun e => by omega) (fun m e hk2 => ⟨hV.xO, c_X0_holderAt_n hV hX hI hk2 (fun c => ⟨_, rfl, fun e => (by cases e), fun q e => ⟨hV.xO, c_X0_holderAt_n hV hX hI hk2 (fun _ => ⟨_, rfl, _, rfl, x_ck hV hX hk2 (cI_h c), c_X4_holds hV hX hk2 c ⟨_, rfl, fun c2 => ?_, fun c2 => ?_⟩⟩) (fun z => absurd c z)⟩⟩) (fun c => ⟨_, rfl, fun e => ?_, fun q e => (by cases e)⟩)⟩))
    · rw [cn_f (p := fun t => hK (P_kind P t) ∧ held P t (nI b)) (fun z => bI_0.mp c2 z.2)] at ih1
      rw [nI_1, i_0]
      exact ih1
    · rw [cn_t (p := fun t => hK (P_kind P t) ∧ held P t (nI b)) ⟨c, bI_n0.mp c2⟩] at ih1
      rw [nI_1, nI_1]
      exact ih1
    · rw [cn_f (p := fun t => hK (P_kind P t) ∧ held P t (nI b)) (fun z => c z.1)] at ih1
      rw [nI_1, i_0]
      exact ih1
theorem c_X0_block (hV : V (l, x, m, sc) w) (hX : XP x a P D) (hI : PI P) (hH : ∀ b, b < 96 → xHn P b = hCn P b) {i v : Int32} (h : QR (some (vI (r_block P i v))) w) : ct KX0_block 0 0 [vR (some (L_ad l 0)), vI i, vI v] w QR QX := by
  unfold r_block at h
  refine st_X0_block (sg_X0_block_0 (c_X0_inI 0 2 (by decide) (by decide) ⟨_, rfl, fun c => c_X0_inI 0 95 (by decide) (by decide) ⟨_, rfl, fun c2 => ?_, fun c2 => ?_⟩, fun c => ?_⟩))
  · rw [if_pos (b2i_n0.mp c), if_pos (b2i_n0.mp c2)] at h
    obtain ⟨b, hb, rfl⟩ := inI_n (H := 95) (b2i_n0.mp c2) rfl rfl (by decide)
    rw [nI_clamp (by omega)] at h
    refine ⟨_, hV.xf0, _, x_size hV hX (by omega), fun c3 => ⟨fun c4 => ⟨fun c5 => ⟨hV.xO, ?_⟩, fun c5 => ⟨_, hV.xf1, _, x_birth hV hX (by omega), ?_⟩⟩, fun c4 => ⟨_, hV.xf0, _, x_size hV hX (by omega), ?_⟩⟩, fun c3 => ?_⟩
    · rw [if_neg c3, if_neg c4, if_neg c5, ← hH b (by omega)] at h
      exact st_X0_holdersOf (sg_X0_holdersOf_0 (lp_holdersOf hV hX hI ⟨_, rfl, h⟩ 20 0 rfl))
    · rw [if_neg c3, if_neg c4, if_pos c5] at h
      exact h
    · rw [if_neg c3, if_pos c4] at h
      exact h
    · rw [if_pos c3] at h
      exact h
  · rw [if_pos (b2i_n0.mp c), if_neg (b2i_0.mp c2)] at h
    exact h
  · rwa [if_neg (b2i_0.mp c)] at h
theorem c_X0_takenFor (hV : V (l, x, m, sc) w) (hX : XP x a P D) (hI : PI P) (ht : t < 20) {v : Int32} (hv : inI v 0 4) (h1 : P_kind P t = -1 → QX "java/lang/NullPointerException" w) (h2 : ¬ P_kind P t = -1 → ¬ uKd (P_kind P t) v → QX "java/lang/ClassCastException" w) (h : ¬ P_kind P t = -1 → uKd (P_kind P t) v → QR (some (vI (P_made P t))) w) : ct KX0_takenFor 3 950 [vR (thO a P t), vI v] w QR QX := by
  have hk := hI.k ht
  have o : ∀ cs cs' : List Nat, (¬ P_kind P t = -1 → uKd (P_kind P t) v → hK (P_kind P t) ∧ ciK (P_kind P t) ∈ cs) → (¬ P_kind P t = -1 → ¬ uKd (P_kind P t) v → ciK (P_kind P t) ∈ cs') → (thO a P t = none → 1 ≤ 3 ∧ 8 ≤ 950 ∧ QX "java/lang/NullPointerException" w) ∧ (∀ a33 : Nat, thO a P t = some a33 → ((ck w a33 cs ∧ ∃ x36 : Int32, gf w a33 cs 0 (vI x36) ∧ QR (some (vI x36)) w) ∨ (ck w a33 cs' ∧ 3 ≤ 3 ∧ 950 ≤ 950 ∧ QX "java/lang/ClassCastException" w))) := by
    intro cs cs' f1 f2
    refine ⟨fun e => ⟨by decide, by decide, h1 (thO_none e)⟩, fun q e => ?_⟩
    obtain ⟨hn, rfl⟩ := thO_some e
    by_cases c : uKd (P_kind P t) v
    · exact Or.inl ⟨x_ck hV hX ht (f1 hn c), _, x_made hV hX ht (f1 hn c), h hn c⟩
    · exact Or.inr ⟨x_cka hV hX hI ht hn (f2 hn c), Nat.le_refl _, Nat.le_refl _, h2 hn c⟩
  have K : ¬ P_kind P t = -1 → P_kind P t = 0 ∨ P_kind P t = 1 ∨ P_kind P t = 2 ∨ P_kind P t = 3 ∨ P_kind P t = 4 := by
    intro hn
    rcases hk with z | z | (z | z) | (z | z)
    · exact absurd z hn
    · exact Or.inr (Or.inr (Or.inr (Or.inr z)))
    · exact Or.inl z
    · exact Or.inr (Or.inl z)
    · exact Or.inr (Or.inr (Or.inl z))
    · exact Or.inr (Or.inr (Or.inr (Or.inl z)))
  refine st_X0_takenFor (sg_X0_takenFor_0 ⟨fun e => o _ _ (fun hn c => ?_) (fun hn c => ?_), fun e => o _ _ (fun hn c => ?_) (fun hn c => ?_), fun e => o _ _ (fun hn c => ?_) (fun hn c => ?_), fun e => o _ _ (fun hn c => ?_) (fun hn c => ?_), fun e0 e1 e2 e3 => ?_⟩)
  · subst e
    rcases K hn with z | z | z | z | z <;> (rw [z] at c ⊢; revert c; decide)
  · subst e
    rcases K hn with z | z | z | z | z <;> (rw [z] at c ⊢; revert c; decide)
  · subst e
    rcases K hn with z | z | z | z | z <;> (rw [z] at c ⊢; revert c; decide)
  · subst e
    rcases K hn with z | z | z | z | z <;> (rw [z] at c ⊢; revert c; decide)
  · subst e
    rcases K hn with z | z | z | z | z <;> (rw [z] at c ⊢; revert c; decide)
  · subst e
    rcases K hn with z | z | z | z | z <;> (rw [z] at c ⊢; revert c; decide)
  · subst e
    rcases K hn with z | z | z | z | z <;> (rw [z] at c ⊢; revert c; decide)
  · subst e
    rcases K hn with z | z | z | z | z <;> (rw [z] at c ⊢; revert c; decide)
  · have e4 : v = 4 := by
      obtain ⟨k, hk4, rfl⟩ := lit_c (n := 4) hv.1 hv.2 (by decide)
      have : k = 0 ∨ k = 1 ∨ k = 2 ∨ k = 3 ∨ k = 4 := by omega
      rcases this with rfl | rfl | rfl | rfl | rfl
      · exact absurd rfl e0
      · exact absurd rfl e1
      · exact absurd rfl e2
      · exact absurd rfl e3
      · rfl
    subst e4
    refine ⟨fun e => ⟨by decide, by decide, h1 (thO_none e)⟩, fun q e => ?_⟩
    obtain ⟨hn, rfl⟩ := thO_some e
    by_cases c : P_kind P t = 4
    · exact Or.inl ⟨x_bck hV hX ht c (by decide), _, x_bm hV hX ht c, h hn (Or.inl c)⟩
    · refine Or.inr ⟨x_ck hV hX ht (cI_h ?_), Nat.le_refl _, Nat.le_refl _, h2 hn (fun y => ?_)⟩
      · rcases hk with z | z | z
        · exact absurd z hn
        · exact absurd z c
        · exact z
      · rcases y with y | y | y
        · exact c y
        · exact absurd y.2 (by decide)
        · exact absurd y.2 (by decide)
theorem c_X0_taken (hV : V (l, x, m, sc) w) (hX : XP x a P D) (hI : PI P) {i k : Int32} (h : QR (some (vI (r_taken P i k))) w) : ct KX0_taken 4 956 [vR (some (L_ad l 0)), vI i, vI k] w QR QX := by
  unfold r_taken at h
  refine st_X0_taken (sg_X0_taken_0 (c_X0_inI 0 4 (by decide) (by decide) ⟨_, rfl, fun c => ⟨by decide, by decide, hV.xO, c_X0_thingAt hV hX hI (fun t ht e => ⟨_, rfl, by decide, by decide, c_X0_takenFor hV hX hI ht (b2i_n0.mp c) (fun z => Or.inl ⟨rfl, ?_⟩) (fun hn z => Or.inr ⟨rfl, ?_⟩) (fun hn z => ⟨_, rfl, ?_⟩)⟩) (fun z => ⟨rfl, ?_⟩)⟩, fun c => ?_⟩))
  · subst e
    rw [if_pos (b2i_n0.mp c), ask_none ht z, if_neg (by decide)] at h
    exact h
  · subst e
    rw [if_pos (b2i_n0.mp c), ask_bad ht hn z, if_neg (by decide)] at h
    exact h
  · subst e
    rw [if_pos (b2i_n0.mp c), if_pos (ask_ok ht hn z), nI_clamp (by omega)] at h
    exact h
  · rw [if_pos (b2i_n0.mp c), ask_out z, if_neg (by decide)] at h
    exact h
  · rwa [if_neg (b2i_0.mp c)] at h
/-- what is told of a dead list -/
def dO (L : List Nat) (v : Int32) : Int32 := if v = 0 then nI L.length else if L.length = 0 then -1 else if v = 1 then nI (gD L 0) else nI (gD L (L.length - 1))
theorem c_X0_deadOf (hV : V (l, x, m, sc) w) (hX : XP x a P D) (ht : t < 20) (hk : hK (P_kind P t)) {v : Int32} (h : QR (some (vI (dO (D t) v))) w) : ct KX0_deadOf 1 8 [vR (some (a.1 t)), vI v] w QR QX := by
  have hl := hX.dl ht hk
  unfold dO at h
  refine st_X0_deadOf (sg_X0_deadOf_0 ⟨fun c => ⟨fun e => (by cases e), fun q e => ?_⟩, fun c => ⟨fun e => (by cases e), fun q e => ?_⟩⟩)
  · cases e
    rw [if_neg c] at h
    refine ⟨_, x_dm hV hX ht (cI_h hk), fun c2 => ?_, fun c2 => ?_⟩
    · have hp : ¬ (D t).length = 0 := fun z => c2 (by rw [z]; rfl)
      rw [if_neg hp] at h
      refine ⟨fun c3 => ⟨_, x_da hV hX ht (cI_h hk), _, x_dm hV hX ht (cI_h hk), ?_⟩, fun c3 => ⟨_, x_da hV hX ht (cI_h hk), _, x_dead hV hX ht hk (i := 0) (by omega), ?_⟩⟩
      · rw [if_neg c3] at h
        refine ⟨_, ?_, h⟩
        have e : nI (D t).length - 1 = nI ((D t).length - 1) := by
          have := nI_m ((D t).length - 1)
          rw [show (D t).length - 1 + 1 = (D t).length by omega] at this
          exact this
        rw [e]
        exact x_dead hV hX ht hk (by omega)
      · rw [if_pos c3] at h
        exact h
    · have hp : (D t).length = 0 := (nI_eq (b := 0) (by omega) (by decide)).mp c2
      rw [if_pos hp] at h
      exact h
  · cases e
    rw [if_pos c] at h
    exact ⟨_, x_dm hV hX ht (cI_h hk), h⟩
noncomputable def r_deadX (P : PT) (D : DT) (i v : Int32) : Int32 := if inI v 0 2 then (if askS P i = 0 then dO (D i.toNatClampNeg) v else askS P i) else -2
theorem c_X0_dead (hV : V (l, x, m, sc) w) (hX : XP x a P D) (hI : PI P) {i v : Int32} (h : QR (some (vI (r_deadX P D i v))) w) : ct KX0_dead 4 956 [vR (some (L_ad l 0)), vI i, vI v] w QR QX := by
  unfold r_deadX at h
  refine st_X0_dead (sg_X0_dead_0 (c_X0_inI 0 2 (by decide) (by decide) ⟨_, rfl, fun c => ⟨by decide, by decide, hV.xO, c_X0_thingAt hV hX hI (fun t ht e => ⟨_, rfl, fun z => ⟨by decide, by decide, ?_⟩, fun q z => ?_⟩) (fun z => ⟨rfl, ?_⟩)⟩, fun c => ?_⟩))
  · subst e
    rw [if_pos (b2i_n0.mp c), askS_none ht (thO_none z), if_neg (by decide)] at h
    refine st_X0_deadOf (sg_X0_deadOf_0 ⟨fun c => ⟨fun e => ⟨Nat.le_refl _, Nat.le_refl _, rfl, h⟩, fun q e => (by cases e)⟩, fun c => ⟨fun e => ⟨Nat.le_refl _, Nat.le_refl _, rfl, h⟩, fun q e => (by cases e)⟩⟩)
  · subst e
    obtain ⟨hn, rfl⟩ := thO_some z
    rw [if_pos (b2i_n0.mp c)] at h
    by_cases ch : hK (P_kind P t)
    · rw [if_pos (askS_ok ht ch), nI_clamp (by omega)] at h
      exact Or.inl ⟨x_ck hV hX ht (cI_h ch), by decide, by decide, c_X0_deadOf hV hX ht ch ⟨_, rfl, h⟩⟩
    · rw [askS_bad ht hn ch, if_neg (by decide)] at h
      exact Or.inr ⟨x_bck hV hX ht (k_nh hI ht hn ch) (by decide), by decide, by decide, h⟩
  · rw [if_pos (b2i_n0.mp c), askS_out z, if_neg (by decide)] at h
    exact h
  · rwa [if_neg (b2i_0.mp c)] at h
theorem lp_deadBetween (hV : V (l, x, m, sc) w) (hX : XP x a P D) (hB : DB P D) (ht : t < 20) (hk : hK (P_kind P t)) {af ti : Int32} : ∀ n k c, k + n = (D t).length → QR (some (vL (dbS P af ti ((D t).drop k) c))) w → wp KX0_deadBetween rc rs QR QX 6 [(0, vR (some (L_ad l 0))), (1, vR (some (a.1 t))), (2, vI af), (3, vI ti), (4, vL c), (6, vI (nI k))] [] w := by
  have hl := hX.dl ht hk
  intro n
  induction n with
  | zero =>
    intro k c hk2 h
    refine sg_X0_deadBetween_6 ⟨_, rfl, _, x_dm hV hX ht (cI_h hk), fun _ => ?_, fun z => absurd (nI_le (by omega) (by omega)) z⟩
    rw [List.drop_eq_nil_of_le (by omega)] at h
    exact h
  | succ n ih =>
    intro k c hk2 h
    have hlt : k < (D t).length := by omega
    have hb := hB t ht hk k hlt
    rw [gD_drop _ hlt] at h
    unfold dbS at h
    refine sg_X0_deadBetween_6 ⟨_, rfl, _, x_dm hV hX ht (cI_h hk), fun z => absurd z (nI_ge hlt (by omega)), fun _ => ⟨_, hV.xf1, _, x_da hV hX ht (cI_h hk), _, x_dead hV hX ht hk hlt, _, x_birth hV hX hb, fun c1 => ⟨fun c2 => ?_, fun c2 => ⟨_, hV.xf0, _, x_da hV hX ht (cI_h hk), _, x_dead hV hX ht hk hlt, _, x_size hV hX hb, ?_⟩⟩, fun c1 => ?_⟩⟩
    · rw [if_pos c1, if_pos c2] at h
      rw [nI_1]
      exact ih (k + 1) _ (by omega) h
    · rw [if_pos c1, if_neg c2] at h
      rw [nI_1]
      exact ih (k + 1) _ (by omega) h
    · rw [if_neg c1] at h
      exact h
theorem c_X0_deadBetween (hV : V (l, x, m, sc) w) (hX : XP x a P D) (hB : DB P D) (ht : t < 20) (hk : hK (P_kind P t)) {af ti : Int32} (h : QR (some (vL (dbS P af ti (D t) 0))) w) : ct KX0_deadBetween 0 0 [vR (some (L_ad l 0)), vR (some (a.1 t)), vI af, vI ti] w QR QX :=
  st_X0_deadBetween (sg_X0_deadBetween_0 (lp_deadBetween hV hX hB ht hk (D t).length 0 0 (by omega) h))
noncomputable def dlX (P : PT) (D : DT) (t : Nat) (o : Option Nat) : Int64 := match o with
  | none => NOL
  | some i => dbS P (pm P i) (P_made P i) (D t) 0
noncomputable def r_deadListX (P : PT) (D : DT) (L : List Nat) (i k : Int32) : Int64 := if hK (kdI P i) ∧ ¬ k < 0 then dlX P D i.toNatClampNeg (L[k.toNatClampNeg]?) else NOL
theorem lp_deadListX (hV : V (l, x, m, sc) w) (hX : XP x a P D) (hI : PI P) (hB : DB P D) (ht : t < 20) (hk : hK (P_kind P t)) {K : Nat} (hK2 : K < 2 ^ 31) {i1 : Int32} : ∀ (L : List Nat) (y : Int32) (k : Nat), CS P L → Ch P y L → k ≤ K → QR (some (vL (dlX P D t (L[K - k]?)))) w → wp KX0_deadList rc rs QR QX 27 [(0, vR (some (L_ad l 0))), (1, vI i1), (2, vI (nI K)), (3, vR (some (a.1 t))), (4, vR (pO a y)), (5, vI (nI k))] [] w := by
  intro L
  induction L with
  | nil =>
    intro y k _ hy hle h
    rw [hy.pO]
    exact sg_X0_deadList_27 ⟨fun _ => ⟨fun _ => h, fun q e => (by cases e)⟩, fun _ => ⟨fun _ => h, fun q e => (by cases e)⟩⟩
  | cons i L ih =>
    intro y k hcs hy hle h
    rw [hy.pO]
    obtain ⟨hi, hs⟩ := hcs i (List.mem_cons_self ..)
    refine sg_X0_deadList_27 ⟨fun c => ⟨fun e => (by cases e), fun q e => ?_⟩, fun c => ⟨fun e => (by cases e), fun q e => ?_⟩⟩
    · have e' : q = a.1 i := (Option.some.inj e).symm
      subst e'
      have : K ≤ k := (nI_leI (by omega) (by omega)).mp c
      have e0 : K - k = 0 := by omega
      rw [e0] at h
      exact ⟨x_ck hV hX hi (cI_s hs), c_X4_prevMade hV hX hI hi (Or.inr hs) ⟨_, rfl, _, x_made hV hX hi (cI_s hs), hV.xO, c_X0_deadBetween hV hX hB ht hk ⟨_, rfl, h⟩⟩⟩
    · have e' : q = a.1 i := (Option.some.inj e).symm
      subst e'
      have hlt : ¬ K ≤ k := fun z => c (nI_le z (by omega))
      rw [show K - k = (K - (k + 1)) + 1 by omega] at h
      refine ⟨_, x_prev hV hX hi (cI_s hs), ?_⟩
      rw [nI_1]
      exact ih _ (k + 1) (fun j hj => hcs j (List.mem_cons_of_mem _ hj)) hy.2.2 (by omega) h
theorem c_X0_deadList (hV : V (l, x, m, sc) w) (hX : XP x a P D) (hI : PI P) (hB : DB P D) {i k : Int32} {L : List Nat} (hc : ∀ t, t < 20 → i = nI t → hK (P_kind P t) → Ch P (P_prev P t) L) (h : QR (some (vL (r_deadListX P D L i k))) w) : ct KX0_deadList 0 0 [vR (some (L_ad l 0)), vI i, vI k] w QR QX := by
  unfold r_deadListX at h
  refine st_X0_deadList (sg_X0_deadList_0 ⟨hV.xO, c_X0_holderAt hV hX hI (fun t ht e hk => ⟨_, rfl, fun z => (by cases z), fun q z => ?_⟩) (fun z => ⟨_, rfl, fun _ => ?_, fun q z => (by cases z)⟩)⟩)
  · subst e
    cases z
    rw [kdI_n ht, nI_clamp (by omega)] at h
    refine ⟨fun c => ⟨_, x_prev hV hX ht (cI_h hk), ?_⟩, fun c => ?_⟩
    · have c' : ¬ k < 0 := Int32.not_lt.mpr c
      obtain ⟨K, hK2, rfl⟩ := nI_of c'
      rw [if_pos ⟨hk, c'⟩, nI_clamp hK2] at h
      have hC := hc t ht rfl hk
      exact lp_deadListX hV hX hI hB ht hk hK2 L _ 0 (hI.cs ht hk hC) hC (Nat.zero_le _) h
    · rw [if_neg (fun y => y.2 (Int32.not_le.mp c))] at h
      exact h
  · rw [if_neg (fun y => z y.1)] at h
    exact h
theorem c_X0_space (hV : V (l, x, m, sc) w) (hX : XP x a P D) (hI : PI P) {i : Int32} (h : QR (some (vL (r_space P i))) w) : ct KX0_space 1 8 [vR (some (L_ad l 0)), vI i] w QR QX := by
  unfold r_space at h
  refine st_X0_space (sg_X0_space_0 ⟨hV.xO, c_X0_holderAt hV hX hI (fun t ht e hk => ⟨_, rfl, fun z => (by cases z), fun q z => ?_⟩) (fun z => ⟨_, rfl, fun _ => ?_, fun q z => (by cases z)⟩)⟩)
  · subst e
    cases z
    rw [kdI_n ht, nI_clamp (by omega), if_pos hk] at h
    exact ⟨Nat.le_refl _, Nat.le_refl _, hV.xO, c_X0_spaceOf hV hX hI.s ht hk ⟨_, rfl, h⟩⟩
  · rw [if_neg z] at h
    exact h
theorem sX_t {p : Nat → Prop} {k : Nat} {b : Nat} (hb : b < 96) (e : P_slot P t k = nI b) (h : p b) : sS P t p (k + 1) = sS P t p k + (P_size P b).toInt64 := by
  show sS P t p k + sel _ _ = _
  rw [sel_t]
  · rw [e, nI_clamp (by omega)]
    rfl
  · rw [e, nI_clamp (by omega)]
    exact ⟨m1_ne b (by omega), h⟩
theorem sX_f {p : Nat → Prop} {k : Nat} (h : ¬ (¬ P_slot P t k = -1 ∧ p (P_slot P t k).toNatClampNeg)) : sS P t p (k + 1) = sS P t p k + 0 := by
  show sS P t p k + sel _ _ = _
  rw [sel_f h]
def laP (P : PT) (t b : Nat) : Prop := ¬ P_birth P b ≤ pm P t
theorem lp_liveAlone (hV : V (l, x, m, sc) w) (hX : XP x a P D) (hI : PI P) (ht : t < 20) (hk : fK (P_kind P t)) (h : QR (some (vL (sS P t (laP P t) 12))) w) : ∀ n k, k + n = 12 → wp KX0_liveAlone rc rs QR QX 5 [(0, vR (some (L_ad l 0))), (1, vR (some (a.1 t))), (2, vL (sS P t (laP P t) k)), (4, vI (nI k))] [] w := by
  intro n
  induction n with
  | zero =>
    intro k hk2
    refine sg_X0_liveAlone_5 (lpc (N := 12) rfl (by decide) hk2 (fun _ => ?_) (fun m e => by omega))
    have : k = 12 := by omega
    subst this
    exact h
  | succ n ih =>
    intro k hk2
    have ih1 := ih (k + 1) (by omega)
    refine sg_X0_liveAlone_5 (lpc (N := 12) rfl (by decide) hk2 (fun e => by omega) (fun m e hk3 => ⟨_, rfl, _, x_sa hV hX ht (cI_f hk), _, x_slot hV hX ht (Or.inl hk) hk3, fun c => ?_, fun c => ?_⟩))
    · rw [sX_f (fun z => z.1 c)] at ih1
      rw [nI_1]
      exact ih1
    · rcases hI.s t k ht hk3 with z | ⟨b, hb, z⟩
      · exact absurd z c
      · rw [z]
        refine ⟨_, hV.xf1, _, x_birth hV hX hb, x_ck hV hX ht (cI_f hk), c_X4_prevMade hV hX hI ht (Or.inl hk) ⟨_, rfl, fun c2 => ?_, fun c2 => ⟨_, hV.xf0, _, x_size hV hX hb, ?_⟩⟩⟩
        · rw [sX_f (fun y => by rw [z, nI_clamp (by omega)] at y; exact y.2 c2)] at ih1
          rw [nI_1]
          exact ih1
        · rw [sX_t hb z c2] at ih1
          rw [nI_1]
          exact ih1
theorem c_X0_liveAlone (hV : V (l, x, m, sc) w) (hX : XP x a P D) (hI : PI P) (ht : t < 20) (hk : fK (P_kind P t)) (h : QR (some (vL (sS P t (laP P t) 12))) w) : ct KX0_liveAlone 0 0 [vR (some (L_ad l 0)), vR (some (a.1 t))] w QR QX :=
  st_X0_liveAlone (sg_X0_liveAlone_0 (lp_liveAlone hV hX hI ht hk h 12 0 rfl))
theorem lp_sinceX (hV : V (l, x, m, sc) w) (hX : XP x a P D) (hI : PI P) (ht : t < 20) (hk : hK (P_kind P t)) {i1 i2 : Int32} {u : Nat} (h : QR (some (vL (sS P t (afP P u) 12))) w) : ∀ n k, k + n = 12 → wp KX0_since rc rs QR QX 52 [(0, vR (some (L_ad l 0))), (1, vI i1), (2, vI i2), (3, vR (some (a.1 t))), (4, vI (P_made P u)), (5, vL (sS P t (afP P u) k)), (7, vI (nI k))] [] w := by
  intro n
  induction n with
  | zero =>
    intro k hk2
    refine sg_X0_since_52 (lpc (N := 12) rfl (by decide) hk2 (fun _ => ?_) (fun m e => by omega))
    have : k = 12 := by omega
    subst this
    exact h
  | succ n ih =>
    intro k hk2
    have ih1 := ih (k + 1) (by omega)
    refine sg_X0_since_52 (lpc (N := 12) rfl (by decide) hk2 (fun e => by omega) (fun m e hk3 => ⟨_, rfl, _, x_sa hV hX ht (cI_h hk), _, x_slot hV hX ht hk hk3, fun c => ?_, fun c => ?_⟩))
    · rw [sX_f (fun z => z.1 c)] at ih1
      rw [nI_1]
      exact ih1
    · rcases hI.s t k ht hk3 with z | ⟨b, hb, z⟩
      · exact absurd z c
      · rw [z]
        refine ⟨_, hV.xf1, _, x_birth hV hX hb, fun c2 => ?_, fun c2 => ⟨_, hV.xf0, _, x_size hV hX hb, ?_⟩⟩
        · rw [sX_f (fun y => by rw [z, nI_clamp (by omega)] at y; exact y.2 c2)] at ih1
          rw [nI_1]
          exact ih1
        · rw [sX_t hb z c2] at ih1
          rw [nI_1]
          exact ih1
theorem c_X0_since (hV : V (l, x, m, sc) w) (hX : XP x a P D) (hI : PI P) {i j : Int32} (h : QR (some (vL (r_since P i j))) w) : ct KX0_since 0 0 [vR (some (L_ad l 0)), vI i, vI j] w QR QX := by
  unfold r_since at h
  refine st_X0_since (sg_X0_since_0 ⟨hV.xO, c_X0_holderAt hV hX hI (fun t ht e hk => ⟨_, rfl, fun z => (by cases z), fun q z => ?_⟩) (fun z => ⟨_, rfl, fun _ => ?_, fun q z => (by cases z)⟩)⟩)
  · subst e
    cases z
    rw [kdI_n ht, nI_clamp (by omega)] at h
    refine c_X0_inI 0 19 (by decide) (by decide) ⟨_, rfl, fun c => ?_, fun c => ?_⟩
    · rw [if_neg (fun y => y.2 (kdI_o (b2i_0.mp c)))] at h
      exact h
    · obtain ⟨u, hu, rfl⟩ := inR_n (b2i_n0.mp c)
      rw [kdI_n hu, nI_clamp (by omega)] at h
      refine ⟨_, hV.xf4, _, x_th hV hX hI hu, fun e => ?_, fun q e => ⟨_, hV.xf4, _, x_th hV hX hI hu, ?_⟩⟩
      · rw [if_neg (fun y => y.2 (thO_none e))] at h
        exact h
      · obtain ⟨hn, rfl⟩ := thO_some e
        rw [if_pos ⟨hk, hn⟩] at h
        rw [e]
        exact c_X0_madeOf hV hX hI hu hn ⟨_, rfl, lp_sinceX hV hX hI ht hk h 12 0 rfl⟩
  · rw [if_neg (fun y => z y.1)] at h
    exact h
def cmX (P : PT) (u b : Nat) : Prop := held P u (nI b)
theorem lp_commonX (hV : V (l, x, m, sc) w) (hX : XP x a P D) (hI : PI P) (ht : t < 20) (hk : hK (P_kind P t)) {i1 i2 : Int32} {u : Nat} (hu : u < 20) (hku : hK (P_kind P u)) (h : QR (some (vL (sS P t (cmX P u) 12))) w) : ∀ n k, k + n = 12 → wp KX0_common rc rs QR QX 32 [(0, vR (some (L_ad l 0))), (1, vI i1), (2, vI i2), (3, vR (some (a.1 t))), (4, vR (some (a.1 u))), (5, vL (sS P t (cmX P u) k)), (7, vI (nI k))] [] w := by
  intro n
  induction n with
  | zero =>
    intro k hk2
    refine sg_X0_common_32 (lpc (N := 12) rfl (by decide) hk2 (fun _ => ?_) (fun m e => by omega))
    have : k = 12 := by omega
    subst this
    exact h
  | succ n ih =>
    intro k hk2
    have ih1 := ih (k + 1) (by omega)
    refine sg_X0_common_32 (lpc (N := 12) rfl (by decide) hk2 (fun e => by omega) (fun m e hk3 => ⟨_, rfl, _, x_sa hV hX ht (cI_h hk), _, x_slot hV hX ht hk hk3, fun c => ?_, fun c => ?_⟩))
    · rw [sX_f (fun z => z.1 c)] at ih1
      rw [nI_1]
      exact ih1
    · rcases hI.s t k ht hk3 with z | ⟨b, hb, z⟩
      · exact absurd z c
      · rw [z]
        refine ⟨_, rfl, x_ck hV hX hu (cI_h hku), c_X4_holds hV hX hu hku ⟨_, rfl, fun c2 => ?_, fun c2 => ⟨_, hV.xf0, _, x_size hV hX hb, ?_⟩⟩⟩
        · rw [sX_f (fun y => by rw [z, nI_clamp (by omega)] at y; exact bI_0.mp c2 y.2)] at ih1
          rw [nI_1]
          exact ih1
        · rw [sX_t hb z (bI_n0.mp c2)] at ih1
          rw [nI_1]
          exact ih1
noncomputable def r_commonX (P : PT) (i j : Int32) : Int64 := if hK (kdI P i) ∧ hK (kdI P j) then sS P i.toNatClampNeg (cmX P j.toNatClampNeg) 12 else NOL
theorem c_X0_common (hV : V (l, x, m, sc) w) (hX : XP x a P D) (hI : PI P) {i j : Int32} (h : QR (some (vL (r_commonX P i j))) w) : ct KX0_common 0 0 [vR (some (L_ad l 0)), vI i, vI j] w QR QX := by
  unfold r_commonX at h
  refine st_X0_common (sg_X0_common_0 ⟨hV.xO, c_X0_holderAt hV hX hI (fun t ht e hk => ⟨_, rfl, hV.xO, c_X0_holderAt hV hX hI (fun u hu e2 hku => ⟨_, rfl, fun z => (by cases z), fun q z => ⟨fun z2 => (by cases z2), fun q2 z2 => ?_⟩⟩) (fun z => ⟨_, rfl, fun y => (by cases y), fun q y => ⟨fun _ => ?_, fun q z => (by cases z)⟩⟩)⟩) (fun z => ⟨_, rfl, hV.xO, c_X0_holderAt hV hX hI (fun u hu e2 hku => ⟨_, rfl, fun _ => ?_, fun q y => (by cases y)⟩) (fun z2 => ⟨_, rfl, fun _ => ?_, fun q y => (by cases y)⟩)⟩)⟩)
  · subst e
    subst e2
    cases z
    cases z2
    rw [kdI_n ht, kdI_n hu, if_pos ⟨hk, hku⟩, nI_clamp (by omega), nI_clamp (by omega)] at h
    exact lp_commonX hV hX hI ht hk hu hku h 12 0 rfl
  · rw [if_neg (fun y => z y.2)] at h
    exact h
  · rw [if_neg (fun y => z y.1)] at h
    exact h
  · rw [if_neg (fun y => z y.1)] at h
    exact h
/-! counts -/
theorem lp_thingMany (hV : V (l, x, m, sc) w) (hX : XP x a P D) (hI : PI P) (h : QR (some (vI (nI (nTh P)))) w) : ∀ n k, k + n = 20 → wp KX0_thingMany rc rs QR QX 4 [(0, vR (some (L_ad l 0))), (1, vI (nI (cn (fun t => ¬ P_kind P t = -1) k))), (2, vI (nI k))] [] w := by
  intro n
  induction n with
  | zero =>
    intro k hk2
    refine sg_X0_thingMany_4 (lpc (N := 20) rfl (by decide) hk2 (fun _ => ?_) (fun m e => by omega))
    have : k = 20 := by omega
    subst this
    exact h
  | succ n ih =>
    intro k hk2
    have ih1 := ih (k + 1) (by omega)
    refine sg_X0_thingMany_4 (lpc (N := 20) rfl (by decide) hk2 (fun e => by omega) (fun m e hk3 => ⟨_, hV.xf4, _, x_th hV hX hI hk3, fun c => ?_, fun q c => ?_⟩))
    · rw [cn_f (p := fun t => ¬ P_kind P t = -1) (fun z => z (thO_none c))] at ih1
      rw [nI_1, i_0]
      exact ih1
    · rw [cn_t (p := fun t => ¬ P_kind P t = -1) (thO_some c).1] at ih1
      rw [nI_1, nI_1]
      exact ih1
theorem c_X0_thingMany (hV : V (l, x, m, sc) w) (hX : XP x a P D) (hI : PI P) (h : QR (some (vI (nI (nTh P)))) w) : ct KX0_thingMany 0 0 [vR (some (L_ad l 0))] w QR QX :=
  st_X0_thingMany (sg_X0_thingMany_0 (lp_thingMany hV hX hI h 20 0 rfl))
theorem lp_blockMany (hV : V (l, x, m, sc) w) (hX : XP x a P D) (hZ : SZ P) (h : QR (some (vI (nI (nBk P)))) w) : ∀ n k, k + n = 96 → wp KX0_blockMany rc rs QR QX 4 [(0, vR (some (L_ad l 0))), (1, vI (nI (cn (fun b => ¬ P_size P b ≤ 0) k))), (2, vI (nI k))] [] w := by
  intro n
  induction n with
  | zero =>
    intro k hk2
    refine sg_X0_blockMany_4 (lpc (N := 96) rfl (by decide) hk2 (fun _ => ?_) (fun m e => by omega))
    have : k = 96 := by omega
    subst this
    exact h
  | succ n ih =>
    intro k hk2
    have ih1 := ih (k + 1) (by omega)
    refine sg_X0_blockMany_4 (lpc (N := 96) rfl (by decide) hk2 (fun e => by omega) (fun m e hk3 => ⟨_, hV.xf0, _, x_size hV hX hk3, fun c => ?_, fun c => ?_⟩))
    · rw [cn_t (p := fun b => ¬ P_size P b ≤ 0) (fun z => c ((hZ.e hk3).mpr z))] at ih1
      rw [nI_1, nI_1]
      exact ih1
    · rw [cn_f (p := fun b => ¬ P_size P b ≤ 0) (fun z => z ((hZ.e hk3).mp c))] at ih1
      rw [nI_1, i_0]
      exact ih1
theorem c_X0_blockMany (hV : V (l, x, m, sc) w) (hX : XP x a P D) (hZ : SZ P) (h : QR (some (vI (nI (nBk P)))) w) : ct KX0_blockMany 0 0 [vR (some (L_ad l 0))] w QR QX :=
  st_X0_blockMany (sg_X0_blockMany_0 (lp_blockMany hV hX hZ h 96 0 rfl))
theorem lp_sizeOfAll (hV : V (l, x, m, sc) w) (hX : XP x a P D) (h : QR (some (vL (sm (szs P) 96))) w) : ∀ n k, k + n = 96 → wp KX0_sizeOfAll rc rs QR QX 4 [(0, vR (some (L_ad l 0))), (1, vL (sm (szs P) k)), (3, vI (nI k))] [] w := by
  intro n
  induction n with
  | zero =>
    intro k hk2
    refine sg_X0_sizeOfAll_4 (lpc (N := 96) rfl (by decide) hk2 (fun _ => ?_) (fun m e => by omega))
    have : k = 96 := by omega
    subst this
    exact h
  | succ n ih =>
    intro k hk2
    have ih1 := ih (k + 1) (by omega)
    refine sg_X0_sizeOfAll_4 (lpc (N := 96) rfl (by decide) hk2 (fun e => by omega) (fun m e hk3 => ⟨_, hV.xf0, _, x_size hV hX hk3, ?_⟩))
    rw [nI_1]
    exact ih1
theorem c_X0_sizeOfAll (hV : V (l, x, m, sc) w) (hX : XP x a P D) (h : QR (some (vL (sm (szs P) 96))) w) : ct KX0_sizeOfAll 0 0 [vR (some (L_ad l 0))] w QR QX :=
  st_X0_sizeOfAll (sg_X0_sizeOfAll_0 (lp_sizeOfAll hV hX h 96 0 rfl))
theorem c_X0_thenTold (hV : V (l, x, m, sc) w) (hX : XP x a P D) (hI : PI P) (hZ : SZ P) {v fr : Int32} (h : QR (some (vL (if v = 0 then (nI (nTh P)).toInt64 else if v = 1 then (nI (nBk P)).toInt64 else if v = 2 then (P_freed P - fr).toInt64 else sm (szs P) 96))) w) : ct KX0_thenTold 0 0 [vR (some (L_ad l 0)), vI v, vI fr] w QR QX := by
  refine st_X0_thenTold (sg_X0_thenTold_0 ⟨fun c => ⟨hV.xO, c_X0_thingMany hV hX hI ⟨_, rfl, ?_⟩⟩, fun c => ⟨hV.xO, c_X0_blockMany hV hX hZ ⟨_, rfl, ?_⟩⟩, fun c => ⟨_, x_freed hV hX, ?_⟩, fun c0 c1 c2 => ⟨hV.xO, c_X0_sizeOfAll hV hX ⟨_, rfl, ?_⟩⟩⟩)
  · rwa [if_pos c] at h
  · rwa [if_neg (by rw [c]; decide), if_pos c] at h
  · rwa [if_neg (by rw [c]; decide), if_neg (by rw [c]; decide), if_pos c] at h
  · rwa [if_neg c0, if_neg c1, if_neg c2] at h
theorem c_X0_count (hV : V (l, x, m, sc) w) (hX : XP x a P D) (hI : PI P) (hZ : SZ P) {v : Int32} (h : QR (some (vI (r_count P v))) w) : ct KX0_count 0 0 [vR (some (L_ad l 0)), vI v] w QR QX := by
  unfold r_count at h
  refine st_X0_count (sg_X0_count_0 ⟨fun c => ⟨hV.xO, c_X0_thingMany hV hX hI ⟨_, rfl, ?_⟩⟩, fun c => ⟨hV.xO, c_X0_blockMany hV hX hZ ⟨_, rfl, ?_⟩⟩, fun c => ⟨_, x_time hV hX, ?_⟩, fun c => ⟨_, x_freed hV hX, ?_⟩, fun c0 c1 c2 c3 => ?_⟩)
  · rwa [if_pos c] at h
  · rwa [if_neg (by rw [c]; decide), if_pos c] at h
  · rwa [if_neg (by rw [c]; decide), if_neg (by rw [c]; decide), if_pos c] at h
  · rwa [if_neg (by rw [c]; decide), if_neg (by rw [c]; decide), if_neg (by rw [c]; decide), if_pos c] at h
  · rwa [if_neg c0, if_neg c1, if_neg c2, if_neg c3] at h
end XM
