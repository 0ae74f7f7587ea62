/-! ===== the pool holds the common state P, with dead lists D; a: addresses of objects, of rows of slots, of rows of the dead ===== -/
set_option maxRecDepth 100000
abbrev AT : Type := (Nat → Nat) × (Nat → Nat) × (Nat → Nat)
abbrev DT : Type := Nat → List Nat
def pO (a : AT) (v : Int32) : Option Nat := if v = -1 then none else some (a.1 v.toNatClampNeg)
theorem pO_m {a : AT} {v : Int32} (h : v = -1) : pO a v = none := if_pos h
theorem pO_n {a : AT} {v : Int32} {p : Nat} (h : v = nI p) (hp : p < 20) : pO a v = some (a.1 p) := by
  unfold pO
  rw [h, if_neg (m1_ne p (by omega)), nI_clamp (by omega)]
def ciK (k : Int32) : Nat := k.toNatClampNeg + 4
def cIn (k : Int32) (cs : List Nat) : Prop := hK k ∧ ciK k ∈ cs
theorem cI_h {k : Int32} (h : hK k) : cIn k [4, 5, 6, 7] := by
  refine ⟨h, ?_⟩
  rcases h with (h | h) | (h | h) <;> (rw [h]; decide)
theorem cI_h8 {k : Int32} (h : hK k) : cIn k [4, 5, 6, 7, 8] := by
  refine ⟨h, ?_⟩
  rcases h with (h | h) | (h | h) <;> (rw [h]; decide)
theorem cI_f {k : Int32} (h : fK k) : cIn k [4, 5] := by
  refine ⟨Or.inl h, ?_⟩
  rcases h with h | h <;> (rw [h]; decide)
theorem cI_s {k : Int32} (h : sK k) : cIn k [6, 7] := by
  refine ⟨Or.inr h, ?_⟩
  rcases h with h | h <;> (rw [h]; decide)
theorem cI_1 {k : Int32} (h : k = 1) : cIn k [5] := by
  refine ⟨Or.inl (Or.inr h), ?_⟩
  rw [h]; decide
theorem cI_3 {k : Int32} (h : k = 3) : cIn k [7] := by
  refine ⟨Or.inr (Or.inr h), ?_⟩
  rw [h]; decide
def HR (a : AT) (P : PT) (D : DT) (t : Nat) (r : RT) : Prop :=
  R_ci r = ciK (P_kind P t) ∧ R_made r = P_made P t ∧ R_sa r = a.2.1 t ∧ R_da r = a.2.2 t ∧ R_deadMany r = nI (D t).length ∧ R_number r = nI t ∧ R_prev r = pO a (P_prev P t) ∧ (sK (P_kind P t) → R_owner r = pO a (P_owner P t)) ∧ (P_kind P t = 1 → R_qt r = P_quota P t) ∧ (P_kind P t = 3 → R_qt r = P_tags P t) ∧ (∀ k, k < 12 → R_slots r k = P_slot P t k) ∧ (D t).length ≤ 12 ∧ (∀ i, i < (D t).length → R_dead r i = nI (gD (D t) i))
def XP (x : XT) (a : AT) (P : PT) (D : DT) : Prop :=
  X_time x = P_time P ∧ X_freed x = P_freed P ∧ (∀ b, b < 96 → X_sizes x b = P_size P b) ∧ (∀ b, b < 96 → X_births x b = P_birth P b) ∧ (∀ t, t < 20 → P_kind P t = -1 → X_things x t = none) ∧ (∀ t, t < 20 → P_kind P t = 4 → X_things x t = some (a.1 t) ∧ X_B x (a.1 t) = some (P_made P t)) ∧ (∀ t, t < 20 → hK (P_kind P t) → X_things x t = some (a.1 t) ∧ ∃ r, X_H x (a.1 t) = some r ∧ HR a P D t r)
/-- kinds, prevs, owners, slots are what they may be -/
def PI (P : PT) : Prop := (∀ t, t < 20 → P_kind P t = -1 ∨ P_kind P t = 4 ∨ hK (P_kind P t)) ∧ (∀ t, t < 20 → hK (P_kind P t) → P_prev P t = -1 ∨ ∃ p : Nat, p < 20 ∧ P_prev P t = nI p ∧ sK (P_kind P p)) ∧ (∀ t, t < 20 → sK (P_kind P t) → ∃ f : Nat, f < 20 ∧ P_owner P t = nI f ∧ fK (P_kind P f)) ∧ SO P
/-- what else stays: copies, sheets, and of each object what never changes -/
def XF (x x' : XT) : Prop := X_kept x' = X_kept x ∧ X_thought x' = X_thought x ∧ X_rows x' = X_rows x ∧ X_hasImage x' = X_hasImage x ∧ X_W x' = X_W x ∧ (∀ q r, X_H x q = some r → ∃ r', X_H x' q = some r' ∧ R_ci r' = R_ci r ∧ R_made r' = R_made r ∧ R_sa r' = R_sa r ∧ R_da r' = R_da r ∧ R_number r' = R_number r ∧ (R_ci r = 5 → R_qt r' = R_qt r)) ∧ (∀ q v, X_B x q = some v → X_B x' q = some v)
theorem XF.rf (x : XT) : XF x x := ⟨rfl, rfl, rfl, rfl, rfl, fun q r h => ⟨r, h, rfl, rfl, rfl, rfl, rfl, fun _ => rfl⟩, fun q v h => h⟩
theorem XF.tr {x y z : XT} (h : XF x y) (k : XF y z) : XF x z := by
  refine ⟨k.1.trans h.1, k.2.1.trans h.2.1, k.2.2.1.trans h.2.2.1, k.2.2.2.1.trans h.2.2.2.1, k.2.2.2.2.1.trans h.2.2.2.2.1, fun q r hr => ?_, fun q v hv => k.2.2.2.2.2.2 q v (h.2.2.2.2.2.2 q v hv)⟩
  obtain ⟨r1, h1, a1, a2, a3, a4, a5, a6⟩ := h.2.2.2.2.2.1 q r hr
  obtain ⟨r2, h2, b1, b2, b3, b4, b5, b6⟩ := k.2.2.2.2.2.1 q r1 h1
  exact ⟨r2, h2, b1.trans a1, b2.trans a2, b3.trans a3, b4.trans a4, b5.trans a5, fun e => (b6 (a1.trans e)).trans (a6 e)⟩
def XK (x x' : XT) : Prop := XF x x' ∧ X_own x' = X_own x
theorem XK.rf (x : XT) : XK x x := ⟨XF.rf x, rfl⟩
theorem XK.tr {x y z : XT} (h : XK x y) (k : XK y z) : XK x z := ⟨h.1.tr k.1, k.2.trans h.2⟩
def thO (a : AT) (P : PT) (t : Nat) : Option Nat := if P_kind P t = -1 then none else some (a.1 t)
theorem kd_ne {k : Int32} (h : hK k) : ¬ k = 4 := by rcases h with (h | h) | (h | h) <;> (rw [h]; decide)
theorem f_ns {k : Int32} (h : fK k) : ¬ sK k := by rcases h with h | h <;> (rw [h]; decide)
section XQ
variable {l : LT} {x : XT} {m : MT} {sc : Nat × (Nat → Int32)} {w : aW} {a : AT} {P : PT} {D : DT} {t u : Nat} {cs : List Nat}
theorem XP.h (hX : XP x a P D) (ht : t < 20) (hk : hK (P_kind P t)) : ∃ r, X_H x (a.1 t) = some r ∧ HR a P D t r := (hX.2.2.2.2.2.2 t ht hk).2
theorem HR.c {r : RT} (h : HR a P D t r) (hc : cIn (P_kind P t) cs) : R_ci r ∈ cs := by rw [h.1]; exact hc.2
theorem XP.inj (hX : XP x a P D) (ht : t < 20) (hu : u < 20) (hk : hK (P_kind P t)) (hku : hK (P_kind P u)) (e : a.1 t = a.1 u) : t = u := by
  obtain ⟨r, h1, h2⟩ := hX.h ht hk
  obtain ⟨r', h3, h4⟩ := hX.h hu hku
  rw [e, h3] at h1
  cases h1
  have := h2.2.2.2.2.2.1.symm.trans h4.2.2.2.2.2.1
  exact (nI_eq (by omega) (by omega)).mp this
theorem PI.k (hI : PI P) (ht : t < 20) : P_kind P t = -1 ∨ P_kind P t = 4 ∨ hK (P_kind P t) := hI.1 t ht
theorem PI.p (hI : PI P) (ht : t < 20) (hk : hK (P_kind P t)) : P_prev P t = -1 ∨ ∃ p : Nat, p < 20 ∧ P_prev P t = nI p ∧ sK (P_kind P p) := hI.2.1 t ht hk
theorem PI.o (hI : PI P) (ht : t < 20) (hk : sK (P_kind P t)) : ∃ f : Nat, f < 20 ∧ P_owner P t = nI f ∧ fK (P_kind P f) := hI.2.2.1 t ht hk
theorem PI.s (hI : PI P) : SO P := hI.2.2.2
theorem XP.th (hX : XP x a P D) (hI : PI P) (ht : t < 20) : X_things x t = thO a P t := by
  unfold thO
  rcases hI.k ht with h | h | h
  · rw [if_pos h]
    exact hX.2.2.2.2.1 t ht h
  · rw [if_neg (by rw [h]; decide)]
    exact (hX.2.2.2.2.2.1 t ht h).1
  · rw [if_neg (hK_m1 h)]
    exact (hX.2.2.2.2.2.2 t ht h).1
theorem x_th (hV : V (l, x, m, sc) w) (hX : XP x a P D) (hI : PI P) (ht : t < 20) : gR w (L_ad l 3) 2 (nI t) (thO a P t) := by
  have := hV.xg_things (i := nI t) (vp_in_nI ht (by decide))
  rw [nI_clamp (by omega), hX.th hI ht] at this
  exact this
theorem x_size (hV : V (l, x, m, sc) w) (hX : XP x a P D) {b : Nat} (hb : b < 96) : gI w (L_ad l 1) (nI b) (P_size P b) := by
  have := hV.xg_sizes (i := nI b) (vp_in_nI hb (by decide))
  rw [nI_clamp (by omega), hX.2.2.1 b hb] at this
  exact this
theorem x_birth (hV : V (l, x, m, sc) w) (hX : XP x a P D) {b : Nat} (hb : b < 96) : gI w (L_ad l 2) (nI b) (P_birth P b) := by
  have := hV.xg_births (i := nI b) (vp_in_nI hb (by decide))
  rw [nI_clamp (by omega), hX.2.2.2.1 b hb] at this
  exact this
theorem x_time (hV : V (l, x, m, sc) w) (hX : XP x a P D) : gf w (L_ad l 0) [0] 2 (vI (P_time P)) := by
  have := hV.xf_time
  rw [hX.1] at this
  exact this
theorem x_freed (hV : V (l, x, m, sc) w) (hX : XP x a P D) : gf w (L_ad l 0) [0] 3 (vI (P_freed P)) := by
  have := hV.xf_freed
  rw [hX.2.1] at this
  exact this
theorem x_made (hV : V (l, x, m, sc) w) (hX : XP x a P D) (ht : t < 20) (hc : cIn (P_kind P t) cs) : gf w (a.1 t) cs 0 (vI (P_made P t)) := by
  obtain ⟨r, h1, h2⟩ := hX.h ht hc.1
  have := hV.hf_made h1 (h2.c hc)
  rw [h2.2.1] at this
  exact this
theorem x_sa (hV : V (l, x, m, sc) w) (hX : XP x a P D) (ht : t < 20) (hc : cIn (P_kind P t) cs) : gf w (a.1 t) cs 1 (vR (some (a.2.1 t))) := by
  obtain ⟨r, h1, h2⟩ := hX.h ht hc.1
  have := hV.hf_sa h1 (h2.c hc)
  rw [h2.2.2.1] at this
  exact this
theorem x_da (hV : V (l, x, m, sc) w) (hX : XP x a P D) (ht : t < 20) (hc : cIn (P_kind P t) cs) : gf w (a.1 t) cs 2 (vR (some (a.2.2 t))) := by
  obtain ⟨r, h1, h2⟩ := hX.h ht hc.1
  have := hV.hf_da h1 (h2.c hc)
  rw [h2.2.2.2.1] at this
  exact this
theorem x_dm (hV : V (l, x, m, sc) w) (hX : XP x a P D) (ht : t < 20) (hc : cIn (P_kind P t) cs) : gf w (a.1 t) cs 3 (vI (nI (D t).length)) := by
  obtain ⟨r, h1, h2⟩ := hX.h ht hc.1
  have := hV.hf_deadMany h1 (h2.c hc)
  rw [h2.2.2.2.2.1] at this
  exact this
theorem x_num (hV : V (l, x, m, sc) w) (hX : XP x a P D) (ht : t < 20) (hc : cIn (P_kind P t) cs) : gf w (a.1 t) cs 4 (vI (nI t)) := by
  obtain ⟨r, h1, h2⟩ := hX.h ht hc.1
  have := hV.hf_number h1 (h2.c hc)
  rw [h2.2.2.2.2.2.1] at this
  exact this
theorem x_prev (hV : V (l, x, m, sc) w) (hX : XP x a P D) (ht : t < 20) (hc : cIn (P_kind P t) cs) : gf w (a.1 t) cs 5 (vR (pO a (P_prev P t))) := by
  obtain ⟨r, h1, h2⟩ := hX.h ht hc.1
  have := hV.hf_prev h1 (h2.c hc)
  rw [h2.2.2.2.2.2.2.1] at this
  exact this
theorem x_prevN (hV : V (l, x, m, sc) w) (hX : XP x a P D) (ht : t < 20) (hc : cIn (P_kind P t) cs) (e : P_prev P t = -1) : gf w (a.1 t) cs 5 (vR none) := by
  have := x_prev hV hX ht hc
  rw [pO_m e] at this
  exact this
theorem x_prevS (hV : V (l, x, m, sc) w) (hX : XP x a P D) (ht : t < 20) (hc : cIn (P_kind P t) cs) {p : Nat} (hp : p < 20) (e : P_prev P t = nI p) : gf w (a.1 t) cs 5 (vR (some (a.1 p))) := by
  have := x_prev hV hX ht hc
  rw [pO_n e hp] at this
  exact this
theorem ci_s {k : Int32} (h : sK k) : ciK k = 6 ∨ ciK k = 7 := by
  rcases h with h | h
  · left; rw [h]; decide
  · right; rw [h]; decide
theorem x_owner (hV : V (l, x, m, sc) w) (hX : XP x a P D) (ht : t < 20) (hs : sK (P_kind P t)) (hc : cIn (P_kind P t) cs) {f : Nat} (hf : f < 20) (e : P_owner P t = nI f) : gf w (a.1 t) cs 6 (vR (some (a.1 f))) := by
  obtain ⟨r, h1, h2⟩ := hX.h ht hc.1
  have := hV.hf_owner h1 (by rw [h2.1]; exact ci_s hs) (h2.c hc)
  rw [h2.2.2.2.2.2.2.2.1 hs, pO_n e hf] at this
  exact this
theorem x_quota (hV : V (l, x, m, sc) w) (hX : XP x a P D) (ht : t < 20) (hs : P_kind P t = 1) (hc : cIn (P_kind P t) cs) : gf w (a.1 t) cs 6 (vI (P_quota P t)) := by
  obtain ⟨r, h1, h2⟩ := hX.h ht hc.1
  have := hV.hf_quota h1 (by rw [h2.1, hs]; decide) (h2.c hc)
  rw [h2.2.2.2.2.2.2.2.2.1 hs] at this
  exact this
theorem x_tags (hV : V (l, x, m, sc) w) (hX : XP x a P D) (ht : t < 20) (hs : P_kind P t = 3) (hc : cIn (P_kind P t) cs) : gf w (a.1 t) cs 7 (vI (P_tags P t)) := by
  obtain ⟨r, h1, h2⟩ := hX.h ht hc.1
  have := hV.hf_tags h1 (by rw [h2.1, hs]; decide) (h2.c hc)
  rw [h2.2.2.2.2.2.2.2.2.2.1 hs] at this
  exact this
theorem x_slot (hV : V (l, x, m, sc) w) (hX : XP x a P D) (ht : t < 20) (hk : hK (P_kind P t)) {k : Nat} (h : k < 12) : gI w (a.2.1 t) (nI k) (P_slot P t k) := by
  obtain ⟨r, h1, h2⟩ := hX.h ht hk
  have := hV.hg_slots h1 (i := nI k) (vp_in_nI h (by decide))
  rw [nI_clamp (by omega), h2.2.2.2.2.2.2.2.2.2.2.1 k h, h2.2.2.1] at this
  exact this
theorem x_dead (hV : V (l, x, m, sc) w) (hX : XP x a P D) (ht : t < 20) (hk : hK (P_kind P t)) {i : Nat} (h : i < (D t).length) : gI w (a.2.2 t) (nI i) (nI (gD (D t) i)) := by
  obtain ⟨r, h1, h2⟩ := hX.h ht hk
  have hl := h2.2.2.2.2.2.2.2.2.2.2.2.1
  have := hV.hg_dead h1 (i := nI i) (vp_in_nI (by omega) (by decide))
  rw [nI_clamp (by omega), h2.2.2.2.2.2.2.2.2.2.2.2.2 i h, h2.2.2.2.1] at this
  exact this
theorem XP.dl (hX : XP x a P D) (ht : t < 20) (hk : hK (P_kind P t)) : (D t).length ≤ 12 := by
  obtain ⟨r, h1, h2⟩ := hX.h ht hk
  exact h2.2.2.2.2.2.2.2.2.2.2.2.1
theorem x_ck (hV : V (l, x, m, sc) w) (hX : XP x a P D) (ht : t < 20) (hc : cIn (P_kind P t) cs) : ck w (a.1 t) cs := by
  obtain ⟨r, h1, h2⟩ := hX.h ht hc.1
  exact hV.hck h1 (h2.c hc)
theorem x_O (hV : V (l, x, m, sc) w) (hX : XP x a P D) (ht : t < 20) (hk : hK (P_kind P t)) {c : Nat} (hc : ciK (P_kind P t) = c) : isO w (a.1 t) c := by
  obtain ⟨r, h1, h2⟩ := hX.h ht hk
  exact hV.hO h1 (h2.1.trans hc)
theorem x_bck (hV : V (l, x, m, sc) w) (hX : XP x a P D) (ht : t < 20) (hk : P_kind P t = 4) (hc : 8 ∈ cs) : ck w (a.1 t) cs := hV.bck (hX.2.2.2.2.2.1 t ht hk).2 hc
theorem x_bm (hV : V (l, x, m, sc) w) (hX : XP x a P D) (ht : t < 20) (hk : P_kind P t = 4) : gf w (a.1 t) [8] 0 (vI (P_made P t)) := hV.bf (hX.2.2.2.2.2.1 t ht hk).2
/-! writes -/
def SmT (P P' : PT) (D D' : DT) (t : Nat) : Prop := P_time P' = P_time P ∧ P_freed P' = P_freed P ∧ P_size P' = P_size P ∧ P_birth P' = P_birth P ∧ P_kind P' = P_kind P ∧ P_made P' = P_made P ∧ ∀ u, u ≠ t → P_prev P' u = P_prev P u ∧ P_owner P' u = P_owner P u ∧ P_quota P' u = P_quota P u ∧ P_tags P' u = P_tags P u ∧ P_slot P' u = P_slot P u ∧ D' u = D u
theorem HR.cg {P' : PT} {D' : DT} {r : RT} (h : HR a P D u r) (e1 : P_kind P' u = P_kind P u) (e2 : P_made P' u = P_made P u) (e3 : P_prev P' u = P_prev P u) (e4 : P_owner P' u = P_owner P u) (e5 : P_quota P' u = P_quota P u) (e6 : P_tags P' u = P_tags P u) (e7 : P_slot P' u = P_slot P u) (e8 : D' u = D u) : HR a P' D' u r := by
  unfold HR
  rw [e1, e2, e3, e4, e5, e6, e7, e8]
  exact h
theorem XP.hup (hX : XP x a P D) (ht : t < 20) (hk : hK (P_kind P t)) {r' : RT} {P' : PT} {D' : DT} (hs : SmT P P' D D' t) (hr : HR a P' D' t r') : XP (X_H_ x (fset (X_H x) (a.1 t) (some r'))) a P' D' := by
  obtain ⟨s1, s2, s3, s4, s5, s6, s7⟩ := hs
  refine ⟨hX.1.trans s1.symm, hX.2.1.trans s2.symm, ?_, ?_, ?_, ?_, ?_⟩
  · rw [s3]; exact hX.2.2.1
  · rw [s4]; exact hX.2.2.2.1
  · rw [s5]; exact hX.2.2.2.2.1
  · rw [s5, s6]; exact hX.2.2.2.2.2.1
  · intro u hu hku
    rw [s5] at hku
    obtain ⟨h1, r, h2, h3⟩ := hX.2.2.2.2.2.2 u hu hku
    refine ⟨h1, ?_⟩
    by_cases e : u = t
    · subst e
      exact ⟨r', fset_s, hr⟩
    · obtain ⟨b1, b2, b3, b4, b5, b6⟩ := s7 u e
      refine ⟨r, ?_, h3.cg (by rw [s5]) (by rw [s6]) b1 b2 b3 b4 b5 b6⟩
      show fset (X_H x) (a.1 t) (some r') (a.1 u) = some r
      rw [fset_n (fun z => e (hX.inj hu ht hku hk z))]
      exact h2
theorem XK.hup {q : Nat} {r r' : RT} (hr : X_H x q = some r) (e1 : R_ci r' = R_ci r) (e2 : R_made r' = R_made r) (e3 : R_sa r' = R_sa r) (e4 : R_da r' = R_da r) (e5 : R_number r' = R_number r) (e6 : R_ci r = 5 → R_qt r' = R_qt r) : XK x (X_H_ x (fset (X_H x) q (some r'))) := by
  refine ⟨⟨rfl, rfl, rfl, rfl, rfl, fun p s hs => ?_, fun _ _ h => h⟩, rfl⟩
  show ∃ s', fset (X_H x) q (some r') p = some s' ∧ _
  by_cases e : p = q
  · subst e
    rw [hr] at hs
    cases hs
    exact ⟨r', fset_s, e1, e2, e3, e4, e5, e6⟩
  · exact ⟨s, by rw [fset_n e]; exact hs, rfl, rfl, rfl, rfl, rfl, fun _ => rfl⟩
theorem w_slot (hV : V (l, x, m, sc) w) (hX : XP x a P D) (ht : t < 20) (hk : hK (P_kind P t)) {k : Nat} (hk2 : k < 12) {v : Int32} {Q : aW → Prop} (K : ∀ x' w', V (l, x', m, sc) w' → XP x' a (P_slot_ P (fset2 (P_slot P) t k v)) D → XK x x' → Q w') : pI w (a.2.1 t) (nI k) v Q := by
  obtain ⟨r, h1, h2⟩ := hX.h ht hk
  have e := h2.2.2.1
  rw [← e]
  refine hV.hp_slots h1 (vp_in_nI hk2 (by decide)) (fun w' h' => K _ w' h' ?_ (XK.hup h1 rfl rfl rfl rfl rfl (fun _ => rfl)))
  obtain ⟨a1, a2, a3, a4, a5, a6, a7, a8, a9, a10, a11, a12, a13⟩ := h2
  refine hX.hup ht hk ⟨rfl, rfl, rfl, rfl, rfl, rfl, fun u hu => ⟨rfl, rfl, rfl, rfl, ?_, rfl⟩⟩ ⟨a1, a2, a3, a4, a5, a6, a7, a8, a9, a10, fun j hj => ?_, a12, a13⟩
  · show fset2 (P_slot P) t k v u = P_slot P u
    funext j
    exact fset2_n (fun z => hu z.1)
  · show upd (R_slots r) (nI k).toNatClampNeg v j = fset2 (P_slot P) t k v t j
    rw [nI_clamp (by omega)]
    by_cases e : j = k
    · subst e
      rw [vpu, fset2_s]
    · rw [fset2_n (fun z => e z.2)]
      exact (pk_un e).trans (a11 j hj)
/-- dead lists: whatever list the row then holds -/
theorem w_dm (hV : V (l, x, m, sc) w) (hX : XP x a P D) (ht : t < 20) (hc : cIn (P_kind P t) cs) {n : Nat} (hn : n ≤ (D t).length) {Q : aW → Prop} (K : ∀ x' w', V (l, x', m, sc) w' → XP x' a P (fset D t ((D t).take n)) → XK x x' → Q w') : pf w (a.1 t) cs 3 (vI (nI n)) Q := by
  obtain ⟨r, h1, h2⟩ := hX.h ht hc.1
  refine hV.hpf_deadMany h1 (h2.c hc) (fun w' h' => K _ w' h' ?_ (XK.hup h1 rfl rfl rfl rfl rfl (fun _ => rfl)))
  obtain ⟨a1, a2, a3, a4, a5, a6, a7, a8, a9, a10, a11, a12, a13⟩ := h2
  have hl : ((D t).take n).length = n := by rw [List.length_take]; omega
  refine hX.hup ht hc.1 ⟨rfl, rfl, rfl, rfl, rfl, rfl, fun u hu => ⟨rfl, rfl, rfl, rfl, rfl, fset_n hu⟩⟩ ⟨a1, a2, a3, a4, ?_, a6, a7, a8, a9, a10, a11, ?_, ?_⟩
  · show nI n = nI (fset D t ((D t).take n) t).length
    rw [fset_s, hl]
  · rw [fset_s, hl]; omega
  · rw [fset_s, hl]
    intro i hi
    show R_dead r i = _
    rw [a13 i (by omega)]
    unfold gD
    rw [List.getD_eq_getElem?_getD, List.getD_eq_getElem?_getD, List.getElem?_take_of_lt hi]
theorem w_prev (hV : V (l, x, m, sc) w) (hX : XP x a P D) (ht : t < 20) (hc : cIn (P_kind P t) cs) {v : Int32} {vo : Option Nat} (hv : vo = pO a v) {Q : aW → Prop} (K : ∀ x' w', V (l, x', m, sc) w' → XP x' a (P_prev_ P (fset (P_prev P) t v)) D → XK x x' → Q w') : pf w (a.1 t) cs 5 (vR vo) Q := by
  obtain ⟨r, h1, h2⟩ := hX.h ht hc.1
  refine hV.hpf_prev h1 (h2.c hc) (fun w' h' => K _ w' h' ?_ (XK.hup h1 rfl rfl rfl rfl rfl (fun _ => rfl)))
  obtain ⟨a1, a2, a3, a4, a5, a6, a7, a8, a9, a10, a11, a12, a13⟩ := h2
  refine hX.hup ht hc.1 ⟨rfl, rfl, rfl, rfl, rfl, rfl, fun u hu => ⟨fset_n hu, rfl, rfl, rfl, rfl, rfl⟩⟩ ⟨a1, a2, a3, a4, a5, a6, ?_, a8, a9, a10, a11, a12, a13⟩
  show vo = pO a (fset (P_prev P) t v t)
  rw [fset_s]
  exact hv
theorem w_owner (hV : V (l, x, m, sc) w) (hX : XP x a P D) (ht : t < 20) (hs : sK (P_kind P t)) (hc : cIn (P_kind P t) cs) {v : Int32} {vo : Option Nat} (hv : vo = pO a v) {Q : aW → Prop} (K : ∀ x' w', V (l, x', m, sc) w' → XP x' a (P_owner_ P (fset (P_owner P) t v)) D → XK x x' → Q w') : pf w (a.1 t) cs 6 (vR vo) Q := by
  obtain ⟨r, h1, h2⟩ := hX.h ht hc.1
  refine hV.hpf_owner h1 (by rw [h2.1]; exact ci_s hs) (h2.c hc) (fun w' h' => K _ w' h' ?_ (XK.hup h1 rfl rfl rfl rfl rfl (fun _ => rfl)))
  obtain ⟨a1, a2, a3, a4, a5, a6, a7, a8, a9, a10, a11, a12, a13⟩ := h2
  refine hX.hup ht hc.1 ⟨rfl, rfl, rfl, rfl, rfl, rfl, fun u hu => ⟨rfl, fset_n hu, rfl, rfl, rfl, rfl⟩⟩ ⟨a1, a2, a3, a4, a5, a6, a7, fun _ => ?_, a9, a10, a11, a12, a13⟩
  show vo = pO a (fset (P_owner P) t v t)
  rw [fset_s]
  exact hv
theorem w_tags (hV : V (l, x, m, sc) w) (hX : XP x a P D) (ht : t < 20) (hs : P_kind P t = 3) (hc : cIn (P_kind P t) cs) {v : Int32} {Q : aW → Prop} (K : ∀ x' w', V (l, x', m, sc) w' → XP x' a (P_tags_ P (fset (P_tags P) t v)) D → XK x x' → Q w') : pf w (a.1 t) cs 7 (vI v) Q := by
  obtain ⟨r, h1, h2⟩ := hX.h ht hc.1
  have h7 : R_ci r = 7 := by rw [h2.1, hs]; decide
  refine hV.hpf_tags h1 h7 (h2.c hc) (fun w' h' => K _ w' h' ?_ (XK.hup h1 rfl rfl rfl rfl rfl (fun e => by rw [h7] at e; omega)))
  obtain ⟨a1, a2, a3, a4, a5, a6, a7, a8, a9, a10, a11, a12, a13⟩ := h2
  refine hX.hup ht hc.1 ⟨rfl, rfl, rfl, rfl, rfl, rfl, fun u hu => ⟨rfl, rfl, rfl, fset_n hu, rfl, rfl⟩⟩ ⟨a1, a2, a3, a4, a5, a6, a7, a8, fun e => ?_, fun _ => ?_, a11, a12, a13⟩
  · have e' : P_kind P t = 1 := e
    rw [hs] at e'
    exact absurd e' (by decide)
  · show v = fset (P_tags P) t v t
    rw [fset_s]
theorem w_size (hV : V (l, x, m, sc) w) (hX : XP x a P D) {b : Nat} (hb : b < 96) {v : Int32} {Q : aW → Prop} (K : ∀ x' w', V (l, x', m, sc) w' → XP x' a (P_size_ P (fset (P_size P) b v)) D → XK x x' → Q w') : pI w (L_ad l 1) (nI b) v Q := by
  refine hV.xp_sizes (vp_in_nI hb (by decide)) (fun w' h' => K _ w' h' ⟨hX.1, hX.2.1, fun c hc => ?_, hX.2.2.2.1, hX.2.2.2.2.1, hX.2.2.2.2.2.1, hX.2.2.2.2.2.2⟩ ⟨⟨rfl, rfl, rfl, rfl, rfl, fun q r h => ⟨r, h, rfl, rfl, rfl, rfl, rfl, fun _ => rfl⟩, fun q v h => h⟩, rfl⟩)
  show upd (X_sizes x) (nI b).toNatClampNeg v c = fset (P_size P) b v c
  rw [nI_clamp (by omega)]
  by_cases e : c = b
  · subst e
    rw [vpu, fset_s]
  · rw [fset_n e]
    exact (pk_un e).trans (hX.2.2.1 c hc)
theorem w_birth (hV : V (l, x, m, sc) w) (hX : XP x a P D) {b : Nat} (hb : b < 96) {v : Int32} {Q : aW → Prop} (K : ∀ x' w', V (l, x', m, sc) w' → XP x' a (P_birth_ P (fset (P_birth P) b v)) D → XK x x' → Q w') : pI w (L_ad l 2) (nI b) v Q := by
  refine hV.xp_births (vp_in_nI hb (by decide)) (fun w' h' => K _ w' h' ⟨hX.1, hX.2.1, hX.2.2.1, fun c hc => ?_, hX.2.2.2.2.1, hX.2.2.2.2.2.1, hX.2.2.2.2.2.2⟩ ⟨⟨rfl, rfl, rfl, rfl, rfl, fun q r h => ⟨r, h, rfl, rfl, rfl, rfl, rfl, fun _ => rfl⟩, fun q v h => h⟩, rfl⟩)
  show upd (X_births x) (nI b).toNatClampNeg v c = fset (P_birth P) b v c
  rw [nI_clamp (by omega)]
  by_cases e : c = b
  · subst e
    rw [vpu, fset_s]
  · rw [fset_n e]
    exact (pk_un e).trans (hX.2.2.2.1 c hc)
theorem w_time (hV : V (l, x, m, sc) w) (hX : XP x a P D) {v : Int32} {Q : aW → Prop} (K : ∀ x' w', V (l, x', m, sc) w' → XP x' a (P_time_ P v) D → XK x x' → Q w') : pf w (L_ad l 0) [0] 2 (vI v) Q :=
  hV.xpf_time (fun w' h' => K _ w' h' ⟨rfl, hX.2⟩ ⟨⟨rfl, rfl, rfl, rfl, rfl, fun q r h => ⟨r, h, rfl, rfl, rfl, rfl, rfl, fun _ => rfl⟩, fun q v h => h⟩, rfl⟩)
theorem w_freed (hV : V (l, x, m, sc) w) (hX : XP x a P D) {v : Int32} {Q : aW → Prop} (K : ∀ x' w', V (l, x', m, sc) w' → XP x' a (P_freed_ P v) D → XK x x' → Q w') : pf w (L_ad l 0) [0] 3 (vI v) Q :=
  hV.xpf_freed (fun w' h' => K _ w' h' ⟨hX.1, rfl, hX.2.2⟩ ⟨⟨rfl, rfl, rfl, rfl, rfl, fun q r h => ⟨r, h, rfl, rfl, rfl, rfl, rfl, fun _ => rfl⟩, fun q v h => h⟩, rfl⟩)
theorem w_rm (hV : V (l, x, m, sc) w) (hX : XP x a P D) (ht : t < 20) {Q : aW → Prop} (K : ∀ x' w', V (l, x', m, sc) w' → XP x' a (P_kind_ P (fset (P_kind P) t (-1))) D → XK x x' → X_H x' = X_H x → Q w') : pR w (L_ad l 3) 2 (nI t) none Q := by
  refine hV.xp_things (vp_in_nI ht (by decide)) (fun w' h' => K _ w' h' ⟨hX.1, hX.2.1, hX.2.2.1, hX.2.2.2.1, fun u hu hk => ?_, fun u hu hk => ?_, fun u hu hk => ?_⟩ ⟨⟨rfl, rfl, rfl, rfl, rfl, fun q r h => ⟨r, h, rfl, rfl, rfl, rfl, rfl, fun _ => rfl⟩, fun q v h => h⟩, rfl⟩ rfl)
  · show (if u = (nI t).toNatClampNeg then none else X_things x u) = none
    rw [nI_clamp (by omega)]
    by_cases e : u = t
    · exact if_pos e
    · rw [if_neg e]
      have hk' : fset (P_kind P) t (-1) u = -1 := hk
      rw [fset_n e] at hk'
      exact hX.2.2.2.2.1 u hu hk'
  · have hk' : fset (P_kind P) t (-1) u = 4 := hk
    by_cases e : u = t
    · subst e
      rw [fset_s] at hk'
      exact absurd hk' (by decide)
    · rw [fset_n e] at hk'
      obtain ⟨h1, h2⟩ := hX.2.2.2.2.2.1 u hu hk'
      refine ⟨?_, h2⟩
      show (if u = (nI t).toNatClampNeg then none else X_things x u) = _
      rw [nI_clamp (by omega), if_neg e]
      exact h1
  · have hk' : hK (fset (P_kind P) t (-1) u) := hk
    by_cases e : u = t
    · subst e
      rw [fset_s] at hk'
      exact absurd hk' (by decide)
    · rw [fset_n e] at hk'
      obtain ⟨h1, r, h2, h3⟩ := hX.2.2.2.2.2.2 u hu hk'
      refine ⟨?_, r, h2, h3.cg (fset_n e) rfl rfl rfl rfl rfl rfl rfl⟩
      show (if u = (nI t).toNatClampNeg then none else X_things x u) = _
      rw [nI_clamp (by omega), if_neg e]
      exact h1
/-! new objects -/
theorem stat_some {g : GT} {n : Nat} (h : stat n = true) : ∃ c, scell g n = some c := by
  simp only [stat, Bool.or_eq_true, Bool.and_eq_true, decide_eq_true_eq] at h
  unfold scell
  have hcc : ∀ (b : Nat) (c : CT) (z : Nat), z < 50 → ∃ y, ccell (g_ad g) b c z = some y := by
    intro b c z hz
    match z, hz with
    | 0, _ => exact ⟨_, rfl⟩
    | 1, _ => exact ⟨_, rfl⟩
    | 2, _ => exact ⟨_, rfl⟩
    | 3, _ => exact ⟨_, rfl⟩
    | 4, _ => exact ⟨_, rfl⟩
    | 5, _ => exact ⟨_, rfl⟩
    | 6, _ => exact ⟨_, rfl⟩
    | 7, _ => exact ⟨_, rfl⟩
    | 8, _ => exact ⟨_, rfl⟩
    | 9, _ => exact ⟨_, rfl⟩
    | k + 10, hz =>
      show ∃ y, (if k < 20 then some (cInts 12 (C_slots c k)) else if k < 40 then some (cInts 12 (C_dead c (k - 20))) else none) = some y
      by_cases e : k < 20
      · rw [if_pos e]; exact ⟨_, rfl⟩
      · rw [if_neg e, if_pos (by omega)]; exact ⟨_, rfl⟩
  by_cases h1 : n < 100
  · rw [if_pos h1]
    have hz : n ≤ 10 := by omega
    match n, hz with
    | 0, _ => exact ⟨_, rfl⟩
    | 1, _ => exact ⟨_, rfl⟩
    | 2, _ => exact ⟨_, rfl⟩
    | 3, _ => exact ⟨_, rfl⟩
    | 4, _ => exact ⟨_, rfl⟩
    | 5, _ => exact ⟨_, rfl⟩
    | 6, _ => exact ⟨_, rfl⟩
    | 7, _ => exact ⟨_, rfl⟩
    | 8, _ => exact ⟨_, rfl⟩
    | 9, _ => exact ⟨_, rfl⟩
    | 10, _ => exact ⟨_, rfl⟩
  · rw [if_neg h1]
    by_cases h2 : n < 200
    · rw [if_pos h2]
      exact hcc _ _ _ (by omega)
    · rw [if_neg h2]
      by_cases h3 : n < 300
      · rw [if_pos h3]
        exact hcc _ _ _ (by omega)
      · rw [if_neg h3]
        by_cases h4 : n < 400
        · rw [if_pos h4, if_pos (by omega)]
          exact ⟨_, rfl⟩
        · rw [if_neg h4]
          have hz : n - 400 < 10 := by omega
          generalize n - 400 = z at hz
          match z, hz with
          | 0, _ => exact ⟨_, rfl⟩
          | 1, _ => exact ⟨_, rfl⟩
          | 2, _ => exact ⟨_, rfl⟩
          | 3, _ => exact ⟨_, rfl⟩
          | 4, _ => exact ⟨_, rfl⟩
          | 5, _ => exact ⟨_, rfl⟩
          | 6, _ => exact ⟨_, rfl⟩
          | 7, _ => exact ⟨_, rfl⟩
          | 8, _ => exact ⟨_, rfl⟩
          | 9, _ => exact ⟨_, rfl⟩
theorem LO.st {g : GT} (h : LO g) {n : Nat} (hs : stat n = true) : ¬ Wc g (g_ad g n) = none := by
  intro e
  unfold Wc at e
  rw [h.1 n hs] at e
  have hl : n < 1000 := by
    simp only [stat, Bool.or_eq_true, Bool.and_eq_true, decide_eq_true_eq] at hs
    omega
  rw [if_pos hl, if_pos rfl] at e
  obtain ⟨c, hc⟩ := stat_some (g := g) hs
  rw [hc] at e
  cases e
theorem LO.ho {g : GT} (h : LO g) {q : Nat} {r : RT} (hr : X_H (G_X g) q = some r) : ¬ Wc g q = none ∧ ¬ Wc g (R_sa r) = none ∧ ¬ Wc g (R_da r) = none := by
  obtain ⟨h1, h2, h3, h4, h5, -⟩ := h.2.1 q r hr
  refine ⟨fun e => ?_, fun e => ?_, fun e => ?_⟩
  · rw [Wc_d (by rw [h1]; omega)] at e
    unfold dcell at e
    rw [h1] at e
    have e' : (X_H (G_X g) q).map (fun r => (Sum.inr (R_ci r, hobj r) : aCell)) = none := e
    rw [hr] at e'
    cases e'
  · rw [Wc_d (by rw [h2]; omega)] at e
    unfold dcell at e
    rw [h2, h3] at e
    have e' : (X_H (G_X g) q).bind (fun r' => if R_sa r' = R_sa r then some (cInts 12 (R_slots r')) else none) = none := e
    rw [hr] at e'
    have e2 : (if R_sa r = R_sa r then some (cInts 12 (R_slots r)) else none) = none := e'
    rw [if_pos rfl] at e2
    cases e2
  · rw [Wc_d (by rw [h4]; omega)] at e
    unfold dcell at e
    rw [h4, h5] at e
    have e' : (X_H (G_X g) q).bind (fun r' => if R_da r' = R_da r then some (cInts 12 (R_dead r')) else none) = none := e
    rw [hr] at e'
    have e2 : (if R_da r = R_da r then some (cInts 12 (R_dead r)) else none) = none := e'
    rw [if_pos rfl] at e2
    cases e2
theorem LO.bm {g : GT} (h : LO g) {q : Nat} {v : Int32} (hr : X_B (G_X g) q = some v) : ¬ Wc g q = none := by
  have h1 := h.2.2.1 q v hr
  intro e
  rw [Wc_d (by rw [h1]; omega)] at e
  unfold dcell at e
  rw [h1] at e
  have e' : (X_B (G_X g) q).map (fun m => (Sum.inr (8, [vI m]) : aCell)) = none := e
  rw [hr] at e'
  cases e'
theorem LO.wr {g : GT} (h : LO g) {q : Nat} {y : Nat × ((Nat → Int32) ⊕ (Nat → Int64))} (hr : X_W (G_X g) q = some y) : ¬ Wc g q = none := by
  have h1 := h.2.2.2 q y hr
  intro e
  rw [Wc_d (by rw [h1]; omega)] at e
  unfold dcell at e
  rw [h1] at e
  have e' : (X_W (G_X g) q).map rcell = none := e
  rw [hr] at e'
  cases e'
theorem V.hn (hV : V (l, x, m, sc) w) {q : Nat} (hq : Wc (l, x, m, sc) q = none) : X_H x q = none := by
  cases e : X_H x q with
  | none => rfl
  | some r => exact absurd hq (hV.1.ho (g := (l, x, m, sc)) e).1
theorem V.newH (hV : V (l, x, m, sc) w) {r : RT} {q : Nat} (hq : Wc (l, x, m, sc) q = none) (h1 : Wc (l, x, m, sc) (R_sa r) = none) (h2 : Wc (l, x, m, sc) (R_da r) = none) (n1 : q ≠ R_sa r) (n2 : q ≠ R_da r) (n3 : R_sa r ≠ R_da r) (hc : 4 ≤ R_ci r ∧ R_ci r ≤ 7) (w1 : w q = some (.inr (R_ci r, hobj r))) (w2 : w (R_sa r) = some (cInts 12 (R_slots r))) (w3 : w (R_da r) = some (cInts 12 (R_dead r))) : ∃ l', L_ad l' = L_ad l ∧ V (l', X_H_ x (fset (X_H x) q (some r)), m, sc) w := by
  have L := hV.1
  have hn := hV.hn hq
  let ga : Nat → Nat := fun z => if z = q then 1000 else if z = R_sa r then 1001 else if z = R_da r then 1002 else L_ga l z
  let hb : Nat → Nat := fun z => if z = R_sa r then q else if z = R_da r then q else L_hb l z
  have gk : ∀ z, ¬ Wc (l, x, m, sc) z = none → ga z = L_ga l z ∧ hb z = L_hb l z ∧ z ≠ q := by
    intro z hz
    have z1 : z ≠ q := fun e => hz (by rw [e]; exact hq)
    have z2 : z ≠ R_sa r := fun e => hz (by rw [e]; exact h1)
    have z3 : z ≠ R_da r := fun e => hz (by rw [e]; exact h2)
    refine ⟨?_, ?_, z1⟩
    · show (if z = q then 1000 else if z = R_sa r then 1001 else if z = R_da r then 1002 else L_ga l z) = L_ga l z
      rw [if_neg z1, if_neg z2, if_neg z3]
    · show (if z = R_sa r then q else if z = R_da r then q else L_hb l z) = L_hb l z
      rw [if_neg z2, if_neg z3]
  have gq : ga q = 1000 := if_pos rfl
  have gs1 : ga (R_sa r) = 1001 := by
    show (if R_sa r = q then 1000 else if R_sa r = R_sa r then 1001 else _) = 1001
    rw [if_neg (fun e => n1 e.symm), if_pos rfl]
  have gs2 : ga (R_da r) = 1002 := by
    show (if R_da r = q then 1000 else if R_da r = R_sa r then 1001 else if R_da r = R_da r then 1002 else _) = 1002
    rw [if_neg (fun e => n2 e.symm), if_neg (fun e => n3 e.symm), if_pos rfl]
  have hb1 : hb (R_sa r) = q := if_pos rfl
  have hb2 : hb (R_da r) = q := by
    show (if R_da r = R_sa r then q else if R_da r = R_da r then q else _) = q
    rw [if_neg (fun e => n3 e.symm), if_pos rfl]
  refine ⟨(ga, hb, L_ad l), rfl, ⟨fun n hs => ?_, fun c s hcs => ?_, fun c v hv => ?_, fun c v hv => ?_⟩, fun p d hp => ?_⟩
  · show ga (L_ad l n) = n
    rw [show ga (L_ad l n) = L_ga l (L_ad l n) from (gk _ (L.st hs)).1]
    exact L.1 n hs
  · have hcs' : fset (X_H x) q (some r) c = some s := hcs
    show ga c = 1000 ∧ ga (R_sa s) = 1001 ∧ hb (R_sa s) = c ∧ ga (R_da s) = 1002 ∧ hb (R_da s) = c ∧ 4 ≤ R_ci s ∧ R_ci s ≤ 7
    by_cases e : c = q
    · subst e
      rw [fset_s] at hcs'
      cases hcs'
      exact ⟨gq, gs1, hb1, gs2, hb2, hc⟩
    · rw [fset_n e] at hcs'
      obtain ⟨z1, z2, z3⟩ := L.ho (g := (l, x, m, sc)) hcs'
      rw [(gk _ z1).1, (gk _ z2).1, (gk _ z3).1, (gk _ z2).2.1, (gk _ z3).2.1]
      exact L.2.1 c s hcs'
  · show ga c = 1003
    rw [(gk _ (L.bm (g := (l, x, m, sc)) hv)).1]
    exact L.2.2.1 c v hv
  · show ga c = 1004
    rw [(gk _ (L.wr (g := (l, x, m, sc)) hv)).1]
    exact L.2.2.2 c v hv
  · by_cases e1 : p = q
    · subst e1
      have hp' : dcell ((ga, hb, L_ad l), X_H_ x (fset (X_H x) p (some r)), m, sc) p = some d := by
        rw [← Wc_d (by show ¬ ga p < 1000; rw [gq]; omega)]
        exact hp
      unfold dcell at hp'
      have eg : g_ga ((ga, hb, L_ad l), X_H_ x (fset (X_H x) p (some r)), m, sc) p = 1000 := gq
      rw [eg] at hp'
      have hp2 : (fset (X_H x) p (some r) p).map (fun r => (Sum.inr (R_ci r, hobj r) : aCell)) = some d := hp'
      rw [fset_s] at hp2
      rw [w1]
      exact hp2
    · by_cases e2 : p = R_sa r
      · subst e2
        have hp' : dcell ((ga, hb, L_ad l), X_H_ x (fset (X_H x) q (some r)), m, sc) (R_sa r) = some d := by
          rw [← Wc_d (by show ¬ ga (R_sa r) < 1000; rw [gs1]; omega)]
          exact hp
        unfold dcell at hp'
        have eg : g_ga ((ga, hb, L_ad l), X_H_ x (fset (X_H x) q (some r)), m, sc) (R_sa r) = 1001 := gs1
        have eh : g_hb ((ga, hb, L_ad l), X_H_ x (fset (X_H x) q (some r)), m, sc) (R_sa r) = q := hb1
        rw [eg, eh] at hp'
        have hp2 : (fset (X_H x) q (some r) q).bind (fun r' => if R_sa r' = R_sa r then some (cInts 12 (R_slots r')) else none) = some d := hp'
        rw [fset_s] at hp2
        have hp3 : (if R_sa r = R_sa r then some (cInts 12 (R_slots r)) else none) = some d := hp2
        rw [if_pos rfl] at hp3
        rw [w2]
        exact hp3
      · by_cases e3 : p = R_da r
        · subst e3
          have hp' : dcell ((ga, hb, L_ad l), X_H_ x (fset (X_H x) q (some r)), m, sc) (R_da r) = some d := by
            rw [← Wc_d (by show ¬ ga (R_da r) < 1000; rw [gs2]; omega)]
            exact hp
          unfold dcell at hp'
          have eg : g_ga ((ga, hb, L_ad l), X_H_ x (fset (X_H x) q (some r)), m, sc) (R_da r) = 1002 := gs2
          have eh : g_hb ((ga, hb, L_ad l), X_H_ x (fset (X_H x) q (some r)), m, sc) (R_da r) = q := hb2
          rw [eg, eh] at hp'
          have hp2 : (fset (X_H x) q (some r) q).bind (fun r' => if R_da r' = R_da r then some (cInts 12 (R_dead r')) else none) = some d := hp'
          rw [fset_s] at hp2
          have hp3 : (if R_da r = R_da r then some (cInts 12 (R_dead r)) else none) = some d := hp2
          rw [if_pos rfl] at hp3
          rw [w3]
          exact hp3
        · have eg : ga p = L_ga l p := by
            show (if p = q then 1000 else if p = R_sa r then 1001 else if p = R_da r then 1002 else L_ga l p) = L_ga l p
            rw [if_neg e1, if_neg e2, if_neg e3]
          have eh : hb p = L_hb l p := by
            show (if p = R_sa r then q else if p = R_da r then q else L_hb l p) = L_hb l p
            rw [if_neg e2, if_neg e3]
          refine hV.2 p d ?_
          rw [← hp]
          have g1 : g_ga ((ga, hb, L_ad l), X_H_ x (fset (X_H x) q (some r)), m, sc) p = L_ga l p := eg
          have g2 : g_ga (l, x, m, sc) p = L_ga l p := rfl
          have g3 : g_hb ((ga, hb, L_ad l), X_H_ x (fset (X_H x) q (some r)), m, sc) p = L_hb l p := eh
          have g4 : g_hb (l, x, m, sc) p = L_hb l p := rfl
          unfold Wc
          rw [g1, g2]
          by_cases hlt : L_ga l p < 1000
          · rw [if_pos hlt, if_pos hlt]
            have e5 : scell ((ga, hb, L_ad l), X_H_ x (fset (X_H x) q (some r)), m, sc) (L_ga l p) = scell (l, x, m, sc) (L_ga l p) := rfl
            rw [e5]
            rfl
          · rw [if_neg hlt, if_neg hlt]
            unfold dcell
            rw [g1, g2, g3, g4]
            split
            · show (X_H x p).map _ = (fset (X_H x) q (some r) p).map _
              rw [fset_n e1]
            · next hg =>
              show (X_H x (L_hb l p)).bind _ = (fset (X_H x) q (some r) (L_hb l p)).bind _
              by_cases e6 : L_hb l p = q
              · rw [e6, fset_s, hn]
                show none = (if R_sa r = p then some (cInts 12 (R_slots r)) else none)
                rw [if_neg (fun z => e2 z.symm)]
              · rw [fset_n e6]
            · next hg =>
              show (X_H x (L_hb l p)).bind _ = (fset (X_H x) q (some r) (L_hb l p)).bind _
              by_cases e6 : L_hb l p = q
              · rw [e6, fset_s, hn]
                show none = (if R_da r = p then some (cInts 12 (R_dead r)) else none)
                rw [if_neg (fun z => e3 z.symm)]
              · rw [fset_n e6]
            · rfl
            · rfl
            · rfl
theorem V.newB (hV : V (l, x, m, sc) w) {q : Nat} {v : Int32} (hq : Wc (l, x, m, sc) q = none) (w1 : w q = some (.inr (8, [vI v]))) : ∃ l', L_ad l' = L_ad l ∧ V (l', X_B_ x (fset (X_B x) q (some v)), m, sc) w := by
  have L := hV.1
  let ga : Nat → Nat := fun z => if z = q then 1003 else L_ga l z
  have gk : ∀ z, ¬ Wc (l, x, m, sc) z = none → ga z = L_ga l z := fun z hz => if_neg (fun e => hz (by rw [e]; exact hq))
  have gq : ga q = 1003 := if_pos rfl
  refine ⟨(ga, L_hb l, L_ad l), rfl, ⟨fun n hs => ?_, fun c s hcs => ?_, fun c v' hv => ?_, fun c v' hv => ?_⟩, fun p d hp => ?_⟩
  · show ga (L_ad l n) = n
    rw [show ga (L_ad l n) = L_ga l (L_ad l n) from gk _ (L.st hs)]
    exact L.1 n hs
  · obtain ⟨z1, z2, z3⟩ := L.ho (g := (l, x, m, sc)) hcs
    show ga c = 1000 ∧ ga (R_sa s) = 1001 ∧ L_hb l (R_sa s) = c ∧ ga (R_da s) = 1002 ∧ L_hb l (R_da s) = c ∧ 4 ≤ R_ci s ∧ R_ci s ≤ 7
    rw [gk _ z1, gk _ z2, gk _ z3]
    exact L.2.1 c s hcs
  · have hv' : fset (X_B x) q (some v) c = some v' := hv
    show ga c = 1003
    by_cases e : c = q
    · subst e
      exact gq
    · rw [fset_n e] at hv'
      rw [gk _ (L.bm (g := (l, x, m, sc)) hv')]
      exact L.2.2.1 c v' hv'
  · show ga c = 1004
    rw [gk _ (L.wr (g := (l, x, m, sc)) hv)]
    exact L.2.2.2 c v' hv
  · by_cases e1 : p = q
    · subst e1
      have hp' : dcell ((ga, L_hb l, L_ad l), X_B_ x (fset (X_B x) p (some v)), m, sc) p = some d := by
        rw [← Wc_d (by show ¬ ga p < 1000; rw [gq]; omega)]
        exact hp
      unfold dcell at hp'
      have eg : g_ga ((ga, L_hb l, L_ad l), X_B_ x (fset (X_B x) p (some v)), m, sc) p = 1003 := gq
      rw [eg] at hp'
      have hp2 : (fset (X_B x) p (some v) p).map (fun m => (Sum.inr (8, [vI m]) : aCell)) = some d := hp'
      rw [fset_s] at hp2
      rw [w1]
      exact hp2
    · have eg : ga p = L_ga l p := if_neg e1
      refine hV.2 p d ?_
      rw [← hp]
      have g1 : g_ga ((ga, L_hb l, L_ad l), X_B_ x (fset (X_B x) q (some v)), m, sc) p = L_ga l p := eg
      have g2 : g_ga (l, x, m, sc) p = L_ga l p := rfl
      unfold Wc
      rw [g1, g2]
      by_cases hlt : L_ga l p < 1000
      · rw [if_pos hlt, if_pos hlt]
        have e5 : scell ((ga, L_hb l, L_ad l), X_B_ x (fset (X_B x) q (some v)), m, sc) (L_ga l p) = scell (l, x, m, sc) (L_ga l p) := rfl
        rw [e5]
        rfl
      · rw [if_neg hlt, if_neg hlt]
        unfold dcell
        rw [g1, g2]
        split
        · rfl
        · rfl
        · rfl
        · show (X_B x p).map _ = (fset (X_B x) q (some v) p).map _
          rw [fset_n e1]
        · rfl
        · rfl
theorem V.newW (hV : V (l, x, m, sc) w) {q : Nat} {v : Nat × ((Nat → Int32) ⊕ (Nat → Int64))} (hq : Wc (l, x, m, sc) q = none) (w1 : w q = some (rcell v)) : ∃ l', L_ad l' = L_ad l ∧ V (l', X_W_ x (fset (X_W x) q (some v)), m, sc) w := by
  have L := hV.1
  let ga : Nat → Nat := fun z => if z = q then 1004 else L_ga l z
  have gk : ∀ z, ¬ Wc (l, x, m, sc) z = none → ga z = L_ga l z := fun z hz => if_neg (fun e => hz (by rw [e]; exact hq))
  have gq : ga q = 1004 := if_pos rfl
  refine ⟨(ga, L_hb l, L_ad l), rfl, ⟨fun n hs => ?_, fun c s hcs => ?_, fun c v' hv => ?_, fun c v' hv => ?_⟩, fun p d hp => ?_⟩
  · show ga (L_ad l n) = n
    rw [show ga (L_ad l n) = L_ga l (L_ad l n) from gk _ (L.st hs)]
    exact L.1 n hs
  · obtain ⟨z1, z2, z3⟩ := L.ho (g := (l, x, m, sc)) hcs
    show ga c = 1000 ∧ ga (R_sa s) = 1001 ∧ L_hb l (R_sa s) = c ∧ ga (R_da s) = 1002 ∧ L_hb l (R_da s) = c ∧ 4 ≤ R_ci s ∧ R_ci s ≤ 7
    rw [gk _ z1, gk _ z2, gk _ z3]
    exact L.2.1 c s hcs
  · show ga c = 1003
    rw [gk _ (L.bm (g := (l, x, m, sc)) hv)]
    exact L.2.2.1 c v' hv
  · have hv' : fset (X_W x) q (some v) c = some v' := hv
    show ga c = 1004
    by_cases e : c = q
    · subst e
      exact gq
    · rw [fset_n e] at hv'
      rw [gk _ (L.wr (g := (l, x, m, sc)) hv')]
      exact L.2.2.2 c v' hv'
  · by_cases e1 : p = q
    · subst e1
      have hp' : dcell ((ga, L_hb l, L_ad l), X_W_ x (fset (X_W x) p (some v)), m, sc) p = some d := by
        rw [← Wc_d (by show ¬ ga p < 1000; rw [gq]; omega)]
        exact hp
      unfold dcell at hp'
      have eg : g_ga ((ga, L_hb l, L_ad l), X_W_ x (fset (X_W x) p (some v)), m, sc) p = 1004 := gq
      rw [eg] at hp'
      have hp2 : (fset (X_W x) p (some v) p).map rcell = some d := hp'
      rw [fset_s] at hp2
      rw [w1]
      exact hp2
    · have eg : ga p = L_ga l p := if_neg e1
      refine hV.2 p d ?_
      rw [← hp]
      have g1 : g_ga ((ga, L_hb l, L_ad l), X_W_ x (fset (X_W x) q (some v)), m, sc) p = L_ga l p := eg
      have g2 : g_ga (l, x, m, sc) p = L_ga l p := rfl
      unfold Wc
      rw [g1, g2]
      by_cases hlt : L_ga l p < 1000
      · rw [if_pos hlt, if_pos hlt]
        have e5 : scell ((ga, L_hb l, L_ad l), X_W_ x (fset (X_W x) q (some v)), m, sc) (L_ga l p) = scell (l, x, m, sc) (L_ga l p) := rfl
        rw [e5]
        rfl
      · rw [if_neg hlt, if_neg hlt]
        unfold dcell
        rw [g1, g2]
        split
        · rfl
        · rfl
        · rfl
        · rfl
        · show (X_W x p).map _ = (fset (X_W x) q (some v) p).map _
          rw [fset_n e1]
        · rfl
/-- an object not yet among the things -/
theorem XP.frH (hX : XP x a P D) {q : Nat} (hq : X_H x q = none) {r : RT} : XP (X_H_ x (fset (X_H x) q (some r))) a P D := by
  refine ⟨hX.1, hX.2.1, hX.2.2.1, hX.2.2.2.1, hX.2.2.2.2.1, hX.2.2.2.2.2.1, fun u hu hk => ?_⟩
  obtain ⟨h1, s, h2, h3⟩ := hX.2.2.2.2.2.2 u hu hk
  refine ⟨h1, s, ?_, h3⟩
  show fset (X_H x) q (some r) (a.1 u) = some s
  rw [fset_n (fun e => by rw [e, hq] at h2; cases h2)]
  exact h2
theorem XK.frH {q : Nat} (hq : X_H x q = none) {r : RT} : XK x (X_H_ x (fset (X_H x) q (some r))) := by
  refine ⟨⟨rfl, rfl, rfl, rfl, rfl, fun p s hs => ⟨s, ?_, rfl, rfl, rfl, rfl, rfl, fun _ => rfl⟩, fun _ _ h => h⟩, rfl⟩
  show fset (X_H x) q (some r) p = some s
  rw [fset_n (fun e => by rw [e, hq] at hs; cases hs)]
  exact hs
def NwP (P P' : PT) (D D' : DT) (t : Nat) : Prop := P_time P' = P_time P ∧ P_freed P' = P_freed P ∧ P_size P' = P_size P ∧ P_birth P' = P_birth P ∧ ∀ u, u ≠ t → P_kind P' u = P_kind P u ∧ P_made P' u = P_made P u ∧ P_prev P' u = P_prev P u ∧ P_owner P' u = P_owner P u ∧ P_quota P' u = P_quota P u ∧ P_tags P' u = P_tags P u ∧ P_slot P' u = P_slot P u ∧ D' u = D u
/-- addresses with one more -/
def nwA (a : AT) (t q s1 s2 : Nat) : AT := (fset a.1 t q, fset a.2.1 t s1, fset a.2.2 t s2)
theorem pO_new {t q s1 s2 : Nat} {v : Int32} (h : v = -1 ∨ ∃ p : Nat, p < 20 ∧ v = nI p ∧ p ≠ t) : pO (nwA a t q s1 s2) v = pO a v := by
  rcases h with h | ⟨p, hp, h, hn⟩
  · rw [pO_m h, pO_m h]
  · rw [pO_n h hp, pO_n h hp]
    show some (fset a.1 t q p) = some (a.1 p)
    rw [fset_n hn]
theorem XP.new (hX : XP x a P D) (hI : PI P) (ht : t < 20) (hkt : P_kind P t = -1) {q : Nat} (hq : X_H x q = none) {r : RT} {P' : PT} {D' : DT} (hP : NwP P P' D D' t) (hk' : hK (P_kind P' t)) (hr : HR (nwA a t q (R_sa r) (R_da r)) P' D' t r) : XP (X_things_ (X_H_ x (fset (X_H x) q (some r))) (va_up (X_things x) t (some q))) (nwA a t q (R_sa r) (R_da r)) P' D' := by
  obtain ⟨p1, p2, p3, p4, p5⟩ := hP
  refine ⟨hX.1.trans p1.symm, hX.2.1.trans p2.symm, ?_, ?_, ?_, ?_, ?_⟩
  · rw [p3]; exact hX.2.2.1
  · rw [p4]; exact hX.2.2.2.1
  · intro u hu hk
    show (if u = t then some q else X_things x u) = none
    by_cases e : u = t
    · subst e
      exact absurd hk (hK_m1 hk')
    · rw [if_neg e]
      rw [(p5 u e).1] at hk
      exact hX.2.2.2.2.1 u hu hk
  · intro u hu hk
    by_cases e : u = t
    · subst e
      exact absurd hk (kd_ne hk')
    · rw [(p5 u e).1] at hk
      obtain ⟨h1, h2⟩ := hX.2.2.2.2.2.1 u hu hk
      show (if u = t then some q else X_things x u) = some (fset a.1 t q u) ∧ X_B x (fset a.1 t q u) = some (P_made P' u)
      rw [if_neg e, fset_n e, (p5 u e).2.1]
      exact ⟨h1, h2⟩
  · intro u hu hk
    show (if u = t then some q else X_things x u) = some (fset a.1 t q u) ∧ ∃ r', fset (X_H x) q (some r) (fset a.1 t q u) = some r' ∧ _
    by_cases e : u = t
    · subst e
      rw [if_pos rfl, fset_s, fset_s]
      exact ⟨rfl, r, rfl, hr⟩
    · obtain ⟨c1, c2, c3, c4, c5, c6, c7, c8⟩ := p5 u e
      rw [c1] at hk
      obtain ⟨h1, s, h2, h3⟩ := hX.2.2.2.2.2.2 u hu hk
      rw [if_neg e, fset_n e, fset_n (fun z => by rw [z, hq] at h2; cases h2)]
      refine ⟨h1, s, h2, ?_⟩
      refine HR.cg (P := P) (D := D) ?_ c1 c2 c3 c4 c5 c6 c7 c8
      obtain ⟨a1, a2, a3, a4, a5, a6, a7, a8, a9, a10, a11, a12, a13⟩ := h3
      have nt : ∀ p : Nat, hK (P_kind P p) → p ≠ t := fun p hp z => hK_m1 hp (by rw [z]; exact hkt)
      refine ⟨a1, a2, ?_, ?_, a5, a6, ?_, fun hs => ?_, a9, a10, a11, a12, a13⟩
      · show _ = fset a.2.1 t (R_sa r) u
        rw [fset_n e]
        exact a3
      · show _ = fset a.2.2 t (R_da r) u
        rw [fset_n e]
        exact a4
      · rw [pO_new]
        · exact a7
        · rcases hI.p hu hk with z | ⟨p, hp, z, hs⟩
          · exact Or.inl z
          · exact Or.inr ⟨p, hp, z, nt p (Or.inr hs)⟩
      · rw [pO_new]
        · exact a8 hs
        · obtain ⟨f, hf, z, hfk⟩ := hI.o hu hs
          exact Or.inr ⟨f, hf, z, nt f (Or.inl hfk)⟩
theorem XP.newB (hX : XP x a P D) (hI : PI P) (ht : t < 20) (hkt : P_kind P t = -1) {q : Nat} {v : Int32} (hq : X_B x q = none) {P' : PT} (hP : NwP P P' D D t) (hk' : P_kind P' t = 4) (hm : P_made P' t = v) : XP (X_things_ (X_B_ x (fset (X_B x) q (some v))) (va_up (X_things x) t (some q))) (nwA a t q 0 0) P' D := by
  obtain ⟨p1, p2, p3, p4, p5⟩ := hP
  refine ⟨hX.1.trans p1.symm, hX.2.1.trans p2.symm, ?_, ?_, ?_, ?_, ?_⟩
  · rw [p3]; exact hX.2.2.1
  · rw [p4]; exact hX.2.2.2.1
  · intro u hu hk
    show (if u = t then some q else X_things x u) = none
    by_cases e : u = t
    · subst e
      rw [hk'] at hk
      exact absurd hk (by decide)
    · rw [if_neg e]
      rw [(p5 u e).1] at hk
      exact hX.2.2.2.2.1 u hu hk
  · intro u hu hk
    show (if u = t then some q else X_things x u) = some (fset a.1 t q u) ∧ fset (X_B x) q (some v) (fset a.1 t q u) = some (P_made P' u)
    by_cases e : u = t
    · subst e
      rw [if_pos rfl, fset_s, fset_s, hm]
      exact ⟨rfl, rfl⟩
    · rw [(p5 u e).1] at hk
      obtain ⟨h1, h2⟩ := hX.2.2.2.2.2.1 u hu hk
      rw [if_neg e, fset_n e, (p5 u e).2.1, fset_n (fun z => by rw [z, hq] at h2; cases h2)]
      exact ⟨h1, h2⟩
  · intro u hu hk
    show (if u = t then some q else X_things x u) = some (fset a.1 t q u) ∧ ∃ r', X_H x (fset a.1 t q u) = some r' ∧ _
    by_cases e : u = t
    · subst e
      rw [hk'] at hk
      exact absurd hk (by decide)
    · obtain ⟨c1, c2, c3, c4, c5, c6, c7, c8⟩ := p5 u e
      rw [c1] at hk
      obtain ⟨h1, s, h2, h3⟩ := hX.2.2.2.2.2.2 u hu hk
      rw [if_neg e, fset_n e]
      refine ⟨h1, s, h2, ?_⟩
      refine HR.cg (P := P) (D := D) ?_ c1 c2 c3 c4 c5 c6 c7 c8
      obtain ⟨a1, a2, a3, a4, a5, a6, a7, a8, a9, a10, a11, a12, a13⟩ := h3
      have nt : ∀ p : Nat, hK (P_kind P p) → p ≠ t := fun p hp z => hK_m1 hp (by rw [z]; exact hkt)
      refine ⟨a1, a2, ?_, ?_, a5, a6, ?_, fun hs => ?_, a9, a10, a11, a12, a13⟩
      · show _ = fset a.2.1 t 0 u
        rw [fset_n e]
        exact a3
      · show _ = fset a.2.2 t 0 u
        rw [fset_n e]
        exact a4
      · rw [pO_new]
        · exact a7
        · rcases hI.p hu hk with z | ⟨p, hp, z, hs⟩
          · exact Or.inl z
          · exact Or.inr ⟨p, hp, z, nt p (Or.inr hs)⟩
      · rw [pO_new]
        · exact a8 hs
        · obtain ⟨f, hf, z, hfk⟩ := hI.o hu hs
          exact Or.inr ⟨f, hf, z, nt f (Or.inl hfk)⟩
end XQ
