/-! ===== the pool's cells: reading and writing ===== -/
set_option maxRecDepth 100000
section XV
variable {l : LT} {x : XT} {m : MT} {sc : Nat × (Nat → Int32)} {w : aW}
theorem x_other {x' : XT} {n : Nat} (h1 : ∀ z, z < 100 → z ≠ n → xcell (L_ad l) x' z = xcell (L_ad l) x z) (h2 : ∀ z, 100 + z ≠ n → ccell (L_ad l) 100 (X_kept x') z = ccell (L_ad l) 100 (X_kept x) z) (h3 : ∀ z, 200 + z ≠ n → ccell (L_ad l) 200 (X_thought x') z = ccell (L_ad l) 200 (X_thought x) z) : ∀ n', n' ≠ n → scell (l, x', m, sc) n' = scell (l, x, m, sc) n' := by
  intro n' hn
  unfold scell
  by_cases a1 : n' < 100
  · rw [if_pos a1, if_pos a1]
    exact h1 n' a1 hn
  · rw [if_neg a1, if_neg a1]
    by_cases a2 : n' < 200
    · rw [if_pos a2, if_pos a2]
      exact h2 (n' - 100) (by omega)
    · rw [if_neg a2, if_neg a2]
      by_cases a3 : n' < 300
      · rw [if_pos a3, if_pos a3]
        exact h3 (n' - 200) (by omega)
      · rw [if_neg a3, if_neg a3]
        rfl
theorem V.xg (h : V (l, x, m, sc) w) {n : Nat} {c : aCell} (hs : stat n = true) (hc : scell (l, x, m, sc) n = some c) : w (L_ad l n) = some c := h.sget hs hc
theorem V.xf0 (h : V (l, x, m, sc) w) : gf w (L_ad l 0) [0] 0 (vR (some (L_ad l 1))) := ⟨0, _, h.xg (n := 0) (by decide) rfl, List.mem_singleton.mpr rfl, rfl⟩
theorem V.xf1 (h : V (l, x, m, sc) w) : gf w (L_ad l 0) [0] 1 (vR (some (L_ad l 2))) := ⟨0, _, h.xg (n := 0) (by decide) rfl, List.mem_singleton.mpr rfl, rfl⟩
theorem V.xf4 (h : V (l, x, m, sc) w) : gf w (L_ad l 0) [0] 4 (vR (some (L_ad l 3))) := ⟨0, _, h.xg (n := 0) (by decide) rfl, List.mem_singleton.mpr rfl, rfl⟩
theorem V.xf5 (h : V (l, x, m, sc) w) : gf w (L_ad l 0) [0] 5 (vR (some (L_ad l 4))) := ⟨0, _, h.xg (n := 0) (by decide) rfl, List.mem_singleton.mpr rfl, rfl⟩
theorem V.xf6 (h : V (l, x, m, sc) w) : gf w (L_ad l 0) [0] 6 (vR (some (L_ad l 5))) := ⟨0, _, h.xg (n := 0) (by decide) rfl, List.mem_singleton.mpr rfl, rfl⟩
theorem V.xf7 (h : V (l, x, m, sc) w) : gf w (L_ad l 0) [0] 7 (vR (some (L_ad l 6))) := ⟨0, _, h.xg (n := 0) (by decide) rfl, List.mem_singleton.mpr rfl, rfl⟩
theorem V.xf8 (h : V (l, x, m, sc) w) : gf w (L_ad l 0) [0] 8 (vR (some (L_ad l 100))) := ⟨0, _, h.xg (n := 0) (by decide) rfl, List.mem_singleton.mpr rfl, rfl⟩
theorem V.xf9 (h : V (l, x, m, sc) w) : gf w (L_ad l 0) [0] 9 (vR (some (L_ad l 200))) := ⟨0, _, h.xg (n := 0) (by decide) rfl, List.mem_singleton.mpr rfl, rfl⟩
theorem V.xf_time (h : V (l, x, m, sc) w) : gf w (L_ad l 0) [0] 2 (vI (X_time x)) := ⟨0, _, h.xg (n := 0) (by decide) rfl, List.mem_singleton.mpr rfl, rfl⟩
theorem V.xf_freed (h : V (l, x, m, sc) w) : gf w (L_ad l 0) [0] 3 (vI (X_freed x)) := ⟨0, _, h.xg (n := 0) (by decide) rfl, List.mem_singleton.mpr rfl, rfl⟩
theorem V.xf_hasImage (h : V (l, x, m, sc) w) : gf w (L_ad l 0) [0] 10 (vI (X_hasImage x)) := ⟨0, _, h.xg (n := 0) (by decide) rfl, List.mem_singleton.mpr rfl, rfl⟩
theorem V.xO (h : V (l, x, m, sc) w) : isO w (L_ad l 0) 0 := ⟨_, h.xg (n := 0) (by decide) rfl⟩
theorem V.xg_sizes (h : V (l, x, m, sc) w) {i : Int32} (hi : vp_in i 96) : gI w (L_ad l 1) i (X_sizes x i.toNatClampNeg) := ⟨96, _, h.xg (n := 1) (by decide) rfl, hi, rfl⟩
theorem V.xp_sizes (h : V (l, x, m, sc) w) {i v : Int32} {Q : aW → Prop} (hi : vp_in i 96) (k : ∀ w', V (l, X_sizes_ x (upd (X_sizes x) i.toNatClampNeg v), m, sc) w' → Q w') : pI w (L_ad l 1) i v Q := by
  refine ⟨96, _, h.xg (n := 1) (by decide) rfl, hi, k _ ?_⟩
  refine h.sset 1 (by decide) rfl rfl rfl rfl (x_other (fun z hz hn => ?_) (fun z _ => rfl) (fun z _ => rfl)) rfl
  match z, hz, hn with
  | 0, _, hn => rfl
  | 1, _, hn => exact absurd rfl hn
  | 2, _, hn => rfl
  | 3, _, hn => rfl
  | 4, _, hn => rfl
  | 5, _, hn => rfl
  | 6, _, hn => rfl
  | 7, _, hn => rfl
  | 8, _, hn => rfl
  | 9, _, hn => rfl
  | 10, _, hn => rfl
  | _ + 11, _, _ => rfl
theorem V.xg_births (h : V (l, x, m, sc) w) {i : Int32} (hi : vp_in i 96) : gI w (L_ad l 2) i (X_births x i.toNatClampNeg) := ⟨96, _, h.xg (n := 2) (by decide) rfl, hi, rfl⟩
theorem V.xp_births (h : V (l, x, m, sc) w) {i v : Int32} {Q : aW → Prop} (hi : vp_in i 96) (k : ∀ w', V (l, X_births_ x (upd (X_births x) i.toNatClampNeg v), m, sc) w' → Q w') : pI w (L_ad l 2) i v Q := by
  refine ⟨96, _, h.xg (n := 2) (by decide) rfl, hi, k _ ?_⟩
  refine h.sset 2 (by decide) rfl rfl rfl rfl (x_other (fun z hz hn => ?_) (fun z _ => rfl) (fun z _ => rfl)) rfl
  match z, hz, hn with
  | 0, _, hn => rfl
  | 1, _, hn => rfl
  | 2, _, hn => exact absurd rfl hn
  | 3, _, hn => rfl
  | 4, _, hn => rfl
  | 5, _, hn => rfl
  | 6, _, hn => rfl
  | 7, _, hn => rfl
  | 8, _, hn => rfl
  | 9, _, hn => rfl
  | 10, _, hn => rfl
  | _ + 11, _, _ => rfl
theorem V.xg_merged (h : V (l, x, m, sc) w) {i : Int32} (hi : vp_in i 24) : gI w (L_ad l 4) i (X_merged x i.toNatClampNeg) := ⟨24, _, h.xg (n := 4) (by decide) rfl, hi, rfl⟩
theorem V.xp_merged (h : V (l, x, m, sc) w) {i v : Int32} {Q : aW → Prop} (hi : vp_in i 24) (k : ∀ w', V (l, X_merged_ x (upd (X_merged x) i.toNatClampNeg v), m, sc) w' → Q w') : pI w (L_ad l 4) i v Q := by
  refine ⟨24, _, h.xg (n := 4) (by decide) rfl, hi, k _ ?_⟩
  refine h.sset 4 (by decide) rfl rfl rfl rfl (x_other (fun z hz hn => ?_) (fun z _ => rfl) (fun z _ => rfl)) rfl
  match z, hz, hn with
  | 0, _, hn => rfl
  | 1, _, hn => rfl
  | 2, _, hn => rfl
  | 3, _, hn => rfl
  | 4, _, hn => exact absurd rfl hn
  | 5, _, hn => rfl
  | 6, _, hn => rfl
  | 7, _, hn => rfl
  | 8, _, hn => rfl
  | 9, _, hn => rfl
  | 10, _, hn => rfl
  | _ + 11, _, _ => rfl
theorem V.xg_things (h : V (l, x, m, sc) w) {i : Int32} (hi : vp_in i 20) : gR w (L_ad l 3) 2 i (X_things x i.toNatClampNeg) := ⟨20, _, h.xg (n := 3) (by decide) rfl, hi, rfl⟩
theorem V.xp_things (h : V (l, x, m, sc) w) {i : Int32} {v : Option Nat} {Q : aW → Prop} (hi : vp_in i 20) (k : ∀ w', V (l, X_things_ x (va_up (X_things x) i.toNatClampNeg v), m, sc) w' → Q w') : pR w (L_ad l 3) 2 i v Q := by
  refine ⟨20, _, h.xg (n := 3) (by decide) rfl, hi, k _ ?_⟩
  refine h.sset 3 (by decide) rfl rfl rfl rfl (x_other (fun z hz hn => ?_) (fun z _ => rfl) (fun z _ => rfl)) rfl
  match z, hz, hn with
  | 0, _, hn => rfl
  | 1, _, hn => rfl
  | 2, _, hn => rfl
  | 3, _, hn => exact absurd rfl hn
  | 4, _, hn => rfl
  | 5, _, hn => rfl
  | 6, _, hn => rfl
  | 7, _, hn => rfl
  | 8, _, hn => rfl
  | 9, _, hn => rfl
  | 10, _, hn => rfl
  | _ + 11, _, _ => rfl
theorem V.xg_own (h : V (l, x, m, sc) w) {i : Int32} (hi : vp_in i 20) : gR w (L_ad l 5) 3 i (X_own x i.toNatClampNeg) := ⟨20, _, h.xg (n := 5) (by decide) rfl, hi, rfl⟩
theorem V.xp_own (h : V (l, x, m, sc) w) {i : Int32} {v : Option Nat} {Q : aW → Prop} (hi : vp_in i 20) (k : ∀ w', V (l, X_own_ x (va_up (X_own x) i.toNatClampNeg v), m, sc) w' → Q w') : pR w (L_ad l 5) 3 i v Q := by
  refine ⟨20, _, h.xg (n := 5) (by decide) rfl, hi, k _ ?_⟩
  refine h.sset 5 (by decide) rfl rfl rfl rfl (x_other (fun z hz hn => ?_) (fun z _ => rfl) (fun z _ => rfl)) rfl
  match z, hz, hn with
  | 0, _, hn => rfl
  | 1, _, hn => rfl
  | 2, _, hn => rfl
  | 3, _, hn => rfl
  | 4, _, hn => rfl
  | 5, _, hn => exact absurd rfl hn
  | 6, _, hn => rfl
  | 7, _, hn => rfl
  | 8, _, hn => rfl
  | 9, _, hn => rfl
  | 10, _, hn => rfl
  | _ + 11, _, _ => rfl
theorem V.xpf_time (h : V (l, x, m, sc) w) {v : Int32} {Q : aW → Prop} (k : ∀ w', V (l, X_time_ x v, m, sc) w' → Q w') : pf w (L_ad l 0) [0] 2 (vI v) Q := by
  refine ⟨0, _, h.xg (n := 0) (by decide) rfl, List.mem_singleton.mpr rfl, by show 2 < 11; decide, k _ ?_⟩
  refine h.sset 0 (by decide) rfl rfl rfl rfl (x_other (fun z hz hn => ?_) (fun z _ => rfl) (fun z _ => rfl)) rfl
  match z, hz, hn with
  | 0, _, hn => exact absurd rfl hn
  | 1, _, hn => rfl
  | 2, _, hn => rfl
  | 3, _, hn => rfl
  | 4, _, hn => rfl
  | 5, _, hn => rfl
  | 6, _, hn => rfl
  | 7, _, hn => rfl
  | 8, _, hn => rfl
  | 9, _, hn => rfl
  | 10, _, hn => rfl
  | _ + 11, _, _ => rfl
theorem V.xpf_freed (h : V (l, x, m, sc) w) {v : Int32} {Q : aW → Prop} (k : ∀ w', V (l, X_freed_ x v, m, sc) w' → Q w') : pf w (L_ad l 0) [0] 3 (vI v) Q := by
  refine ⟨0, _, h.xg (n := 0) (by decide) rfl, List.mem_singleton.mpr rfl, by show 3 < 11; decide, k _ ?_⟩
  refine h.sset 0 (by decide) rfl rfl rfl rfl (x_other (fun z hz hn => ?_) (fun z _ => rfl) (fun z _ => rfl)) rfl
  match z, hz, hn with
  | 0, _, hn => exact absurd rfl hn
  | 1, _, hn => rfl
  | 2, _, hn => rfl
  | 3, _, hn => rfl
  | 4, _, hn => rfl
  | 5, _, hn => rfl
  | 6, _, hn => rfl
  | 7, _, hn => rfl
  | 8, _, hn => rfl
  | 9, _, hn => rfl
  | 10, _, hn => rfl
  | _ + 11, _, _ => rfl
theorem V.xpf_hasImage (h : V (l, x, m, sc) w) {v : Int32} {Q : aW → Prop} (k : ∀ w', V (l, X_hasImage_ x v, m, sc) w' → Q w') : pf w (L_ad l 0) [0] 10 (vI v) Q := by
  refine ⟨0, _, h.xg (n := 0) (by decide) rfl, List.mem_singleton.mpr rfl, by show 10 < 11; decide, k _ ?_⟩
  refine h.sset 0 (by decide) rfl rfl rfl rfl (x_other (fun z hz hn => ?_) (fun z _ => rfl) (fun z _ => rfl)) rfl
  match z, hz, hn with
  | 0, _, hn => exact absurd rfl hn
  | 1, _, hn => rfl
  | 2, _, hn => rfl
  | 3, _, hn => rfl
  | 4, _, hn => rfl
  | 5, _, hn => rfl
  | 6, _, hn => rfl
  | 7, _, hn => rfl
  | 8, _, hn => rfl
  | 9, _, hn => rfl
  | 10, _, hn => rfl
  | _ + 11, _, _ => rfl
theorem V.xg_sheet (h : V (l, x, m, sc) w) {i : Int32} (hi : vp_in i 4) : gR w (L_ad l 6) 4 i (some (L_ad l (7 + i.toNatClampNeg))) := ⟨4, _, h.xg (n := 6) (by decide) rfl, hi, rfl⟩
theorem V.xf_row (h : V (l, x, m, sc) w) {s : Nat} (hs : s < 4) : gf w (L_ad l (7 + s)) [1] 0 (vR (X_rows x s)) := by
  match s, hs with
  | 0, _ => exact ⟨1, _, h.xg (n := 7) (by decide) rfl, List.mem_singleton.mpr rfl, rfl⟩
  | 1, _ => exact ⟨1, _, h.xg (n := 8) (by decide) rfl, List.mem_singleton.mpr rfl, rfl⟩
  | 2, _ => exact ⟨1, _, h.xg (n := 9) (by decide) rfl, List.mem_singleton.mpr rfl, rfl⟩
  | 3, _ => exact ⟨1, _, h.xg (n := 10) (by decide) rfl, List.mem_singleton.mpr rfl, rfl⟩
theorem V.xpf_row (h : V (l, x, m, sc) w) {s : Nat} (hs : s < 4) {v : Option Nat} {Q : aW → Prop} (k : ∀ w', V (l, X_rows_ x (fset (X_rows x) s v), m, sc) w' → Q w') : pf w (L_ad l (7 + s)) [1] 0 (vR v) Q := by
  match s, hs with
  | 0, _ =>
    refine ⟨1, _, h.xg (n := 7) (by decide) rfl, List.mem_singleton.mpr rfl, by show 0 < 1; decide, k _ ?_⟩
    refine h.sset 7 (by decide) rfl rfl rfl rfl (x_other (fun z hz hn => ?_) (fun z _ => rfl) (fun z _ => rfl)) rfl
    match z, hz, hn with
    | 0, _, hn => rfl
    | 1, _, hn => rfl
    | 2, _, hn => rfl
    | 3, _, hn => rfl
    | 4, _, hn => rfl
    | 5, _, hn => rfl
    | 6, _, hn => rfl
    | 7, _, hn => exact absurd rfl hn
    | 8, _, hn => rfl
    | 9, _, hn => rfl
    | 10, _, hn => rfl
    | _ + 11, _, _ => rfl
  | 1, _ =>
    refine ⟨1, _, h.xg (n := 8) (by decide) rfl, List.mem_singleton.mpr rfl, by show 0 < 1; decide, k _ ?_⟩
    refine h.sset 8 (by decide) rfl rfl rfl rfl (x_other (fun z hz hn => ?_) (fun z _ => rfl) (fun z _ => rfl)) rfl
    match z, hz, hn with
    | 0, _, hn => rfl
    | 1, _, hn => rfl
    | 2, _, hn => rfl
    | 3, _, hn => rfl
    | 4, _, hn => rfl
    | 5, _, hn => rfl
    | 6, _, hn => rfl
    | 7, _, hn => rfl
    | 8, _, hn => exact absurd rfl hn
    | 9, _, hn => rfl
    | 10, _, hn => rfl
    | _ + 11, _, _ => rfl
  | 2, _ =>
    refine ⟨1, _, h.xg (n := 9) (by decide) rfl, List.mem_singleton.mpr rfl, by show 0 < 1; decide, k _ ?_⟩
    refine h.sset 9 (by decide) rfl rfl rfl rfl (x_other (fun z hz hn => ?_) (fun z _ => rfl) (fun z _ => rfl)) rfl
    match z, hz, hn with
    | 0, _, hn => rfl
    | 1, _, hn => rfl
    | 2, _, hn => rfl
    | 3, _, hn => rfl
    | 4, _, hn => rfl
    | 5, _, hn => rfl
    | 6, _, hn => rfl
    | 7, _, hn => rfl
    | 8, _, hn => rfl
    | 9, _, hn => exact absurd rfl hn
    | 10, _, hn => rfl
    | _ + 11, _, _ => rfl
  | 3, _ =>
    refine ⟨1, _, h.xg (n := 10) (by decide) rfl, List.mem_singleton.mpr rfl, by show 0 < 1; decide, k _ ?_⟩
    refine h.sset 10 (by decide) rfl rfl rfl rfl (x_other (fun z hz hn => ?_) (fun z _ => rfl) (fun z _ => rfl)) rfl
    match z, hz, hn with
    | 0, _, hn => rfl
    | 1, _, hn => rfl
    | 2, _, hn => rfl
    | 3, _, hn => rfl
    | 4, _, hn => rfl
    | 5, _, hn => rfl
    | 6, _, hn => rfl
    | 7, _, hn => rfl
    | 8, _, hn => rfl
    | 9, _, hn => rfl
    | 10, _, hn => exact absurd rfl hn
    | _ + 11, _, _ => rfl
/-! holders -/
theorem V.mk {g g' : GT} (h : V g w) {q : Nat} {c : aCell} (hL : LO g') (hw : ∀ p d, Wc g' p = some d → (p = q ∧ d = c) ∨ (p ≠ q ∧ Wc g p = some d)) : V g' (aup w q c) := by
  refine ⟨hL, fun p d hp => ?_⟩
  rcases hw p d hp with ⟨rfl, rfl⟩ | ⟨h1, h2⟩
  · rw [aup_self]
  · rw [aup_ne h1]
    exact h.2 p d h2
/-- what isn't known may be changed -/
theorem V.nw {g : GT} (h : V g w) {q : Nat} {c : aCell} (hq : Wc g q = none) : V g (aup w q c) := h.mk h.1 (fun p d hp => Or.inr ⟨fun e => (by rw [e, hq] at hp; cases hp), hp⟩)
theorem V.nowh {g : GT} (h : V g w) {q : Nat} (hq : w q = none) : Wc g q = none := by
  cases e : Wc g q with
  | none => rfl
  | some c =>
    have := h.2 q c e
    rw [hq] at this
    cases this
theorem Wc_d {g : GT} {a : Nat} (h : ¬ g_ga g a < 1000) : Wc g a = dcell g a := if_neg h
theorem V.ho (h : V (l, x, m, sc) w) {a : Nat} {r : RT} (hr : X_H x a = some r) : w a = some (.inr (R_ci r, hobj r)) := by
  obtain ⟨h1, -⟩ := h.1.2.1 a r hr
  refine h.2 a _ ?_
  rw [Wc_d (by rw [h1]; omega)]
  unfold dcell
  rw [h1]
  show (X_H x a).map _ = _
  rw [hr]
  rfl
theorem V.hsl (h : V (l, x, m, sc) w) {a : Nat} {r : RT} (hr : X_H x a = some r) : w (R_sa r) = some (cInts 12 (R_slots r)) := by
  obtain ⟨h1, h2, h3, -⟩ := h.1.2.1 a r hr
  refine h.2 _ _ ?_
  rw [Wc_d (by rw [h2]; omega)]
  unfold dcell
  rw [h2, h3]
  show (X_H x a).bind _ = _
  rw [hr]
  exact if_pos rfl
theorem V.hde (h : V (l, x, m, sc) w) {a : Nat} {r : RT} (hr : X_H x a = some r) : w (R_da r) = some (cInts 12 (R_dead r)) := by
  obtain ⟨h1, h2, h3, h4, h5, -⟩ := h.1.2.1 a r hr
  refine h.2 _ _ ?_
  rw [Wc_d (by rw [h4]; omega)]
  unfold dcell
  rw [h4, h5]
  show (X_H x a).bind _ = _
  rw [hr]
  exact if_pos rfl
theorem V.bm (h : V (l, x, m, sc) w) {a : Nat} {v : Int32} (hr : X_B x a = some v) : w a = some (.inr (8, [vI v])) := by
  have h1 := h.1.2.2.1 a v hr
  refine h.2 a _ ?_
  rw [Wc_d (by rw [h1]; omega)]
  unfold dcell
  rw [h1]
  show (X_B x a).map _ = _
  rw [hr]
  rfl
theorem V.wr (h : V (l, x, m, sc) w) {a : Nat} {y : Nat × ((Nat → Int32) ⊕ (Nat → Int64))} (hr : X_W x a = some y) : w a = some (rcell y) := by
  have h1 := h.1.2.2.2 a y hr
  refine h.2 a _ ?_
  rw [Wc_d (by rw [h1]; omega)]
  unfold dcell
  rw [h1]
  show (X_W x a).map _ = _
  rw [hr]
  rfl
end XV
