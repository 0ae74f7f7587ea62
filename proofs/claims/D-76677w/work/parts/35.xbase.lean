/-! ===== the pool's changes, below: objects made, slots taken, the dead put in order ===== -/
set_option maxRecDepth 100000
def xh (x : XT) (q : Nat) (r : RT) : XT := X_H_ x (fset (X_H x) q (some r))
theorem xh_h {x : XT} {q : Nat} {r : RT} : X_H (xh x q r) q = some r := fset_s
theorem xh_o {x : XT} {q p : Nat} {r : RT} (h : p ≠ q) : X_H (xh x q r) p = X_H x p := fset_n h
theorem xh_xh {x : XT} {q : Nat} {r r' : RT} : xh (xh x q r) q r' = xh x q r' := by
  have e : fset (X_H (xh x q r)) q (some r') = fset (X_H x) q (some r') := by
    funext p
    by_cases c : p = q
    · subst c
      rw [fset_s, fset_s]
    · rw [fset_n c, fset_n c]
      exact xh_o c
  show X_H_ (X_H_ x _) (fset (X_H (xh x q r)) q (some r')) = _
  rw [e]
  rfl
theorem xh_self {x : XT} {q : Nat} {r : RT} (h : X_H x q = some r) : xh x q r = x := by
  have e : fset (X_H x) q (some r) = X_H x := by
    funext p
    by_cases c : p = q
    · subst c
      rw [fset_s, h]
    · rw [fset_n c]
  unfold xh
  rw [e]
  rfl
section XB
variable {l : LT} {x : XT} {m : MT} {sc : Nat × (Nat → Int32)} {w : aW} {a : AT} {P : PT} {D : DT} {t u : Nat} {QR : Option aV → aW → Prop} {QX : String → aW → Prop} {rc rs : Nat}
theorem V.hc4 (hV : V (l, x, m, sc) w) {q : Nat} {r : RT} (hr : X_H x q = some r) : R_ci r ∈ [4, 5, 6, 7] := by
  rcases hV.hci hr with e | e | e | e <;> (rw [e]; decide)
theorem p_slots (hV : V (l, x, m, sc) w) {q : Nat} {r : RT} (hr : X_H x q = some r) {k : Nat} (hk : k < 12) {v : Int32} {Q : aW → Prop} (K : ∀ w', V (l, xh x q (R_slots_ r (upd (R_slots r) k v)), m, sc) w' → Q w') : pI w (R_sa r) (nI k) v Q := by
  refine hV.hp_slots hr (vp_in_nI hk (by decide)) (fun w' h' => K w' ?_)
  rw [nI_clamp (by omega)] at h'
  exact h'
theorem p_dead (hV : V (l, x, m, sc) w) {q : Nat} {r : RT} (hr : X_H x q = some r) {k : Nat} (hk : k < 12) {v : Int32} {Q : aW → Prop} (K : ∀ w', V (l, xh x q (R_dead_ r (upd (R_dead r) k v)), m, sc) w' → Q w') : pI w (R_da r) (nI k) v Q := by
  refine hV.hp_dead hr (vp_in_nI hk (by decide)) (fun w' h' => K w' ?_)
  rw [nI_clamp (by omega)] at h'
  exact h'
theorem g_slots (hV : V (l, x, m, sc) w) {q : Nat} {r : RT} (hr : X_H x q = some r) {k : Nat} (hk : k < 12) : gI w (R_sa r) (nI k) (R_slots r k) := by
  have := hV.hg_slots hr (i := nI k) (vp_in_nI hk (by decide))
  rw [nI_clamp (by omega)] at this
  exact this
theorem g_dead (hV : V (l, x, m, sc) w) {q : Nat} {r : RT} (hr : X_H x q = some r) {k : Nat} (hk : k < 12) : gI w (R_da r) (nI k) (R_dead r k) := by
  have := hV.hg_dead hr (i := nI k) (vp_in_nI hk (by decide))
  rw [nI_clamp (by omega)] at this
  exact this
theorem lp_takesSlotsX {q p : Nat} {r s : RT} (hr : X_H x q = some r) (hs : X_H x p = some s) (hpq : p ≠ q) (h : ∀ w' F, V (l, xh x q (R_slots_ r F), m, sc) w' → (∀ k, k < 12 → F k = R_slots s k) → QR none w') : ∀ n k w1 F, k + n = 12 → V (l, xh x q (R_slots_ r F), m, sc) w1 → (∀ i, i < k → F i = R_slots s i) → wp KX4_takesSlots rc rs QR QX 2 [(0, vR (some q)), (1, vR (some p)), (2, vI (nI k))] [] w1 := by
  intro n
  induction n with
  | zero =>
    intro k w1 F hk h1 hF
    refine sg_X4_takesSlots_2 (lpc (N := 12) rfl (by decide) hk (fun _ => h w1 F h1 (fun i hi => hF i (by omega))) (fun m e => by omega))
  | succ n ih =>
    intro k w1 F hk h1 hF
    have e1 : X_H (xh x q (R_slots_ r F)) q = some (R_slots_ r F) := xh_h
    have e2 : X_H (xh x q (R_slots_ r F)) p = some s := by rw [xh_o hpq]; exact hs
    refine sg_X4_takesSlots_2 (lpc (N := 12) rfl (by decide) hk (fun e => by omega) (fun _ e hk2 => ⟨_, h1.hf_sa e1 (h1.hc4 e1), _, rfl, _, h1.hf_sa e2 (h1.hc4 e2), _, g_slots h1 e2 hk2, p_slots h1 e1 hk2 (fun w2 h2 => ?_)⟩))
    rw [xh_xh] at h2
    rw [nI_1]
    refine ih (k + 1) w2 (upd F k (R_slots s k)) (by omega) h2 (fun i hi => ?_)
    by_cases c : i = k
    · subst c
      exact vpu
    · exact (pk_un c).trans (hF i (by omega))
theorem c_X4_takesSlots (hV : V (l, x, m, sc) w) {q p : Nat} {r s : RT} (hr : X_H x q = some r) (hs : X_H x p = some s) (hpq : p ≠ q) (h : ∀ w' F, V (l, xh x q (R_slots_ r F), m, sc) w' → (∀ k, k < 12 → F k = R_slots s k) → QR none w') : ct KX4_takesSlots 0 0 [vR (some q), vR (some p)] w QR QX := by
  refine st_X4_takesSlots (sg_X4_takesSlots_0 (lp_takesSlotsX hr hs hpq h 12 0 w (R_slots r) rfl ?_ (fun i hi => by omega)))
  have e : xh x q (R_slots_ r (R_slots r)) = x := xh_self hr
  rw [e]
  exact hV
theorem lp_takesDead {q p : Nat} {r s : RT} (hr : X_H x q = some r) (hs : X_H x p = some s) (hpq : p ≠ q) {N : Nat} (hN : N ≤ 12) (hdm : R_deadMany s = nI N) (h : ∀ w' F, V (l, xh x q (R_deadMany_ (R_dead_ r F) (nI N)), m, sc) w' → (∀ k, k < N → F k = R_dead s k) → QR none w') : ∀ n k w1 F, k + n = N → V (l, xh x q (R_dead_ r F), m, sc) w1 → (∀ i, i < k → F i = R_dead s i) → wp KX4_takesDead rc rs QR QX 2 [(0, vR (some q)), (1, vR (some p)), (2, vI (nI k))] [] w1 := by
  intro n
  induction n with
  | zero =>
    intro k w1 F hk h1 hF
    have e1 : X_H (xh x q (R_dead_ r F)) q = some (R_dead_ r F) := xh_h
    have e2 : X_H (xh x q (R_dead_ r F)) p = some s := by rw [xh_o hpq]; exact hs
    have g := h1.hf_deadMany e2 (h1.hc4 e2)
    rw [hdm] at g
    refine sg_X4_takesDead_2 ⟨_, rfl, _, g, fun _ => ⟨_, g, h1.hpf_deadMany e1 (h1.hc4 e1) (fun w2 h2 => h w2 F ?_ (fun i hi => hF i (by omega)))⟩, fun z => absurd (nI_le (by omega) (by omega)) z⟩
    have e : xh (xh x q (R_dead_ r F)) q (R_deadMany_ (R_dead_ r F) (nI N)) = xh x q (R_deadMany_ (R_dead_ r F) (nI N)) := xh_xh
    rw [← e]
    exact h2
  | succ n ih =>
    intro k w1 F hk h1 hF
    have e1 : X_H (xh x q (R_dead_ r F)) q = some (R_dead_ r F) := xh_h
    have e2 : X_H (xh x q (R_dead_ r F)) p = some s := by rw [xh_o hpq]; exact hs
    have g := h1.hf_deadMany e2 (h1.hc4 e2)
    rw [hdm] at g
    refine sg_X4_takesDead_2 ⟨_, rfl, _, g, fun z => absurd z (nI_ge (by omega) (by omega)), fun _ => ⟨_, h1.hf_da e1 (h1.hc4 e1), _, h1.hf_da e2 (h1.hc4 e2), _, g_dead h1 e2 (by omega), p_dead h1 e1 (by omega) (fun w2 h2 => ?_)⟩⟩
    rw [xh_xh] at h2
    rw [nI_1]
    refine ih (k + 1) w2 (upd F k (R_dead s k)) (by omega) h2 (fun i hi => ?_)
    by_cases c : i = k
    · subst c
      exact vpu
    · exact (pk_un c).trans (hF i (by omega))
theorem c_X4_takesDead (hV : V (l, x, m, sc) w) {q p : Nat} {r s : RT} (hr : X_H x q = some r) (hs : X_H x p = some s) (hpq : p ≠ q) {N : Nat} (hN : N ≤ 12) (hdm : R_deadMany s = nI N) (h : ∀ w' F, V (l, xh x q (R_deadMany_ (R_dead_ r F) (nI N)), m, sc) w' → (∀ k, k < N → F k = R_dead s k) → QR none w') : ct KX4_takesDead 0 0 [vR (some q), vR (some p)] w QR QX := by
  refine st_X4_takesDead (sg_X4_takesDead_0 (lp_takesDead hr hs hpq hN hdm h N 0 w (R_dead r) (by omega) ?_ (fun i hi => by omega)))
  have e : xh x q (R_dead_ r (R_dead r)) = x := xh_self hr
  rw [e]
  exact hV
/-- an object just made: registered -/
def NH (r : RT) (ci : Nat) (mk : Int32) (pv : Option Nat) : Prop := R_ci r = ci ∧ R_made r = mk ∧ R_deadMany r = 0 ∧ R_number r = 0 ∧ R_prev r = pv ∧ R_owner r = none ∧ R_qt r = 0 ∧ ∀ k, k < 12 → R_slots r k = -1
def ob6 (mk : Int32) (s1 s2 : Option Nat) (pv : Option Nat) : List aV := [vI mk, vR s1, vR s2, vI 0, vI 0, vR pv]
theorem lp_init4 {q s1 s2 ci : Nat} {ex : List aV} {mk : Int32} {pv : Option Nat} (hq : Wc (l, x, m, sc) q = none) (h1 : Wc (l, x, m, sc) s1 = none) (h2 : Wc (l, x, m, sc) s2 = none) (n1 : q ≠ s1) (n2 : q ≠ s2) (n3 : s1 ≠ s2) (hc : 4 ≤ ci ∧ ci ≤ 7) (hex : ∀ r, R_ci r = ci → R_owner r = none → R_qt r = 0 → R_deadMany r = 0 → R_number r = 0 → hobj r = ob6 (R_made r) (some (R_sa r)) (some (R_da r)) (R_prev r) ++ ex) (h : ∀ l' w' r, L_ad l' = L_ad l → V (l', xh x q r, m, sc) w' → X_H x q = none → NH r ci mk pv → QR none w') : ∀ n k w1 F, k + n = 12 → V (l, x, m, sc) w1 → w1 q = some (.inr (ci, ob6 mk (some s1) (some s2) pv ++ ex)) → w1 s1 = some (cInts 12 F) → w1 s2 = some (cInts 12 (fun _ => 0)) → (∀ i, i < k → F i = -1) → wp KX4_init rc rs QR QX 32 [(0, vR (some q)), (1, vI mk), (2, vR pv), (3, vI (nI k))] [] w1 := by
  have hc4 : ci ∈ [4, 5, 6, 7] := by
    have : ci = 4 ∨ ci = 5 ∨ ci = 6 ∨ ci = 7 := by omega
    rcases this with e | e | e | e <;> (rw [e]; decide)
  intro n
  induction n with
  | zero =>
    intro k w1 F hk hV e1 e2 e3 hF
    refine sg_X4_init_32 (lpc (N := 12) rfl (by decide) hk (fun _ => ?_) (fun m e => by omega))
    let r : RT := (ci, mk, s1, s2, 0, 0, pv, none, 0, F, fun _ => 0)
    obtain ⟨l', el, hV'⟩ := hV.newH (r := r) (q := q) hq h1 h2 n1 n2 n3 hc (by rw [hex r rfl rfl rfl rfl rfl]; exact e1) e2 e3
    exact h l' w1 r el hV' (hV.hn hq) ⟨rfl, rfl, rfl, rfl, rfl, rfl, rfl, fun i hi => hF i (by omega)⟩
  | succ n ih =>
    intro k w1 F hk hV e1 e2 e3 hF
    refine sg_X4_init_32 (lpc (N := 12) rfl (by decide) hk (fun e => by omega) (fun _ e hk2 => ⟨s1, ⟨ci, _, e1, hc4, rfl⟩, 12, F, e2, vp_in_nI hk2 (by decide), ?_⟩))
    rw [nI_1, nI_clamp (by omega)]
    refine ih (k + 1) _ (upd F k (-1)) (by omega) (hV.nw h1) ?_ (aup_self _ _ _) ?_ (fun i hi => ?_)
    · rw [aup_ne n1]
      exact e1
    · rw [aup_ne (fun z => n3 z.symm)]
      exact e3
    · by_cases c : i = k
      · subst c
        exact vpu
      · exact (pk_un c).trans (hF i (by omega))
theorem c_X4_init (hV : V (l, x, m, sc) w) {q ci : Nat} {ex : List aV} {mk : Int32} {pv : Option Nat} (hq : Wc (l, x, m, sc) q = none) (hw : w q = some (.inr (ci, ob6 0 none none none ++ ex))) (hc : 4 ≤ ci ∧ ci ≤ 7) (hex : ∀ r, R_ci r = ci → R_owner r = none → R_qt r = 0 → R_deadMany r = 0 → R_number r = 0 → hobj r = ob6 (R_made r) (some (R_sa r)) (some (R_da r)) (R_prev r) ++ ex) (h : ∀ l' w' r, L_ad l' = L_ad l → V (l', xh x q r, m, sc) w' → X_H x q = none → NH r ci mk pv → QR none w') : ct KX4_init 2 24 [vR (some q), vI mk, vR pv] w QR QX := by
  have hc4 : ci ∈ [4, 5, 6, 7] := by
    have : ci = 4 ∨ ci = 5 ∨ ci = 6 ∨ ci = 7 := by omega
    rcases this with e | e | e | e <;> (rw [e]; decide)
  have len : ∀ (m : Int32) (s s' p : Option Nat) (k : Nat), k < 6 → k < (ob6 m s s' p ++ ex).length := by
    intro m s s' p k hk
    rw [List.length_append]
    show k < 6 + _
    omega
  refine st_X4_init (sg_X4_init_0 ⟨by decide, by decide, fun s1 w1 hn1 hw1 => ?_⟩)
  have f1 := hV.nowh hn1
  have n1 : q ≠ s1 := fun e => by rw [e, hn1] at hw; cases hw
  have e1 : w1 q = some (.inr (ci, ob6 0 none none none ++ ex)) := by rw [hw1, aup_ne n1]; exact hw
  have hV1 : V (l, x, m, sc) w1 := by rw [hw1]; exact hV.nw f1
  have z1 : w1 s1 = some (cInts 12 (fun _ => 0)) := by rw [hw1]; exact aup_self _ _ _
  refine ⟨ci, _, e1, hc4, len _ _ _ _ 1 (by decide), by decide, by decide, fun s2 w2 hn2 hw2 => ?_⟩
  have hV2 := hV1.nw (c := .inr (ci, ob6 0 (some s1) none none ++ ex)) hq
  have n2 : q ≠ s2 := fun e => by
    rw [← e, aup_self] at hn2
    cases hn2
  have n3 : s1 ≠ s2 := fun e => by
    rw [← e, aup_ne (fun z => n1 z.symm), z1] at hn2
    cases hn2
  have f2 := hV2.nowh hn2
  have hV3 : V (l, x, m, sc) w2 := by rw [hw2]; exact hV2.nw f2
  have e2 : w2 q = some (.inr (ci, ob6 0 (some s1) none none ++ ex)) := by rw [hw2, aup_ne n2]; exact aup_self _ _ _
  have y1 : w2 s1 = some (cInts 12 (fun _ => 0)) := by rw [hw2, aup_ne n3, aup_ne (fun z => n1 z.symm)]; exact z1
  have y2 : w2 s2 = some (cInts 12 (fun _ => 0)) := by rw [hw2]; exact aup_self _ _ _
  refine ⟨ci, _, e2, hc4, len _ _ _ _ 2 (by decide), ci, _, aup_self _ _ _, hc4, len 0 (some s1) (some s2) none 0 (by decide), ci, _, aup_self _ _ _, hc4, len mk (some s1) (some s2) none 5 (by decide), ?_⟩
  refine lp_init4 (ex := ex) hq f1 f2 n1 n2 n3 hc hex h 12 0 _ (fun _ => 0) rfl (((hV3.nw hq).nw hq).nw hq) (aup_self _ _ _) ?_ ?_ (fun i hi => by omega)
  · rw [aup_ne (fun z => n1 z.symm), aup_ne (fun z => n1 z.symm), aup_ne (fun z => n1 z.symm)]
    exact y1
  · rw [aup_ne (fun z => n2 z.symm), aup_ne (fun z => n2 z.symm), aup_ne (fun z => n2 z.symm)]
    exact y2
theorem hx_4 {ex : List aV} (h : ex = []) : ∀ r : RT, R_ci r = 4 → R_owner r = none → R_qt r = 0 → R_deadMany r = 0 → R_number r = 0 → hobj r = ob6 (R_made r) (some (R_sa r)) (some (R_da r)) (R_prev r) ++ ex := by
  intro r h1 h2 h3 h4 h5
  subst h
  unfold hobj
  rw [h1, h4, h5]
  rfl
theorem hx_5 : ∀ r : RT, R_ci r = 5 → R_owner r = none → R_qt r = 0 → R_deadMany r = 0 → R_number r = 0 → hobj r = ob6 (R_made r) (some (R_sa r)) (some (R_da r)) (R_prev r) ++ [vI 0] := by
  intro r h1 h2 h3 h4 h5
  unfold hobj
  rw [h1, h3, h4, h5]
  rfl
theorem hx_6 : ∀ r : RT, R_ci r = 6 → R_owner r = none → R_qt r = 0 → R_deadMany r = 0 → R_number r = 0 → hobj r = ob6 (R_made r) (some (R_sa r)) (some (R_da r)) (R_prev r) ++ [vR none] := by
  intro r h1 h2 h3 h4 h5
  unfold hobj
  rw [h1, h2, h4, h5]
  rfl
theorem hx_7 : ∀ r : RT, R_ci r = 7 → R_owner r = none → R_qt r = 0 → R_deadMany r = 0 → R_number r = 0 → hobj r = ob6 (R_made r) (some (R_sa r)) (some (R_da r)) (R_prev r) ++ [vR none, vI 0] := by
  intro r h1 h2 h3 h4 h5
  unfold hobj
  rw [h1, h2, h3, h4, h5]
  rfl
theorem c_X5_init (hV : V (l, x, m, sc) w) {q : Nat} {mk : Int32} {pv : Option Nat} (hq : Wc (l, x, m, sc) q = none) (hw : w q = some (.inr (4, ob6 0 none none none))) (h : ∀ l' w' r, L_ad l' = L_ad l → V (l', xh x q r, m, sc) w' → X_H x q = none → NH r 4 mk pv → QR none w') : ct KX5_init 2 24 [vR (some q), vI mk, vR pv] w QR QX :=
  st_X5_init (sg_X5_init_0 ⟨Nat.le_refl _, Nat.le_refl _, c_X4_init (ex := []) hV hq hw (by decide) (hx_4 rfl) (fun l' w' r h1 h2 h3 h4 => ⟨rfl, h l' w' r h1 h2 h3 h4⟩)⟩)
theorem pf_qt (hV : V (l, x, m, sc) w) {q : Nat} {r : RT} (hr : X_H x q = some r) (h5 : R_ci r = 5) {v : Int32} {Q : aW → Prop} (K : ∀ w', V (l, xh x q (R_qt_ r v), m, sc) w' → Q w') : pf w q [5] 6 (vI v) Q := by
  refine ⟨_, _, hV.ho hr, by rw [h5]; decide, ?_, K _ (hV.hset (r' := R_qt_ r v) hr rfl rfl rfl (Or.inl ⟨rfl, ?_, rfl, rfl⟩))⟩
  · unfold hobj
    rw [h5]
    simp
  · have e0 : R_ci (R_qt_ r v) = R_ci r := rfl
    unfold hobj
    rw [e0, h5]
    rfl
/-- .. of a bound folder -/
theorem c_X6_init (hV : V (l, x, m, sc) w) {q : Nat} {mk qu : Int32} (hq : Wc (l, x, m, sc) q = none) (hw : w q = some (.inr (5, ob6 0 none none none ++ [vI 0]))) (h : ∀ l' w' r, L_ad l' = L_ad l → V (l', xh x q (R_qt_ r qu), m, sc) w' → X_H x q = none → NH r 5 mk none → QR none w') : ct KX6_init 2 24 [vR (some q), vI mk, vI qu] w QR QX := by
  refine st_X6_init (sg_X6_init_0 ⟨Nat.le_refl _, Nat.le_refl _, st_X5_init (sg_X5_init_0 ⟨Nat.le_refl _, Nat.le_refl _, c_X4_init (ex := [vI 0]) hV hq hw (by decide) hx_5 (fun l' w' r h1 h2 h3 h4 => ⟨rfl, rfl, pf_qt h2 xh_h h4.1 (fun w2 h5 => ?_)⟩)⟩)⟩)
  rw [xh_xh] at h5
  exact h l' w2 r h1 h5 h3 h4
/-- .. of a snapshot of a folder p -/
theorem c_X7_init (hV : V (l, x, m, sc) w) {q p ci : Nat} {ex : List aV} {mk : Int32} {s : RT} (hs : X_H x p = some s) (hs4 : R_ci s ∈ [4, 5]) {N : Nat} (hN : N ≤ 12) (hdm : R_deadMany s = nI N) (hq : Wc (l, x, m, sc) q = none) (hw : w q = some (.inr (ci, ob6 0 none none none ++ ex))) (hc : ci = 6 ∨ ci = 7) (hex : ∀ r, R_ci r = ci → R_owner r = none → R_qt r = 0 → R_deadMany r = 0 → R_number r = 0 → hobj r = ob6 (R_made r) (some (R_sa r)) (some (R_da r)) (R_prev r) ++ ex) (h : ∀ l' w' r F G, L_ad l' = L_ad l → V (l', xh x q (R_deadMany_ (R_dead_ (R_slots_ (R_owner_ r (some p)) F) G) (nI N)), m, sc) w' → X_H x q = none → NH r ci mk (R_prev s) → (∀ k, k < 12 → F k = R_slots s k) → (∀ k, k < N → G k = R_dead s k) → QR none w') : ct KX7_init 2 24 [vR (some q), vI mk, vR (some p)] w QR QX := by
  have hpq : p ≠ q := by
    intro e
    have := hV.hn hq
    rw [← e, hs] at this
    cases this
  have hc67 : ci ∈ [6, 7] := by rcases hc with e | e <;> (rw [e]; decide)
  refine st_X7_init (sg_X7_init_0 ⟨_, rfl, _, hV.hf_prev hs hs4, Nat.le_refl _, Nat.le_refl _, c_X4_init (ex := ex) hV hq hw (by omega) hex (fun l' w' r h1 h2 h3 h4 => ⟨rfl, ?_⟩)⟩)
  have hcr : R_ci r = 6 ∨ R_ci r = 7 := by rw [h4.1]; exact hc
  refine h2.hpf_owner xh_h hcr (by rw [h4.1]; exact hc67) (fun w3 h5 => ?_)
  have h5' : V (l', xh x q (R_owner_ r (some p)), m, sc) w3 := by
    have e : xh (xh x q r) q (R_owner_ r (some p)) = xh x q (R_owner_ r (some p)) := xh_xh
    rw [← e]
    exact h5
  have ep : ∀ r', X_H (xh x q r') p = some s := fun r' => by rw [xh_o hpq]; exact hs
  refine ⟨h5'.hck xh_h (by show R_ci r ∈ [6, 7]; rw [h4.1]; exact hc67), c_X4_takesSlots h5' xh_h (ep _) hpq (fun w4 F h6 hF => ⟨rfl, ?_⟩)⟩
  rw [xh_xh] at h6
  refine ⟨h6.hck xh_h (by show R_ci r ∈ [6, 7]; rw [h4.1]; exact hc67), c_X4_takesDead h6 xh_h (ep _) hpq hN hdm (fun w5 G h7 hG => ⟨rfl, ?_⟩)⟩
  rw [xh_xh] at h7
  exact h l' w5 r F G h1 h7 h3 h4 hF hG
/-! what frees, what dies -/
def fbP (P : PT) (b : Nat) : PT := P_freed_ (P_size_ P (fset (P_size P) b 0)) (P_freed P + 1)
theorem c_X0_frees (hV : V (l, x, m, sc) w) (hX : XP x a P D) {b : Nat} (hb : b < 96) (h : ∀ x' w', V (l, x', m, sc) w' → XP x' a (fbP P b) D → XK x x' → X_H x' = X_H x → QR none w') : ct KX0_frees 0 0 [vR (some (L_ad l 0)), vI (nI b)] w QR QX := by
  refine st_X0_frees (sg_X0_frees_0 ⟨_, hV.xf0, hV.xp_sizes (vp_in_nI hb (by decide)) (fun w1 h1 => ⟨_, h1.xf_freed, h1.xpf_freed (fun w2 h2 => ?_)⟩)⟩)
  refine h _ w2 h2 ⟨hX.1, ?_, fun c hc => ?_, hX.2.2.2.1, hX.2.2.2.2.1, hX.2.2.2.2.2.1, hX.2.2.2.2.2.2⟩ ⟨⟨rfl, rfl, rfl, rfl, rfl, fun q r h => ⟨r, h, rfl, rfl, rfl, rfl, rfl, fun _ => rfl⟩, fun q v h => h⟩, rfl⟩ rfl
  · show X_freed x + 1 = P_freed P + 1
    rw [hX.2.1]
  · show upd (X_sizes x) (nI b).toNatClampNeg 0 c = fset (P_size P) b 0 c
    rw [nI_clamp (by omega)]
    by_cases e : c = b
    · subst e
      rw [vpu, fset_s]
    · rw [fset_n e]
      exact (pk_un e).trans (hX.2.2.1 c hc)
theorem XP.deadL (hX : XP x a P D) (ht : t < 20) (hk : hK (P_kind P t)) {r : RT} (hr : X_H x (a.1 t) = some r) {F : Nat → Int32} {M : List Nat} (hM : M.length ≤ 12) (hF : ∀ k, k < M.length → F k = nI (gD M k)) : XP (xh x (a.1 t) (R_deadMany_ (R_dead_ r F) (nI M.length))) a P (fset D t M) := by
  obtain ⟨r', h1, h2⟩ := hX.h ht hk
  rw [hr] at h1
  cases h1
  obtain ⟨a1, a2, a3, a4, a5, a6, a7, a8, a9, a10, a11, a12, a13⟩ := h2
  refine hX.hup ht hk ⟨rfl, rfl, rfl, rfl, rfl, rfl, fun u hu => ⟨rfl, rfl, rfl, rfl, rfl, fset_n hu⟩⟩ ⟨a1, a2, a3, a4, ?_, a6, a7, a8, a9, a10, a11, ?_, ?_⟩
  · show nI M.length = nI (fset D t M t).length
    rw [fset_s]
  · rw [fset_s]; exact hM
  · rw [fset_s]; exact hF
theorem c_X0_isLaterV (hV : V (l, x, m, sc) w) (hB : ∀ b, b < 96 → X_births x b = P_birth P b) {b c : Nat} (hb : b < 96) (hc : c < 96) (h : QR (some (vI (bI (lat P b c)))) w) : ct KX0_isLater 0 0 [vR (some (L_ad l 0)), vI (nI b), vI (nI c)] w QR QX := by
  have gb : ∀ b, b < 96 → gI w (L_ad l 2) (nI b) (P_birth P b) := by
    intro b hb
    have := hV.xg_births (i := nI b) (vp_in_nI hb (by decide))
    rw [nI_clamp (by omega), hB b hb] at this
    exact this
  unfold lat at h
  refine st_X0_isLater (sg_X0_isLater_0 ⟨_, hV.xf1, _, gb b hb, _, hV.xf1, _, gb c hc, fun z => ?_, fun z => ⟨_, hV.xf1, _, gb b hb, _, hV.xf1, _, gb c hc, fun z2 => ?_, fun z2 => ⟨fun z3 => ?_, fun z3 => ?_⟩⟩⟩)
  · rwa [bI_t (Or.inl z)] at h
  · rwa [bI_f (fun y => y.elim z (fun y => z2 y.1))] at h
  · rwa [bI_f (fun y => y.elim z (fun y => nI_ge y.2 (by omega) z3))] at h
  · rw [bI_t (Or.inr ⟨z2, Classical.byContradiction (fun y => z3 (nI_le (by omega) (by omega)))⟩)] at h
    exact h
/-- b put in at place i -/
def inD (L : List Nat) (i b : Nat) : List Nat := L.take i ++ b :: L.drop i
theorem inD_len (L : List Nat) (i b : Nat) (h : i ≤ L.length) : (inD L i b).length = L.length + 1 := by
  unfold inD
  rw [List.length_append, List.length_take, List.length_cons, List.length_drop]
  omega
theorem inD_at (L : List Nat) (i b k : Nat) (h : i ≤ L.length) (hk : k < L.length + 1) : gD (inD L i b) k = if k < i then gD L k else if k = i then b else gD L (k - 1) := by
  unfold gD inD
  rw [List.getD_eq_getElem?_getD]
  have hl : (L.take i).length = i := by rw [List.length_take]; omega
  by_cases c : k < i
  · rw [if_pos c, List.getElem?_append_left (by omega), List.getElem?_take_of_lt c, List.getD_eq_getElem?_getD]
  · rw [if_neg c, List.getElem?_append_right (by omega), hl]
    by_cases c2 : k = i
    · rw [if_pos c2, c2, Nat.sub_self]
      rfl
    · rw [if_neg c2, show k - i = (k - 1 - i) + 1 by omega, List.getElem?_cons_succ, List.getElem?_drop, show i + (k - 1 - i) = k - 1 by omega, List.getD_eq_getElem?_getD]
/-- the place where b comes in -/
def plc (P : PT) (L : List Nat) (b i : Nat) : Prop := i ≤ L.length ∧ (∀ j, i ≤ j → j < L.length → lat P b (gD L j)) ∧ (i = 0 ∨ ¬ lat P b (gD L (i - 1)))
theorem lp_dies (hX : XP x a P D) (hB : DB P D) (ht : t < 20) (hk : hK (P_kind P t)) {r : RT} (hr : X_H x (a.1 t) = some r) (hlen : (D t).length < 12) {b : Nat} (hb : b < 96) (h : ∀ x' w' i, plc P (D t) b i → V (l, x', m, sc) w' → XP x' a P (fset D t (inD (D t) i b)) → XK x x' → QR none w') : ∀ i w1 F, i ≤ (D t).length → V (l, xh x (a.1 t) (R_dead_ r F), m, sc) w1 → (∀ k, k < i → F k = nI (gD (D t) k)) → (∀ k, i < k → k ≤ (D t).length → F k = nI (gD (D t) (k - 1))) → (∀ j, i ≤ j → j < (D t).length → lat P b (gD (D t) j)) → wp KX0_dies rc rs QR QX 5 [(0, vR (some (L_ad l 0))), (1, vR (some (a.1 t))), (2, vI (nI b)), (3, vI (nI i))] [] w1 := by
  obtain ⟨r', h1, h2⟩ := hX.h ht hk
  rw [hr] at h1
  cases h1
  have hdm : R_deadMany r = nI (D t).length := h2.2.2.2.2.1
  have fin : ∀ i w1 F, i ≤ (D t).length → V (l, xh x (a.1 t) (R_dead_ r F), m, sc) w1 → (∀ k, k < i → F k = nI (gD (D t) k)) → (∀ k, i < k → k ≤ (D t).length → F k = nI (gD (D t) (k - 1))) → plc P (D t) b i → pI w1 (R_da r) (nI i) (nI b) (fun w51 => ∃ x54 : Int32, gf w51 (a.1 t) [4, 5, 6, 7] 3 (vI x54) ∧ pf w51 (a.1 t) [4, 5, 6, 7] 3 (vI (x54 + 1)) (fun w59 => QR none w59)) := by
    intro i w1 F hi h1 f1 f2 hp
    refine p_dead h1 xh_h (by omega) (fun w2 h3 => ?_)
    rw [xh_xh] at h3
    have hc := h3.hc4 xh_h
    have g := h3.hf_deadMany xh_h hc
    have g' : gf w2 (a.1 t) [4, 5, 6, 7] 3 (vI (R_deadMany r)) := g
    rw [hdm] at g'
    refine ⟨_, g', h3.hpf_deadMany xh_h hc (fun w3 h4 => ?_)⟩
    rw [nI_1] at h4
    have e : xh (xh x (a.1 t) (R_dead_ (R_dead_ r F) (upd F i (nI b)))) (a.1 t) (R_deadMany_ (R_dead_ r (upd F i (nI b))) (nI ((D t).length + 1))) = xh x (a.1 t) (R_deadMany_ (R_dead_ r (upd F i (nI b))) (nI ((D t).length + 1))) := xh_xh
    have h5 : V (l, xh x (a.1 t) (R_deadMany_ (R_dead_ r (upd F i (nI b))) (nI ((D t).length + 1))), m, sc) w3 := by
      rw [← e]
      exact h4
    have hl := inD_len (D t) i b hi
    refine h _ w3 i hp h5 ?_ (XK.hup hr rfl rfl rfl rfl rfl (fun _ => rfl))
    rw [← hl]
    refine hX.deadL ht hk hr (by omega) (fun k hk2 => ?_)
    rw [inD_at _ _ _ _ hi (by omega)]
    by_cases c : k < i
    · rw [if_pos c]
      exact (pk_un (by omega)).trans (f1 k c)
    · rw [if_neg c]
      by_cases c2 : k = i
      · rw [if_pos c2, c2]
        exact vpu
      · rw [if_neg c2]
        exact (pk_un c2).trans (f2 k (by omega) (by omega))
  intro i
  induction i with
  | zero =>
    intro w1 F hi h1 f1 f2 hl
    have hc := h1.hc4 xh_h
    have gda : gf w1 (a.1 t) [4, 5, 6, 7] 2 (vR (some (R_da r))) := h1.hf_da xh_h hc
    exact sg_X0_dies_5 ⟨fun _ => ⟨_, rfl, _, gda, fin 0 w1 F hi h1 f1 f2 ⟨hi, hl, Or.inl rfl⟩⟩, fun z => absurd (by decide) z⟩
  | succ i ih =>
    intro w1 F hi h1 f1 f2 hl
    have hc := h1.hc4 xh_h
    have gda : gf w1 (a.1 t) [4, 5, 6, 7] 2 (vR (some (R_da r))) := h1.hf_da xh_h hc
    have gd : gI w1 (R_da r) (nI i) (nI (gD (D t) i)) := by
      have g := g_dead h1 xh_h (k := i) (by omega)
      have g' : gI w1 (R_da r) (nI i) (F i) := g
      rw [f1 i (by omega)] at g'
      exact g'
    have hB' : ∀ b, b < 96 → X_births (xh x (a.1 t) (R_dead_ r F)) b = P_birth P b := hX.2.2.2.1
    refine sg_X0_dies_5 ⟨fun z => absurd z (nI_nle (by omega) (by omega)), fun _ => ⟨_, rfl, _, gda, _, by rw [nI_m]; exact gd, h1.xO, c_X0_isLaterV h1 hB' hb (hB t ht hk i (by omega)) ⟨_, rfl, fun c => ⟨_, gda, fin (i + 1) w1 F hi h1 f1 f2 ⟨hi, hl, Or.inr (by rw [Nat.add_sub_cancel]; exact bI_0.mp c)⟩⟩, fun c => ⟨_, gda, _, gda, _, by rw [nI_m]; exact gd, p_dead h1 xh_h (by omega) (fun w2 h3 => ?_)⟩⟩⟩⟩
    rw [xh_xh] at h3
    rw [nI_mm]
    refine ih w2 (upd F (i + 1) (nI (gD (D t) i))) (by omega) h3 (fun k hk2 => (pk_un (by omega)).trans (f1 k (by omega))) (fun k hk2 hk3 => ?_) (fun j hj hj2 => ?_)
    · by_cases c2 : k = i + 1
      · rw [c2, Nat.add_sub_cancel]
        exact vpu
      · exact (pk_un c2).trans (f2 k (by omega) hk3)
    · by_cases c2 : j = i
      · rw [c2]
        exact bI_n0.mp c
      · exact hl j (by omega) hj2
theorem c_X0_dies (hV : V (l, x, m, sc) w) (hX : XP x a P D) (hB : DB P D) (ht : t < 20) (hk : hK (P_kind P t)) (hlen : (D t).length < 12) {b : Nat} (hb : b < 96) (h : ∀ x' w' i, plc P (D t) b i → V (l, x', m, sc) w' → XP x' a P (fset D t (inD (D t) i b)) → XK x x' → QR none w') : ct KX0_dies 0 0 [vR (some (L_ad l 0)), vR (some (a.1 t)), vI (nI b)] w QR QX := by
  obtain ⟨r, h1, h2⟩ := hX.h ht hk
  have hdm : R_deadMany r = nI (D t).length := h2.2.2.2.2.1
  have g := x_dm hV hX ht (cI_h hk)
  refine st_X0_dies (sg_X0_dies_0 ⟨_, rfl, _, g, lp_dies hX hB ht hk h1 hlen hb h (D t).length w (R_dead r) (Nat.le_refl _) ?_ (fun k hk2 => h2.2.2.2.2.2.2.2.2.2.2.2.2 k hk2) (fun k z1 z2 => by omega) (fun j z1 z2 => by omega)⟩)
  have e : xh x (a.1 t) (R_dead_ r (R_dead r)) = x := xh_self h1
  rw [e]
  exact hV
end XB
