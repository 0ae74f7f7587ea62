/-! ===== the pool lays all back ===== -/
set_option maxRecDepth 100000
set_option maxHeartbeats 400000
theorem ciK_1 {P : PT} {t : Nat} (hk : hK (P_kind P t)) (h : ciK (P_kind P t) = 5) : P_kind P t = 1 := by
  rcases hk with (z | z) | (z | z)
  · rw [z] at h; exact absurd h (by decide)
  · exact z
  · rw [z] at h; exact absurd h (by decide)
  · rw [z] at h; exact absurd h (by decide)
theorem HR.ir {a : AT} {P : PT} {D : DT} {t : Nat} {r : RT} (h : HR a P D t r) : IR a P t r := by
  obtain ⟨a1, a2, a3, a4, a5, a6, a7, a8, a9, -⟩ := h
  exact ⟨a1, a2, a3, a4, a6, a9⟩
theorem OF.xi {a : AT} {P : PT} {t : Nat} {x x1 : XT} (h : OF (a.1 t) x x1) (hk : hK (P_kind P t)) {r r1 : RT} (e : X_H x (a.1 t) = some r) (e1 : X_H x1 (a.1 t) = some r1) (i : IR a P t r) (i1 : IR a P t r1) : XI x x1 := by
  obtain ⟨h1, h2, h3, h4, h5, h6, h7⟩ := h
  obtain ⟨a1, a2, a3, a4, a5, a6⟩ := i
  obtain ⟨b1, b2, b3, b4, b5, b6⟩ := i1
  refine ⟨h2 100, h2 200, h6, fun q s hs => ?_, fun q v hv => (congrFun h3 q).trans hv⟩
  by_cases c : q = a.1 t
  · subst c
    rw [e] at hs
    cases hs
    refine ⟨r1, e1, b1.trans a1.symm, b2.trans a2.symm, b3.trans a3.symm, b4.trans a4.symm, b5.trans a5.symm, fun z => ?_⟩
    have k1 := ciK_1 hk (a1.symm.trans z)
    exact (b6 k1).trans (a6 k1).symm
  · exact ⟨s, (h7 q c).trans hs, rfl, rfl, rfl, rfl, rfl, fun _ => rfl⟩
/-- laid back up to k -/
def LB (x0 : XT) (a : AT) (P : PT) (D : DT) (k : Nat) (x : XT) : Prop := XI x0 x ∧ X_rows x = X_rows x0 ∧ X_W x = X_W x0 ∧ (∀ u, u < k → X_things x u = thO a P u ∧ (hK (P_kind P u) → ∃ r, X_H x (a.1 u) = some r ∧ HR a P D u r))
section XB1
variable {l : LT} {x : XT} {m : MT} {sc : Nat × (Nat → Int32)} {w : aW} {a : AT} {P : PT} {D : DT} {t d : Nat} {QR : Option aV → aW → Prop} {QX : String → aW → Prop} {rc rs : Nat}
theorem c_X0_laysOneBack (hV : V (l, x, m, sc) w) (hd : cp2 d) (ht : t < 20) (hk : hK (P_kind P t)) (hO : KO (X_C x d) a P D t) {r : RT} (hr : X_H x (a.1 t) = some r) (hi : IR a P t r) (h : ∀ x' w' r', V (l, x', m, sc) w' → OF (a.1 t) x x' → X_H x' (a.1 t) = some r' → HR a P D t r' → QR none w') : ct KX0_laysOneBack 0 0 [vR (some (L_ad l d)), vR (some (a.1 t)), vI (nI t)] w QR QX :=
  st_X0_laysOneBack (sg_X0_laysOneBack_0 (lp_lays1 hd ht hk hO h 12 0 x w r rfl hV (OF.rf _ x) hr hi (fun j hj => absurd hj (Nat.not_lt_zero _))))
end XB1
