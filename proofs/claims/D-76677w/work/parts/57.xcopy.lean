/-! ===== what a copy holds ===== -/
set_option maxRecDepth 100000
set_option maxHeartbeats 400000
/-- the copy's rows of thing t -/
def KO (c : CT) (a : AT) (P : PT) (D : DT) (t : Nat) : Prop := C_deadMany c t = nI (D t).length ∧ C_prevs c t = pO a (P_prev P t) ∧ (sK (P_kind P t) → C_owners c t = pO a (P_owner P t)) ∧ (P_kind P t = 3 → C_tags c t = P_tags P t) ∧ (∀ k, k < 12 → C_slots c t k = P_slot P t k) ∧ (D t).length ≤ 12 ∧ (∀ i, i < (D t).length → C_dead c t i = nI (gD (D t) i))
/-- what never changes of the object of thing t -/
def IM (x : XT) (a : AT) (P : PT) (t : Nat) : Prop := ∃ r, X_H x (a.1 t) = some r ∧ R_ci r = ciK (P_kind P t) ∧ R_made r = P_made P t ∧ R_sa r = a.2.1 t ∧ R_da r = a.2.2 t ∧ R_number r = nI t ∧ (P_kind P t = 1 → R_qt r = P_quota P t)
/-- the copy c holds P with dead lists D -/
def KR (c : CT) (x : XT) (a : AT) (P : PT) (D : DT) : Prop := C_time c = P_time P ∧ C_freed c = P_freed P ∧ (∀ b, b < 96 → C_sizes c b = P_size P b) ∧ (∀ b, b < 96 → C_births c b = P_birth P b) ∧ (∀ t, t < 20 → P_kind P t = -1 → C_things c t = none) ∧ (∀ t, t < 20 → P_kind P t = 4 → C_things c t = some (a.1 t) ∧ X_B x (a.1 t) = some (P_made P t)) ∧ (∀ t, t < 20 → hK (P_kind P t) → C_things c t = some (a.1 t) ∧ IM x a P t ∧ KO c a P D t)
theorem ciK_5 {P : PT} {t : Nat} (h : P_kind P t = 1) : ciK (P_kind P t) = 5 := by rw [h]; decide
theorem IM.xi {x x' : XT} {a : AT} {P : PT} {t : Nat} (h : IM x a P t) (k : XI x x') : IM x' a P t := by
  obtain ⟨r, h1, a1, a2, a3, a4, a5, a6⟩ := h
  obtain ⟨r', g1, b1, b2, b3, b4, b5, b6⟩ := k.2.2.2.1 _ r h1
  exact ⟨r', g1, b1.trans a1, b2.trans a2, b3.trans a3, b4.trans a4, b5.trans a5, fun e => (b6 (a1.trans (ciK_5 e))).trans (a6 e)⟩
theorem KR.xi {c : CT} {x x' : XT} {a : AT} {P : PT} {D : DT} (h : KR c x a P D) (k : XI x x') : KR c x' a P D := by
  obtain ⟨h1, h2, h3, h4, h5, h6, h7⟩ := h
  exact ⟨h1, h2, h3, h4, h5, fun t ht e => ⟨(h6 t ht e).1, k.2.2.2.2 _ _ (h6 t ht e).2⟩, fun t ht e => ⟨(h7 t ht e).1, (h7 t ht e).2.1.xi k, (h7 t ht e).2.2⟩⟩
theorem HR.im {x : XT} {a : AT} {P : PT} {D : DT} {t : Nat} {r : RT} (h : HR a P D t r) (hr : X_H x (a.1 t) = some r) : IM x a P t := by
  obtain ⟨a1, a2, a3, a4, a5, a6, a7, a8, a9, -⟩ := h
  exact ⟨r, hr, a1, a2, a3, a4, a6, a9⟩
/-- only copy d changes -/
def CF (d : Nat) (x x1 : XT) : Prop := (∀ a P D, XP x a P D → XP x1 a P D) ∧ X_H x1 = X_H x ∧ X_B x1 = X_B x ∧ X_rows x1 = X_rows x ∧ X_W x1 = X_W x ∧ X_hasImage x1 = X_hasImage x ∧ ∀ d', cp2 d' → d' ≠ d → X_C x1 d' = X_C x d'
theorem CF.rf (d : Nat) (x : XT) : CF d x x := ⟨fun _ _ _ h => h, rfl, rfl, rfl, rfl, rfl, fun _ _ _ => rfl⟩
theorem CF.tr {d : Nat} {x y z : XT} (h : CF d x y) (k : CF d y z) : CF d x z := ⟨fun a P D q => k.1 a P D (h.1 a P D q), k.2.1.trans h.2.1, k.2.2.1.trans h.2.2.1, k.2.2.2.1.trans h.2.2.2.1, k.2.2.2.2.1.trans h.2.2.2.2.1, k.2.2.2.2.2.1.trans h.2.2.2.2.2.1, fun d' h1 h2 => (k.2.2.2.2.2.2 d' h1 h2).trans (h.2.2.2.2.2.2 d' h1 h2)⟩
theorem CF.C {d : Nat} {x : XT} {c : CT} (hd : cp2 d) : CF d x (X_C_ x d c) := by
  rcases hd with rfl | rfl
  · refine ⟨fun _ _ _ h => h, rfl, rfl, rfl, rfl, rfl, fun d' h1 h2 => ?_⟩
    rcases h1 with rfl | rfl
    · exact absurd rfl h2
    · rfl
  · refine ⟨fun _ _ _ h => h, rfl, rfl, rfl, rfl, rfl, fun d' h1 h2 => ?_⟩
    rcases h1 with rfl | rfl
    · rfl
    · exact absurd rfl h2
section XCp
variable {l : LT} {x : XT} {m : MT} {sc : Nat × (Nat → Int32)} {w : aW} {a : AT} {P : PT} {D : DT} {t d : Nat} {QR : Option aV → aW → Prop} {QX : String → aW → Prop} {rc rs B : Nat}
/-- the row of the dead, raw -/
theorem x_draw (hV : V (l, x, m, sc) w) (hX : XP x a P D) (ht : t < 20) (hk : hK (P_kind P t)) : ∃ F : Nat → Int32, (∀ k, k < 12 → gI w (a.2.2 t) (nI k) (F k)) ∧ ∀ i, i < (D t).length → F i = nI (gD (D t) i) := by
  obtain ⟨r, h1, h2⟩ := hX.h ht hk
  obtain ⟨a1, a2, a3, a4, a5, a6, a7, a8, a9, a10, a11, a12, a13⟩ := h2
  have g := hV.hde h1
  rw [a4] at g
  exact ⟨R_dead r, fun k hk2 => ⟨12, _, g, vp_in_nI hk2 (by decide), by rw [nI_clamp (by omega)]⟩, a13⟩
end XCp
