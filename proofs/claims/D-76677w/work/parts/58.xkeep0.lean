/-! ===== writes into one row of a copy ===== -/
set_option maxRecDepth 100000
set_option maxHeartbeats 400000
/-- all but row t is same -/
def CU (t : Nat) (c c' : CT) : Prop := C_things c' = C_things c ∧ C_sizes c' = C_sizes c ∧ C_births c' = C_births c ∧ C_time c' = C_time c ∧ C_freed c' = C_freed c ∧ ∀ u, u ≠ t → C_deadMany c' u = C_deadMany c u ∧ C_prevs c' u = C_prevs c u ∧ C_owners c' u = C_owners c u ∧ C_tags c' u = C_tags c u ∧ C_slots c' u = C_slots c u ∧ C_dead c' u = C_dead c u
theorem CU.rf (t : Nat) (c : CT) : CU t c c := ⟨rfl, rfl, rfl, rfl, rfl, fun _ _ => ⟨rfl, rfl, rfl, rfl, rfl, rfl⟩⟩
theorem CU.tr {t : Nat} {c c1 c2 : CT} (h : CU t c c1) (k : CU t c1 c2) : CU t c c2 := by
  obtain ⟨a1, a2, a3, a4, a5, a6⟩ := h
  obtain ⟨b1, b2, b3, b4, b5, b6⟩ := k
  refine ⟨b1.trans a1, b2.trans a2, b3.trans a3, b4.trans a4, b5.trans a5, fun u hu => ?_⟩
  obtain ⟨d1, d2, d3, d4, d5, d6⟩ := a6 u hu
  obtain ⟨e1, e2, e3, e4, e5, e6⟩ := b6 u hu
  exact ⟨e1.trans d1, e2.trans d2, e3.trans d3, e4.trans d4, e5.trans d5, e6.trans d6⟩
theorem va_n {f : Nat → Option Nat} {k j : Nat} {v : Option Nat} (h : j ≠ k) : va_up f k v j = f j := if_neg h
theorem va_s {f : Nat → Option Nat} {k : Nat} {v : Option Nat} : va_up f k v k = v := if_pos rfl
section XKp
variable {l : LT} {x : XT} {m : MT} {sc : Nat × (Nat → Int32)} {w : aW} {t d : Nat}
theorem k_deadMany (h : V (l, x, m, sc) w) (hd : cp2 d) (ht : t < 20) {v : Int32} {Q : aW → Prop} (q : ∀ x2 w2, V (l, x2, m, sc) w2 → CF d x x2 → CU t (X_C x d) (X_C x2 d) → C_deadMany (X_C x2 d) t = v ∧ C_prevs (X_C x2 d) t = C_prevs (X_C x d) t ∧ C_owners (X_C x2 d) t = C_owners (X_C x d) t ∧ C_tags (X_C x2 d) t = C_tags (X_C x d) t ∧ C_slots (X_C x2 d) t = C_slots (X_C x d) t ∧ C_dead (X_C x2 d) t = C_dead (X_C x d) t → Q w2) : pI w (L_ad l (d + 4)) (nI t) v Q := by
  refine h.cp_deadMany hd (vp_in_nI ht (by decide)) (fun w2 h2 => q _ w2 h2 (CF.C hd) ?_ ?_)
  · rw [X_C_s hd, nI_clamp (by omega)]
    exact ⟨rfl, rfl, rfl, rfl, rfl, fun u hu => ⟨pk_un hu, rfl, rfl, rfl, rfl, rfl⟩⟩
  · rw [X_C_s hd, nI_clamp (by omega)]
    exact ⟨pk_us, rfl, rfl, rfl, rfl, rfl⟩
theorem k_tags (h : V (l, x, m, sc) w) (hd : cp2 d) (ht : t < 20) {v : Int32} {Q : aW → Prop} (q : ∀ x2 w2, V (l, x2, m, sc) w2 → CF d x x2 → CU t (X_C x d) (X_C x2 d) → C_tags (X_C x2 d) t = v ∧ C_deadMany (X_C x2 d) t = C_deadMany (X_C x d) t ∧ C_prevs (X_C x2 d) t = C_prevs (X_C x d) t ∧ C_owners (X_C x2 d) t = C_owners (X_C x d) t ∧ C_slots (X_C x2 d) t = C_slots (X_C x d) t ∧ C_dead (X_C x2 d) t = C_dead (X_C x d) t → Q w2) : pI w (L_ad l (d + 7)) (nI t) v Q := by
  refine h.cp_tags hd (vp_in_nI ht (by decide)) (fun w2 h2 => q _ w2 h2 (CF.C hd) ?_ ?_)
  · rw [X_C_s hd, nI_clamp (by omega)]
    exact ⟨rfl, rfl, rfl, rfl, rfl, fun u hu => ⟨rfl, rfl, rfl, pk_un hu, rfl, rfl⟩⟩
  · rw [X_C_s hd, nI_clamp (by omega)]
    exact ⟨pk_us, rfl, rfl, rfl, rfl, rfl⟩
theorem k_prevs (h : V (l, x, m, sc) w) (hd : cp2 d) (ht : t < 20) {v : Option Nat} {Q : aW → Prop} (q : ∀ x2 w2, V (l, x2, m, sc) w2 → CF d x x2 → CU t (X_C x d) (X_C x2 d) → C_prevs (X_C x2 d) t = v ∧ C_deadMany (X_C x2 d) t = C_deadMany (X_C x d) t ∧ C_owners (X_C x2 d) t = C_owners (X_C x d) t ∧ C_tags (X_C x2 d) t = C_tags (X_C x d) t ∧ C_slots (X_C x2 d) t = C_slots (X_C x d) t ∧ C_dead (X_C x2 d) t = C_dead (X_C x d) t → Q w2) : pR w (L_ad l (d + 5)) 3 (nI t) v Q := by
  refine h.cp_prevs hd (vp_in_nI ht (by decide)) (fun w2 h2 => q _ w2 h2 (CF.C hd) ?_ ?_)
  · rw [X_C_s hd, nI_clamp (by omega)]
    exact ⟨rfl, rfl, rfl, rfl, rfl, fun u hu => ⟨rfl, va_n hu, rfl, rfl, rfl, rfl⟩⟩
  · rw [X_C_s hd, nI_clamp (by omega)]
    exact ⟨va_s, rfl, rfl, rfl, rfl, rfl⟩
theorem k_owners (h : V (l, x, m, sc) w) (hd : cp2 d) (ht : t < 20) {v : Option Nat} {Q : aW → Prop} (q : ∀ x2 w2, V (l, x2, m, sc) w2 → CF d x x2 → CU t (X_C x d) (X_C x2 d) → C_owners (X_C x2 d) t = v ∧ C_deadMany (X_C x2 d) t = C_deadMany (X_C x d) t ∧ C_prevs (X_C x2 d) t = C_prevs (X_C x d) t ∧ C_tags (X_C x2 d) t = C_tags (X_C x d) t ∧ C_slots (X_C x2 d) t = C_slots (X_C x d) t ∧ C_dead (X_C x2 d) t = C_dead (X_C x d) t → Q w2) : pR w (L_ad l (d + 6)) 5 (nI t) v Q := by
  refine h.cp_owners hd (vp_in_nI ht (by decide)) (fun w2 h2 => q _ w2 h2 (CF.C hd) ?_ ?_)
  · rw [X_C_s hd, nI_clamp (by omega)]
    exact ⟨rfl, rfl, rfl, rfl, rfl, fun u hu => ⟨rfl, rfl, va_n hu, rfl, rfl, rfl⟩⟩
  · rw [X_C_s hd, nI_clamp (by omega)]
    exact ⟨va_s, rfl, rfl, rfl, rfl, rfl⟩
theorem k_slot (h : V (l, x, m, sc) w) (hd : cp2 d) (ht : t < 20) {k : Nat} (hk : k < 12) {v : Int32} {Q : aW → Prop} (q : ∀ x2 w2, V (l, x2, m, sc) w2 → CF d x x2 → CU t (X_C x d) (X_C x2 d) → (C_slots (X_C x2 d) t k = v ∧ ∀ j, j ≠ k → C_slots (X_C x2 d) t j = C_slots (X_C x d) t j) ∧ C_deadMany (X_C x2 d) t = C_deadMany (X_C x d) t ∧ C_prevs (X_C x2 d) t = C_prevs (X_C x d) t ∧ C_owners (X_C x2 d) t = C_owners (X_C x d) t ∧ C_tags (X_C x2 d) t = C_tags (X_C x d) t ∧ C_dead (X_C x2 d) t = C_dead (X_C x d) t → Q w2) : pI w (L_ad l (d + 10 + t)) (nI k) v Q := by
  refine h.cp_slot hd ht hk (fun w2 h2 => q _ w2 h2 (CF.C hd) ?_ ?_)
  · rw [X_C_s hd]
    exact ⟨rfl, rfl, rfl, rfl, rfl, fun u hu => ⟨rfl, rfl, rfl, rfl, (funext fun j => fset2_n (fun z => hu z.1)), rfl⟩⟩
  · rw [X_C_s hd]
    exact ⟨⟨fset2_s, fun j hj => fset2_n (fun z => hj z.2)⟩, rfl, rfl, rfl, rfl, rfl⟩
theorem k_dead (h : V (l, x, m, sc) w) (hd : cp2 d) (ht : t < 20) {k : Nat} (hk : k < 12) {v : Int32} {Q : aW → Prop} (q : ∀ x2 w2, V (l, x2, m, sc) w2 → CF d x x2 → CU t (X_C x d) (X_C x2 d) → (C_dead (X_C x2 d) t k = v ∧ ∀ j, j ≠ k → C_dead (X_C x2 d) t j = C_dead (X_C x d) t j) ∧ C_deadMany (X_C x2 d) t = C_deadMany (X_C x d) t ∧ C_prevs (X_C x2 d) t = C_prevs (X_C x d) t ∧ C_owners (X_C x2 d) t = C_owners (X_C x d) t ∧ C_tags (X_C x2 d) t = C_tags (X_C x d) t ∧ C_slots (X_C x2 d) t = C_slots (X_C x d) t → Q w2) : pI w (L_ad l (d + 30 + t)) (nI k) v Q := by
  refine h.cp_dead hd ht hk (fun w2 h2 => q _ w2 h2 (CF.C hd) ?_ ?_)
  · rw [X_C_s hd]
    exact ⟨rfl, rfl, rfl, rfl, rfl, fun u hu => ⟨rfl, rfl, rfl, rfl, rfl, (funext fun j => fset2_n (fun z => hu z.1))⟩⟩
  · rw [X_C_s hd]
    exact ⟨⟨fset2_s, fun j hj => fset2_n (fun z => hj z.2)⟩, rfl, rfl, rfl, rfl, rfl⟩
end XKp
