/-! ===== the pool lays one holder back ===== -/
set_option maxRecDepth 100000
set_option maxHeartbeats 400000
/-- only the object at q changes -/
def OF (q : Nat) (x x1 : XT) : Prop := X_things x1 = X_things x ∧ (∀ d, X_C x1 d = X_C x d) ∧ X_B x1 = X_B x ∧ X_rows x1 = X_rows x ∧ X_W x1 = X_W x ∧ X_hasImage x1 = X_hasImage x ∧ ∀ p, p ≠ q → X_H x1 p = X_H x p
theorem OF.rf (q : Nat) (x : XT) : OF q x x := ⟨rfl, fun _ => rfl, rfl, rfl, rfl, rfl, fun _ _ => rfl⟩
theorem OF.up {q : Nat} {x x1 : XT} (h : OF q x x1) {v : Option RT} : OF q x (X_H_ x1 (fset (X_H x1) q v)) := ⟨h.1, h.2.1, h.2.2.1, h.2.2.2.1, h.2.2.2.2.1, h.2.2.2.2.2.1, fun p hp => (fset_n hp).trans (h.2.2.2.2.2.2 p hp)⟩
def IR (a : AT) (P : PT) (t : Nat) (r : RT) : Prop := R_ci r = ciK (P_kind P t) ∧ R_made r = P_made P t ∧ R_sa r = a.2.1 t ∧ R_da r = a.2.2 t ∧ R_number r = nI t ∧ (P_kind P t = 1 → R_qt r = P_quota P t)
section XL1
variable {l : LT} {x : XT} {m : MT} {sc : Nat × (Nat → Int32)} {w : aW} {a : AT} {P : PT} {D : DT} {t d : Nat} {QR : Option aV → aW → Prop} {QX : String → aW → Prop} {rc rs : Nat}
theorem lp_lays1 (hd : cp2 d) (ht : t < 20) (hk : hK (P_kind P t)) (hO : KO (X_C x d) a P D t) (h : ∀ x' w' r', V (l, x', m, sc) w' → OF (a.1 t) x x' → X_H x' (a.1 t) = some r' → HR a P D t r' → QR none w') : ∀ n k x1 w1 r1, k + n = 12 → V (l, x1, m, sc) w1 → OF (a.1 t) x x1 → X_H x1 (a.1 t) = some r1 → IR a P t r1 → (∀ j, j < k → R_slots r1 j = C_slots (X_C x d) t j ∧ R_dead r1 j = C_dead (X_C x d) t j) → wp KX0_laysOneBack rc rs QR QX 2 [(0, vR (some (L_ad l d))), (1, vR (some (a.1 t))), (2, vI (nI t)), (3, vI (nI k))] [] w1 := by
  obtain ⟨o1, o2, o3, o4, o5, o6, o7⟩ := hO
  intro n
  induction n with
  | zero =>
    intro k x1 w1 r1 hk2 hV hF hr hi hj
    have : k = 12 := by omega
    subst this
    obtain ⟨i1, i2, i3, i4, i5, i6⟩ := hi
    have c4 : R_ci r1 ∈ [4, 5, 6, 7] := by rw [i1]; exact (cI_h hk).2
    have gd := hV.cg_deadMany hd (vp_in_nI ht (by decide))
    rw [nI_clamp (by omega), hF.2.1 d, o1] at gd
    refine sg_X0_laysOneBack_2 (lpc (N := 12) rfl (by decide) hk2 (fun _ => ⟨_, rfl, _, hV.cf3 hd, _, gd, _, rfl, hV.hpf_deadMany hr c4 (fun w2 h2 => ?_)⟩) (fun m' e => by omega))
    have hr2 : X_H (X_H_ x1 (fset (X_H x1) (a.1 t) (some (R_deadMany_ r1 (nI (D t).length))))) (a.1 t) = some (R_deadMany_ r1 (nI (D t).length)) := fset_s
    have gp := h2.cg_prevs hd (vp_in_nI ht (by decide))
    rw [nI_clamp (by omega), (hF.up (v := some (R_deadMany_ r1 (nI (D t).length)))).2.1 d, o2] at gp
    refine ⟨_, h2.cf4 hd, _, gp, h2.hpf_prev hr2 c4 (fun w3 h3 => ?_)⟩
    have F3 := (hF.up (v := some (R_deadMany_ r1 (nI (D t).length)))).up (v := some (R_prev_ (R_deadMany_ r1 (nI (D t).length)) (pO a (P_prev P t))))
    revert h3 F3
    have hr3 : X_H (X_H_ (X_H_ x1 (fset (X_H x1) (a.1 t) (some (R_deadMany_ r1 (nI (D t).length))))) (fset (X_H (X_H_ x1 (fset (X_H x1) (a.1 t) (some (R_deadMany_ r1 (nI (D t).length)))))) (a.1 t) (some (R_prev_ (R_deadMany_ r1 (nI (D t).length)) (pO a (P_prev P t)))))) (a.1 t) = some (R_prev_ (R_deadMany_ r1 (nI (D t).length)) (pO a (P_prev P t))) := fset_s
    revert hr3
    generalize X_H_ (X_H_ x1 (fset (X_H x1) (a.1 t) (some (R_deadMany_ r1 (nI (D t).length))))) (fset (X_H (X_H_ x1 (fset (X_H x1) (a.1 t) (some (R_deadMany_ r1 (nI (D t).length)))))) (a.1 t) (some (R_prev_ (R_deadMany_ r1 (nI (D t).length)) (pO a (P_prev P t))))) = x3
    intro hr3 h3 F3
    by_cases cs : sK (P_kind P t)
    · have c67 : R_ci r1 ∈ [6, 7] := by rw [i1]; exact (cI_s cs).2
      have c67' : R_ci r1 = 6 ∨ R_ci r1 = 7 := by
        rcases cs with z | z
        · left; rw [i1, z]; decide
        · right; rw [i1, z]; decide
      have go := h3.cg_owners hd (vp_in_nI ht (by decide))
      rw [nI_clamp (by omega), F3.2.1 d, o3 cs] at go
      refine Or.inl ⟨h3.hck hr3 c67, h3.hck hr3 c67, _, h3.cf5 hd, _, go, h3.hpf_owner hr3 c67' c67 (fun w4 h4 => ?_)⟩
      have hr4 : X_H (X_H_ x3 (fset (X_H x3) (a.1 t) (some (R_owner_ (R_prev_ (R_deadMany_ r1 (nI (D t).length)) (pO a (P_prev P t))) (pO a (P_owner P t)))))) (a.1 t) = some (R_owner_ (R_prev_ (R_deadMany_ r1 (nI (D t).length)) (pO a (P_prev P t))) (pO a (P_owner P t))) := fset_s
      have F4 := F3.up (v := some (R_owner_ (R_prev_ (R_deadMany_ r1 (nI (D t).length)) (pO a (P_prev P t))) (pO a (P_owner P t))))
      have gt := h4.cg_tags hd (vp_in_nI ht (by decide))
      rw [nI_clamp (by omega), F4.2.1 d] at gt
      refine ⟨h4.hck hr4 c67, _, h4.cf6 hd, _, gt, ?_⟩
      by_cases c3 : P_kind P t = 3
      · have c7 : R_ci r1 = 7 := by rw [i1, c3]; decide
        refine Or.inr ⟨h4.hO hr4 c7, st_X8_tagsAre (sg_X8_tagsAre_0 (h4.hpf_tags hr4 c7 (List.mem_singleton.mpr c7) (fun w5 h5 => ⟨rfl, h _ w5 _ h5 F4.up fset_s ⟨i1, i2, i3, i4, rfl, i5, rfl, fun _ => rfl, fun z => absurd (z.symm.trans c3) (by decide), fun _ => o4 c3, fun k hk3 => ((hj k hk3).1).trans (o5 k hk3), o6, fun i hi2 => ((hj i (by omega)).2).trans (o7 i hi2)⟩⟩)))⟩
      · have k2 : P_kind P t = 2 := cs.resolve_right c3
        have c6 : R_ci r1 = 6 := by rw [i1, k2]; decide
        exact Or.inl ⟨h4.hO hr4 c6, st_X7_tagsAre (sg_X7_tagsAre_0 ⟨rfl, h _ w4 _ h4 F4 hr4 ⟨i1, i2, i3, i4, rfl, i5, rfl, fun _ => rfl, fun z => absurd (z.symm.trans k2) (by decide), fun z => absurd z c3, fun k hk3 => ((hj k hk3).1).trans (o5 k hk3), o6, fun i hi2 => ((hj i (by omega)).2).trans (o7 i hi2)⟩⟩)⟩
    · have cf := hk.resolve_right cs
      refine Or.inr ⟨h3.hck hr3 ?_, h x3 w3 _ h3 F3 hr3 ⟨i1, i2, i3, i4, rfl, i5, rfl, fun z => absurd z cs, i6, fun z => absurd (Or.inr z) cs, fun k hk3 => ((hj k hk3).1).trans (o5 k hk3), o6, fun i hi2 => ((hj i (by omega)).2).trans (o7 i hi2)⟩⟩
      show R_ci r1 ∈ _
      rw [i1]
      rcases cf with z | z <;> (rw [z]; decide)
  | succ n ih =>
    intro k x1 w1 r1 hk2 hV hF hr hi hj
    obtain ⟨i1, i2, i3, i4, i5, i6⟩ := hi
    have c4 : R_ci r1 ∈ [4, 5, 6, 7] := by rw [i1]; exact (cI_h hk).2
    have rs := hV.cr_slots hd (vp_in_nI ht (by decide))
    rw [nI_clamp (by omega)] at rs
    refine sg_X0_laysOneBack_2 (lpc (N := 12) rfl (by decide) hk2 (fun e => by omega) (fun m' e hk3 => ⟨_, rfl, _, hV.hf_sa hr c4, _, rfl, _, hV.cf1 hd, _, rs, _, hV.cg_slot hd ht hk3, hV.hp_slots hr (vp_in_nI hk3 (by decide)) (fun w2 h2 => ?_)⟩))
    rw [hF.2.1 d, nI_clamp (by omega)] at h2
    have hr2 : X_H (X_H_ x1 (fset (X_H x1) (a.1 t) (some (R_slots_ r1 (upd (R_slots r1) k (C_slots (X_C x d) t k)))))) (a.1 t) = some (R_slots_ r1 (upd (R_slots r1) k (C_slots (X_C x d) t k))) := fset_s
    have F2 := hF.up (v := some (R_slots_ r1 (upd (R_slots r1) k (C_slots (X_C x d) t k))))
    have rd := h2.cr_dead hd (vp_in_nI ht (by decide))
    rw [nI_clamp (by omega)] at rd
    refine ⟨_, h2.hf_da hr2 c4, _, h2.cf2 hd, _, rd, _, h2.cg_dead hd ht hk3, h2.hp_dead hr2 (vp_in_nI hk3 (by decide)) (fun w3 h3 => ?_)⟩
    rw [F2.2.1 d, nI_clamp (by omega)] at h3
    rw [nI_1]
    refine ih (k + 1) _ w3 _ (by omega) h3 F2.up fset_s ⟨i1, i2, i3, i4, i5, i6⟩ (fun j hj2 => ?_)
    show upd (R_slots r1) k _ j = _ ∧ upd (R_dead r1) k _ j = _
    by_cases e : j = k
    · subst e
      rw [pk_us, pk_us]
      exact ⟨rfl, rfl⟩
    · rw [pk_un e, pk_un e]
      exact hj j (by omega)
end XL1
