/-! ===== holders: reading and writing ===== -/
set_option maxRecDepth 100000
section XH
variable {l : LT} {x : XT} {m : MT} {sc : Nat × (Nat → Int32)} {w : aW}
theorem V.hset (h : V (l, x, m, sc) w) {a : Nat} {r r' : RT} (hr : X_H x a = some r) (e1 : R_ci r' = R_ci r) (e2 : R_sa r' = R_sa r) (e3 : R_da r' = R_da r) {q : Nat} {c : aCell} (hc : (q = a ∧ c = .inr (R_ci r, hobj r') ∧ R_slots r' = R_slots r ∧ R_dead r' = R_dead r) ∨ (q = R_sa r ∧ c = cInts 12 (R_slots r') ∧ hobj r' = hobj r ∧ R_dead r' = R_dead r) ∨ (q = R_da r ∧ c = cInts 12 (R_dead r') ∧ hobj r' = hobj r ∧ R_slots r' = R_slots r)) : V (l, X_H_ x (fset (X_H x) a (some r')), m, sc) (aup w q c) := by
  obtain ⟨n1, n2, n3, n4, n5, n6, n7⟩ := h.1.2.1 a r hr
  have n1' : L_ga l a = 1000 := n1
  have n2' : L_ga l (R_sa r) = 1001 := n2
  have n4' : L_ga l (R_da r) = 1002 := n4
  have gq : 1000 ≤ L_ga l q := by
    rcases hc with z | z | z
    · rw [z.1, n1']; omega
    · rw [z.1, n2']; omega
    · rw [z.1, n4']; omega
  refine h.mk ⟨h.1.1, fun b s hb => ?_, h.1.2.2.1, h.1.2.2.2⟩ (fun p d hp => ?_)
  · have hb' : fset (X_H x) a (some r') b = some s := hb
    by_cases e : b = a
    · subst e
      rw [fset_s] at hb'
      cases hb'
      rw [e1, e2, e3]
      exact ⟨n1, n2, n3, n4, n5, n6, n7⟩
    · rw [fset_n e] at hb'
      exact h.1.2.1 b s hb'
  · by_cases hlt : L_ga l p < 1000
    · right
      refine ⟨fun e => by rw [e] at hlt; omega, ?_⟩
      rw [← hp]
      unfold Wc
      have e1 : g_ga (l, X_H_ x (fset (X_H x) a (some r')), m, sc) p = L_ga l p := rfl
      have e2 : g_ga (l, x, m, sc) p = L_ga l p := rfl
      rw [e1, e2, if_pos hlt, if_pos hlt]
      have e3 : scell (l, X_H_ x (fset (X_H x) a (some r')), m, sc) (L_ga l p) = scell (l, x, m, sc) (L_ga l p) := by
        refine x_other (n := 100000) (fun z hz _ => ?_) (fun z _ => rfl) (fun z _ => rfl) _ (by omega)
        match z, hz with
        | 0, _ => rfl
        | 1, _ => rfl
        | 2, _ => rfl
        | 3, _ => rfl
        | 4, _ => rfl
        | 5, _ => rfl
        | 6, _ => rfl
        | 7, _ => rfl
        | 8, _ => rfl
        | 9, _ => rfl
        | 10, _ => rfl
        | _ + 11, _ => rfl
      rw [e3]
      rfl
    · have hlt' : ¬ g_ga (l, x, m, sc) p < 1000 := hlt
      rw [Wc_d hlt']
      have hp' : dcell (l, X_H_ x (fset (X_H x) a (some r')), m, sc) p = some d := by
        have hlt2 : ¬ g_ga (l, X_H_ x (fset (X_H x) a (some r')), m, sc) p < 1000 := hlt
        rw [← Wc_d hlt2]
        exact hp
      unfold dcell at hp' ⊢
      have eg : g_ga (l, X_H_ x (fset (X_H x) a (some r')), m, sc) p = g_ga (l, x, m, sc) p := rfl
      rw [eg] at hp'
      split at hp'
      · next hg =>
        have hp2 : (fset (X_H x) a (some r') p).map (fun r => (Sum.inr (R_ci r, hobj r) : aCell)) = some d := hp'
        by_cases e : p = a
        · subst e
          rw [fset_s] at hp2
          have hp3 : (some (Sum.inr (R_ci r', hobj r')) : Option aCell) = some d := hp2
          rw [e1] at hp3
          rcases hc with ⟨z1, z2, -⟩ | ⟨z1, -, z3, -⟩ | ⟨z1, -, z3, -⟩
          · left
            exact ⟨z1.symm, by rw [z2]; exact (Option.some.inj hp3).symm⟩
          · right
            refine ⟨fun z => ?_, ?_⟩
            · rw [z, z1, n2'] at n1'
              omega
            · show (X_H x p).map _ = _
              rw [hr, ← hp3, z3]
              rfl
          · right
            refine ⟨fun z => ?_, ?_⟩
            · rw [z, z1, n4'] at n1'
              omega
            · show (X_H x p).map _ = _
              rw [hr, ← hp3, z3]
              rfl
        · rw [fset_n e] at hp2
          right
          refine ⟨fun z => ?_, hp2⟩
          rcases hc with y | y | y
          · exact e (z.trans y.1)
          · have hg' : L_ga l p = 1000 := hg
            rw [z, y.1, n2'] at hg'
            omega
          · have hg' : L_ga l p = 1000 := hg
            rw [z, y.1, n4'] at hg'
            omega
      · next hg =>
        have hg' : L_ga l p = 1001 := hg
        have hp2 : (fset (X_H x) a (some r') (L_hb l p)).bind (fun r => if R_sa r = p then some (cInts 12 (R_slots r)) else none) = some d := hp'
        by_cases e : L_hb l p = a
        · rw [e, fset_s] at hp2
          have hp3 : (if R_sa r' = p then some (cInts 12 (R_slots r')) else none) = some d := hp2
          rw [e2] at hp3
          by_cases e4 : R_sa r = p
          · rw [if_pos e4] at hp3
            cases hp3
            rcases hc with ⟨z1, -, z3, -⟩ | ⟨z1, z2, -⟩ | ⟨z1, -, -, z3⟩
            · right
              refine ⟨fun z => ?_, ?_⟩
              · rw [z, z1, n1'] at hg'
                omega
              · show (X_H x (L_hb l p)).bind _ = _
                rw [e, hr, z3]
                exact if_pos e4
            · left
              exact ⟨by rw [z1, e4], z2.symm⟩
            · right
              refine ⟨fun z => ?_, ?_⟩
              · rw [z, z1, n4'] at hg'
                omega
              · show (X_H x (L_hb l p)).bind _ = _
                rw [e, hr, z3]
                exact if_pos e4
          · rw [if_neg e4] at hp3
            cases hp3
        · rw [fset_n e] at hp2
          right
          refine ⟨fun z => ?_, hp2⟩
          rcases hc with y | y | y
          · rw [z, y.1, n1'] at hg'
            omega
          · exact e (by rw [z, y.1]; exact n3)
          · rw [z, y.1, n4'] at hg'
            omega
      · next hg =>
        have hg' : L_ga l p = 1002 := hg
        have hp2 : (fset (X_H x) a (some r') (L_hb l p)).bind (fun r => if R_da r = p then some (cInts 12 (R_dead r)) else none) = some d := hp'
        by_cases e : L_hb l p = a
        · rw [e, fset_s] at hp2
          have hp3 : (if R_da r' = p then some (cInts 12 (R_dead r')) else none) = some d := hp2
          rw [e3] at hp3
          by_cases e4 : R_da r = p
          · rw [if_pos e4] at hp3
            cases hp3
            rcases hc with ⟨z1, -, -, z3⟩ | ⟨z1, -, -, z3⟩ | ⟨z1, z2, -⟩
            · right
              refine ⟨fun z => ?_, ?_⟩
              · rw [z, z1, n1'] at hg'
                omega
              · show (X_H x (L_hb l p)).bind _ = _
                rw [e, hr, z3]
                exact if_pos e4
            · right
              refine ⟨fun z => ?_, ?_⟩
              · rw [z, z1, n2'] at hg'
                omega
              · show (X_H x (L_hb l p)).bind _ = _
                rw [e, hr, z3]
                exact if_pos e4
            · left
              exact ⟨by rw [z1, e4], z2.symm⟩
          · rw [if_neg e4] at hp3
            cases hp3
        · rw [fset_n e] at hp2
          right
          refine ⟨fun z => ?_, hp2⟩
          rcases hc with y | y | y
          · rw [z, y.1, n1'] at hg'
            omega
          · rw [z, y.1, n2'] at hg'
            omega
          · exact e (by rw [z, y.1]; exact n5)
      · next hg =>
        have hg' : L_ga l p = 1003 := hg
        right
        refine ⟨fun z => ?_, hp'⟩
        rcases hc with y | y | y
        · rw [z, y.1, n1'] at hg'
          omega
        · rw [z, y.1, n2'] at hg'
          omega
        · rw [z, y.1, n4'] at hg'
          omega
      · next hg =>
        have hg' : L_ga l p = 1004 := hg
        right
        refine ⟨fun z => ?_, hp'⟩
        rcases hc with y | y | y
        · rw [z, y.1, n1'] at hg'
          omega
        · rw [z, y.1, n2'] at hg'
          omega
        · rw [z, y.1, n4'] at hg'
          omega
      · cases hp'
theorem V.hci (h : V (l, x, m, sc) w) {a : Nat} {r : RT} (hr : X_H x a = some r) : R_ci r = 4 ∨ R_ci r = 5 ∨ R_ci r = 6 ∨ R_ci r = 7 := by
  obtain ⟨-, -, -, -, -, h1, h2⟩ := h.1.2.1 a r hr
  have h1' : 4 ≤ R_ci r := h1
  have h2' : R_ci r ≤ 7 := h2
  omega
theorem V.hf_made (h : V (l, x, m, sc) w) {a : Nat} {r : RT} (hr : X_H x a = some r) {cs : List Nat} (hc : R_ci r ∈ cs) : gf w a cs 0 (vI (R_made r)) := ⟨_, _, h.ho hr, hc, rfl⟩
theorem V.hf_sa (h : V (l, x, m, sc) w) {a : Nat} {r : RT} (hr : X_H x a = some r) {cs : List Nat} (hc : R_ci r ∈ cs) : gf w a cs 1 (vR (some (R_sa r))) := ⟨_, _, h.ho hr, hc, rfl⟩
theorem V.hf_da (h : V (l, x, m, sc) w) {a : Nat} {r : RT} (hr : X_H x a = some r) {cs : List Nat} (hc : R_ci r ∈ cs) : gf w a cs 2 (vR (some (R_da r))) := ⟨_, _, h.ho hr, hc, rfl⟩
theorem V.hf_deadMany (h : V (l, x, m, sc) w) {a : Nat} {r : RT} (hr : X_H x a = some r) {cs : List Nat} (hc : R_ci r ∈ cs) : gf w a cs 3 (vI (R_deadMany r)) := ⟨_, _, h.ho hr, hc, rfl⟩
theorem V.hf_number (h : V (l, x, m, sc) w) {a : Nat} {r : RT} (hr : X_H x a = some r) {cs : List Nat} (hc : R_ci r ∈ cs) : gf w a cs 4 (vI (R_number r)) := ⟨_, _, h.ho hr, hc, rfl⟩
theorem V.hf_prev (h : V (l, x, m, sc) w) {a : Nat} {r : RT} (hr : X_H x a = some r) {cs : List Nat} (hc : R_ci r ∈ cs) : gf w a cs 5 (vR (R_prev r)) := ⟨_, _, h.ho hr, hc, rfl⟩
theorem V.hf_owner (h : V (l, x, m, sc) w) {a : Nat} {r : RT} (hr : X_H x a = some r) (h2 : R_ci r = 6 ∨ R_ci r = 7) {cs : List Nat} (hc : R_ci r ∈ cs) : gf w a cs 6 (vR (R_owner r)) := by
  refine ⟨_, _, h.ho hr, hc, ?_⟩
  unfold hobj
  rcases h2 with e | e <;> (rw [e]; rfl)
theorem V.hf_quota (h : V (l, x, m, sc) w) {a : Nat} {r : RT} (hr : X_H x a = some r) (h2 : R_ci r = 5) {cs : List Nat} (hc : R_ci r ∈ cs) : gf w a cs 6 (vI (R_qt r)) := by
  refine ⟨_, _, h.ho hr, hc, ?_⟩
  unfold hobj
  rw [h2]
  rfl
theorem V.hf_tags (h : V (l, x, m, sc) w) {a : Nat} {r : RT} (hr : X_H x a = some r) (h2 : R_ci r = 7) {cs : List Nat} (hc : R_ci r ∈ cs) : gf w a cs 7 (vI (R_qt r)) := by
  refine ⟨_, _, h.ho hr, hc, ?_⟩
  unfold hobj
  rw [h2]
  rfl
theorem V.hO (h : V (l, x, m, sc) w) {a : Nat} {r : RT} (hr : X_H x a = some r) {k : Nat} (hk : R_ci r = k) : isO w a k := ⟨_, by rw [← hk]; exact h.ho hr⟩
theorem V.hck (h : V (l, x, m, sc) w) {a : Nat} {r : RT} (hr : X_H x a = some r) {ks : List Nat} (hk : R_ci r ∈ ks) : ck w a ks := ⟨_, h.ho hr, hk⟩
theorem V.bck (h : V (l, x, m, sc) w) {a : Nat} {v : Int32} (hr : X_B x a = some v) {ks : List Nat} (hk : 8 ∈ ks) : ck w a ks := ⟨_, h.bm hr, hk⟩
theorem V.bf (h : V (l, x, m, sc) w) {a : Nat} {v : Int32} (hr : X_B x a = some v) : gf w a [8] 0 (vI v) := ⟨_, _, h.bm hr, List.mem_singleton.mpr rfl, rfl⟩
theorem V.hg_slots (h : V (l, x, m, sc) w) {a : Nat} {r : RT} (hr : X_H x a = some r) {i : Int32} (hi : vp_in i 12) : gI w (R_sa r) i (R_slots r i.toNatClampNeg) := ⟨12, _, h.hsl hr, hi, rfl⟩
theorem V.hg_dead (h : V (l, x, m, sc) w) {a : Nat} {r : RT} (hr : X_H x a = some r) {i : Int32} (hi : vp_in i 12) : gI w (R_da r) i (R_dead r i.toNatClampNeg) := ⟨12, _, h.hde hr, hi, rfl⟩
theorem V.hp_slots (h : V (l, x, m, sc) w) {a : Nat} {r : RT} (hr : X_H x a = some r) {i v : Int32} {Q : aW → Prop} (hi : vp_in i 12) (k : ∀ w', V (l, X_H_ x (fset (X_H x) a (some (R_slots_ r (upd (R_slots r) i.toNatClampNeg v)))), m, sc) w' → Q w') : pI w (R_sa r) i v Q :=
  ⟨12, _, h.hsl hr, hi, k _ (h.hset (r' := R_slots_ r (upd (R_slots r) i.toNatClampNeg v)) hr rfl rfl rfl (Or.inr (Or.inl ⟨rfl, rfl, rfl, rfl⟩)))⟩
theorem V.hp_dead (h : V (l, x, m, sc) w) {a : Nat} {r : RT} (hr : X_H x a = some r) {i v : Int32} {Q : aW → Prop} (hi : vp_in i 12) (k : ∀ w', V (l, X_H_ x (fset (X_H x) a (some (R_dead_ r (upd (R_dead r) i.toNatClampNeg v)))), m, sc) w' → Q w') : pI w (R_da r) i v Q :=
  ⟨12, _, h.hde hr, hi, k _ (h.hset (r' := R_dead_ r (upd (R_dead r) i.toNatClampNeg v)) hr rfl rfl rfl (Or.inr (Or.inr ⟨rfl, rfl, rfl, rfl⟩)))⟩
theorem V.hpf_deadMany (h : V (l, x, m, sc) w) {a : Nat} {r : RT} (hr : X_H x a = some r) {cs : List Nat} (hc : R_ci r ∈ cs) {v : Int32} {Q : aW → Prop} (k : ∀ w', V (l, X_H_ x (fset (X_H x) a (some (R_deadMany_ r v))), m, sc) w' → Q w') : pf w a cs 3 (vI v) Q := by
  refine ⟨_, _, h.ho hr, hc, ?_, k _ (h.hset (r' := R_deadMany_ r v) hr rfl rfl rfl (Or.inl ⟨rfl, ?_, rfl, rfl⟩))⟩
  · unfold hobj
    rw [List.length_append]
    show 3 < 6 + _
    omega
  · rfl
theorem V.hpf_number (h : V (l, x, m, sc) w) {a : Nat} {r : RT} (hr : X_H x a = some r) {cs : List Nat} (hc : R_ci r ∈ cs) {v : Int32} {Q : aW → Prop} (k : ∀ w', V (l, X_H_ x (fset (X_H x) a (some (R_number_ r v))), m, sc) w' → Q w') : pf w a cs 4 (vI v) Q := by
  refine ⟨_, _, h.ho hr, hc, ?_, k _ (h.hset (r' := R_number_ r v) hr rfl rfl rfl (Or.inl ⟨rfl, ?_, rfl, rfl⟩))⟩
  · unfold hobj
    rw [List.length_append]
    show 4 < 6 + _
    omega
  · rfl
theorem V.hpf_prev (h : V (l, x, m, sc) w) {a : Nat} {r : RT} (hr : X_H x a = some r) {cs : List Nat} (hc : R_ci r ∈ cs) {v : Option Nat} {Q : aW → Prop} (k : ∀ w', V (l, X_H_ x (fset (X_H x) a (some (R_prev_ r v))), m, sc) w' → Q w') : pf w a cs 5 (vR v) Q := by
  refine ⟨_, _, h.ho hr, hc, ?_, k _ (h.hset (r' := R_prev_ r v) hr rfl rfl rfl (Or.inl ⟨rfl, ?_, rfl, rfl⟩))⟩
  · unfold hobj
    rw [List.length_append]
    show 5 < 6 + _
    omega
  · rfl
theorem V.hpf_owner (h : V (l, x, m, sc) w) {a : Nat} {r : RT} (hr : X_H x a = some r) (h2 : R_ci r = 6 ∨ R_ci r = 7) {cs : List Nat} (hc : R_ci r ∈ cs) {v : Option Nat} {Q : aW → Prop} (k : ∀ w', V (l, X_H_ x (fset (X_H x) a (some (R_owner_ r v))), m, sc) w' → Q w') : pf w a cs 6 (vR v) Q := by
  refine ⟨_, _, h.ho hr, hc, ?_, k _ (h.hset (r' := R_owner_ r v) hr rfl rfl rfl (Or.inl ⟨rfl, ?_, rfl, rfl⟩))⟩
  · unfold hobj
    rcases h2 with e | e <;> (rw [e]; simp)
  · have e0 : R_ci (R_owner_ r v) = R_ci r := rfl
    unfold hobj
    rw [e0]
    rcases h2 with e | e <;> (rw [e]; rfl)
theorem V.hpf_tags (h : V (l, x, m, sc) w) {a : Nat} {r : RT} (hr : X_H x a = some r) (h2 : R_ci r = 7) {cs : List Nat} (hc : R_ci r ∈ cs) {v : Int32} {Q : aW → Prop} (k : ∀ w', V (l, X_H_ x (fset (X_H x) a (some (R_qt_ r v))), m, sc) w' → Q w') : pf w a cs 7 (vI v) Q := by
  refine ⟨_, _, h.ho hr, hc, ?_, k _ (h.hset (r' := R_qt_ r v) hr rfl rfl rfl (Or.inl ⟨rfl, ?_, rfl, rfl⟩))⟩
  · unfold hobj
    rw [h2]
    simp
  · have e0 : R_ci (R_qt_ r v) = R_ci r := rfl
    unfold hobj
    rw [e0, h2]
    rfl
end XH
