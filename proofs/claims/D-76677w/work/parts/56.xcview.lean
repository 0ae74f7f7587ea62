/-! ===== the pool's copies: reading and writing ===== -/
set_option maxRecDepth 100000
set_option maxHeartbeats 400000
/-- the copy with number d -/
def X_C (x : XT) (d : Nat) : CT := if d = 100 then X_kept x else X_thought x
def X_C_ (x : XT) (d : Nat) (c : CT) : XT := if d = 100 then X_kept_ x c else X_thought_ x c
def cp2 (d : Nat) : Prop := d = 100 ∨ d = 200
section XC
variable {l : LT} {x : XT} {m : MT} {sc : Nat × (Nat → Int32)} {w : aW} {d : Nat}
theorem stat_c {n : Nat} (hd : cp2 d) (hn : n < 50) : stat (d + n) = true := by
  unfold stat
  simp only [Bool.or_eq_true, Bool.and_eq_true, decide_eq_true_eq]
  rcases hd with rfl | rfl <;> omega
theorem sc_c {n : Nat} (hd : cp2 d) (hn : n < 50) : scell (l, x, m, sc) (d + n) = ccell (L_ad l) d (X_C x d) n := by
  unfold scell
  rcases hd with rfl | rfl
  · rw [if_neg (by omega), if_pos (by omega), show 100 + n - 100 = n by omega]
    rfl
  · rw [if_neg (by omega), if_neg (by omega), if_pos (by omega), show 200 + n - 200 = n by omega]
    rfl
theorem X_C_s (hd : cp2 d) {c : CT} : X_C (X_C_ x d c) d = c := by
  rcases hd with rfl | rfl <;> rfl
theorem V.cget (h : V (l, x, m, sc) w) (hd : cp2 d) {n : Nat} (hn : n < 50) {c : aCell} (hc : ccell (L_ad l) d (X_C x d) n = some c) : w (L_ad l (d + n)) = some c :=
  h.xg (stat_c hd hn) (by rw [sc_c hd hn]; exact hc)
theorem V.cset (h : V (l, x, m, sc) w) (hd : cp2 d) {n : Nat} (hn : n < 50) {c : aCell} {c' : CT} (ho : ∀ z, z ≠ n → ccell (L_ad l) d c' z = ccell (L_ad l) d (X_C x d) z) (hc : ccell (L_ad l) d c' n = some c) : V (l, X_C_ x d c', m, sc) (aup w (L_ad l (d + n)) c) := by
  have hs := stat_c hd hn
  have hc2 : scell (l, X_C_ x d c', m, sc) (d + n) = some c := by
    rw [sc_c hd hn, X_C_s hd]
    exact hc
  rcases hd with rfl | rfl
  · exact h.sset (100 + n) hs rfl rfl rfl rfl (x_other (fun z _ _ => rfl) (fun z hz => ho z (by omega)) (fun z _ => rfl)) hc2
  · exact h.sset (200 + n) hs rfl rfl rfl rfl (x_other (fun z _ _ => rfl) (fun z _ => rfl) (fun z hz => ho z (by omega))) hc2
theorem V.cf0 (h : V (l, x, m, sc) w) (hd : cp2 d) : gf w (L_ad l d) [2] 0 (vR (some (L_ad l (d + 1)))) := ⟨2, _, h.cget (n := 0) hd (by decide) rfl, List.mem_singleton.mpr rfl, rfl⟩
theorem V.cf1 (h : V (l, x, m, sc) w) (hd : cp2 d) : gf w (L_ad l d) [2] 1 (vR (some (L_ad l (d + 2)))) := ⟨2, _, h.cget (n := 0) hd (by decide) rfl, List.mem_singleton.mpr rfl, rfl⟩
theorem V.cf2 (h : V (l, x, m, sc) w) (hd : cp2 d) : gf w (L_ad l d) [2] 2 (vR (some (L_ad l (d + 3)))) := ⟨2, _, h.cget (n := 0) hd (by decide) rfl, List.mem_singleton.mpr rfl, rfl⟩
theorem V.cf3 (h : V (l, x, m, sc) w) (hd : cp2 d) : gf w (L_ad l d) [2] 3 (vR (some (L_ad l (d + 4)))) := ⟨2, _, h.cget (n := 0) hd (by decide) rfl, List.mem_singleton.mpr rfl, rfl⟩
theorem V.cf4 (h : V (l, x, m, sc) w) (hd : cp2 d) : gf w (L_ad l d) [2] 4 (vR (some (L_ad l (d + 5)))) := ⟨2, _, h.cget (n := 0) hd (by decide) rfl, List.mem_singleton.mpr rfl, rfl⟩
theorem V.cf5 (h : V (l, x, m, sc) w) (hd : cp2 d) : gf w (L_ad l d) [2] 5 (vR (some (L_ad l (d + 6)))) := ⟨2, _, h.cget (n := 0) hd (by decide) rfl, List.mem_singleton.mpr rfl, rfl⟩
theorem V.cf6 (h : V (l, x, m, sc) w) (hd : cp2 d) : gf w (L_ad l d) [2] 6 (vR (some (L_ad l (d + 7)))) := ⟨2, _, h.cget (n := 0) hd (by decide) rfl, List.mem_singleton.mpr rfl, rfl⟩
theorem V.cf7 (h : V (l, x, m, sc) w) (hd : cp2 d) : gf w (L_ad l d) [2] 7 (vR (some (L_ad l (d + 8)))) := ⟨2, _, h.cget (n := 0) hd (by decide) rfl, List.mem_singleton.mpr rfl, rfl⟩
theorem V.cf8 (h : V (l, x, m, sc) w) (hd : cp2 d) : gf w (L_ad l d) [2] 8 (vR (some (L_ad l (d + 9)))) := ⟨2, _, h.cget (n := 0) hd (by decide) rfl, List.mem_singleton.mpr rfl, rfl⟩
theorem V.cf_time (h : V (l, x, m, sc) w) (hd : cp2 d) : gf w (L_ad l d) [2] 9 (vI (C_time (X_C x d))) := ⟨2, _, h.cget (n := 0) hd (by decide) rfl, List.mem_singleton.mpr rfl, rfl⟩
theorem V.cf_freed (h : V (l, x, m, sc) w) (hd : cp2 d) : gf w (L_ad l d) [2] 10 (vI (C_freed (X_C x d))) := ⟨2, _, h.cget (n := 0) hd (by decide) rfl, List.mem_singleton.mpr rfl, rfl⟩
theorem V.cpf_time (h : V (l, x, m, sc) w) (hd : cp2 d) {v : Int32} {Q : aW → Prop} (k : ∀ w', V (l, X_C_ x d (C_time_ (X_C x d) v), m, sc) w' → Q w') : pf w (L_ad l d) [2] 9 (vI v) Q := by
  refine ⟨2, _, h.cget (n := 0) hd (by decide) rfl, List.mem_singleton.mpr rfl, by show 9 < 11; decide, k _ (h.cset (n := 0) hd (by decide) (fun z hz => ?_) rfl)⟩
  match z, hz with
  | 0, hn => exact absurd rfl hn
  | 1, hn => rfl
  | 2, hn => rfl
  | 3, hn => rfl
  | 4, hn => rfl
  | 5, hn => rfl
  | 6, hn => rfl
  | 7, hn => rfl
  | 8, hn => rfl
  | 9, hn => rfl
  | _ + 10, _ => rfl
theorem V.cpf_freed (h : V (l, x, m, sc) w) (hd : cp2 d) {v : Int32} {Q : aW → Prop} (k : ∀ w', V (l, X_C_ x d (C_freed_ (X_C x d) v), m, sc) w' → Q w') : pf w (L_ad l d) [2] 10 (vI v) Q := by
  refine ⟨2, _, h.cget (n := 0) hd (by decide) rfl, List.mem_singleton.mpr rfl, by show 10 < 11; decide, k _ (h.cset (n := 0) hd (by decide) (fun z hz => ?_) rfl)⟩
  match z, hz with
  | 0, hn => exact absurd rfl hn
  | 1, hn => rfl
  | 2, hn => rfl
  | 3, hn => rfl
  | 4, hn => rfl
  | 5, hn => rfl
  | 6, hn => rfl
  | 7, hn => rfl
  | 8, hn => rfl
  | 9, hn => rfl
  | _ + 10, _ => rfl
theorem V.cg_deadMany (h : V (l, x, m, sc) w) (hd : cp2 d) {i : Int32} (hi : vp_in i 20) : gI w (L_ad l (d + 4)) i (C_deadMany (X_C x d) i.toNatClampNeg) := ⟨20, _, h.cget (n := 4) hd (by decide) rfl, hi, rfl⟩
theorem V.cp_deadMany (h : V (l, x, m, sc) w) (hd : cp2 d) {i v : Int32} {Q : aW → Prop} (hi : vp_in i 20) (k : ∀ w', V (l, X_C_ x d (C_deadMany_ (X_C x d) (upd (C_deadMany (X_C x d)) i.toNatClampNeg v)), m, sc) w' → Q w') : pI w (L_ad l (d + 4)) i v Q := by
  refine ⟨20, _, h.cget (n := 4) hd (by decide) rfl, hi, k _ (h.cset (n := 4) hd (by decide) (fun z hz => ?_) rfl)⟩
  match z, hz with
  | 0, hn => rfl
  | 1, hn => rfl
  | 2, hn => rfl
  | 3, hn => rfl
  | 4, hn => exact absurd rfl hn
  | 5, hn => rfl
  | 6, hn => rfl
  | 7, hn => rfl
  | 8, hn => rfl
  | 9, hn => rfl
  | _ + 10, _ => rfl
theorem V.cg_tags (h : V (l, x, m, sc) w) (hd : cp2 d) {i : Int32} (hi : vp_in i 20) : gI w (L_ad l (d + 7)) i (C_tags (X_C x d) i.toNatClampNeg) := ⟨20, _, h.cget (n := 7) hd (by decide) rfl, hi, rfl⟩
theorem V.cp_tags (h : V (l, x, m, sc) w) (hd : cp2 d) {i v : Int32} {Q : aW → Prop} (hi : vp_in i 20) (k : ∀ w', V (l, X_C_ x d (C_tags_ (X_C x d) (upd (C_tags (X_C x d)) i.toNatClampNeg v)), m, sc) w' → Q w') : pI w (L_ad l (d + 7)) i v Q := by
  refine ⟨20, _, h.cget (n := 7) hd (by decide) rfl, hi, k _ (h.cset (n := 7) hd (by decide) (fun z hz => ?_) rfl)⟩
  match z, hz with
  | 0, hn => rfl
  | 1, hn => rfl
  | 2, hn => rfl
  | 3, hn => rfl
  | 4, hn => rfl
  | 5, hn => rfl
  | 6, hn => rfl
  | 7, hn => exact absurd rfl hn
  | 8, hn => rfl
  | 9, hn => rfl
  | _ + 10, _ => rfl
theorem V.cg_sizes (h : V (l, x, m, sc) w) (hd : cp2 d) {i : Int32} (hi : vp_in i 96) : gI w (L_ad l (d + 8)) i (C_sizes (X_C x d) i.toNatClampNeg) := ⟨96, _, h.cget (n := 8) hd (by decide) rfl, hi, rfl⟩
theorem V.cp_sizes (h : V (l, x, m, sc) w) (hd : cp2 d) {i v : Int32} {Q : aW → Prop} (hi : vp_in i 96) (k : ∀ w', V (l, X_C_ x d (C_sizes_ (X_C x d) (upd (C_sizes (X_C x d)) i.toNatClampNeg v)), m, sc) w' → Q w') : pI w (L_ad l (d + 8)) i v Q := by
  refine ⟨96, _, h.cget (n := 8) hd (by decide) rfl, hi, k _ (h.cset (n := 8) hd (by decide) (fun z hz => ?_) rfl)⟩
  match z, hz with
  | 0, hn => rfl
  | 1, hn => rfl
  | 2, hn => rfl
  | 3, hn => rfl
  | 4, hn => rfl
  | 5, hn => rfl
  | 6, hn => rfl
  | 7, hn => rfl
  | 8, hn => exact absurd rfl hn
  | 9, hn => rfl
  | _ + 10, _ => rfl
theorem V.cg_births (h : V (l, x, m, sc) w) (hd : cp2 d) {i : Int32} (hi : vp_in i 96) : gI w (L_ad l (d + 9)) i (C_births (X_C x d) i.toNatClampNeg) := ⟨96, _, h.cget (n := 9) hd (by decide) rfl, hi, rfl⟩
theorem V.cp_births (h : V (l, x, m, sc) w) (hd : cp2 d) {i v : Int32} {Q : aW → Prop} (hi : vp_in i 96) (k : ∀ w', V (l, X_C_ x d (C_births_ (X_C x d) (upd (C_births (X_C x d)) i.toNatClampNeg v)), m, sc) w' → Q w') : pI w (L_ad l (d + 9)) i v Q := by
  refine ⟨96, _, h.cget (n := 9) hd (by decide) rfl, hi, k _ (h.cset (n := 9) hd (by decide) (fun z hz => ?_) rfl)⟩
  match z, hz with
  | 0, hn => rfl
  | 1, hn => rfl
  | 2, hn => rfl
  | 3, hn => rfl
  | 4, hn => rfl
  | 5, hn => rfl
  | 6, hn => rfl
  | 7, hn => rfl
  | 8, hn => rfl
  | 9, hn => exact absurd rfl hn
  | _ + 10, _ => rfl
theorem V.cg_things (h : V (l, x, m, sc) w) (hd : cp2 d) {i : Int32} (hi : vp_in i 20) : gR w (L_ad l (d + 1)) 2 i (C_things (X_C x d) i.toNatClampNeg) := ⟨20, _, h.cget (n := 1) hd (by decide) rfl, hi, rfl⟩
theorem V.cp_things (h : V (l, x, m, sc) w) (hd : cp2 d) {i : Int32} {v : Option Nat} {Q : aW → Prop} (hi : vp_in i 20) (k : ∀ w', V (l, X_C_ x d (C_things_ (X_C x d) (va_up (C_things (X_C x d)) i.toNatClampNeg v)), m, sc) w' → Q w') : pR w (L_ad l (d + 1)) 2 i v Q := by
  refine ⟨20, _, h.cget (n := 1) hd (by decide) rfl, hi, k _ (h.cset (n := 1) hd (by decide) (fun z hz => ?_) rfl)⟩
  match z, hz with
  | 0, hn => rfl
  | 1, hn => exact absurd rfl hn
  | 2, hn => rfl
  | 3, hn => rfl
  | 4, hn => rfl
  | 5, hn => rfl
  | 6, hn => rfl
  | 7, hn => rfl
  | 8, hn => rfl
  | 9, hn => rfl
  | _ + 10, _ => rfl
theorem V.cg_prevs (h : V (l, x, m, sc) w) (hd : cp2 d) {i : Int32} (hi : vp_in i 20) : gR w (L_ad l (d + 5)) 3 i (C_prevs (X_C x d) i.toNatClampNeg) := ⟨20, _, h.cget (n := 5) hd (by decide) rfl, hi, rfl⟩
theorem V.cp_prevs (h : V (l, x, m, sc) w) (hd : cp2 d) {i : Int32} {v : Option Nat} {Q : aW → Prop} (hi : vp_in i 20) (k : ∀ w', V (l, X_C_ x d (C_prevs_ (X_C x d) (va_up (C_prevs (X_C x d)) i.toNatClampNeg v)), m, sc) w' → Q w') : pR w (L_ad l (d + 5)) 3 i v Q := by
  refine ⟨20, _, h.cget (n := 5) hd (by decide) rfl, hi, k _ (h.cset (n := 5) hd (by decide) (fun z hz => ?_) rfl)⟩
  match z, hz with
  | 0, hn => rfl
  | 1, hn => rfl
  | 2, hn => rfl
  | 3, hn => rfl
  | 4, hn => rfl
  | 5, hn => exact absurd rfl hn
  | 6, hn => rfl
  | 7, hn => rfl
  | 8, hn => rfl
  | 9, hn => rfl
  | _ + 10, _ => rfl
theorem V.cg_owners (h : V (l, x, m, sc) w) (hd : cp2 d) {i : Int32} (hi : vp_in i 20) : gR w (L_ad l (d + 6)) 5 i (C_owners (X_C x d) i.toNatClampNeg) := ⟨20, _, h.cget (n := 6) hd (by decide) rfl, hi, rfl⟩
theorem V.cp_owners (h : V (l, x, m, sc) w) (hd : cp2 d) {i : Int32} {v : Option Nat} {Q : aW → Prop} (hi : vp_in i 20) (k : ∀ w', V (l, X_C_ x d (C_owners_ (X_C x d) (va_up (C_owners (X_C x d)) i.toNatClampNeg v)), m, sc) w' → Q w') : pR w (L_ad l (d + 6)) 5 i v Q := by
  refine ⟨20, _, h.cget (n := 6) hd (by decide) rfl, hi, k _ (h.cset (n := 6) hd (by decide) (fun z hz => ?_) rfl)⟩
  match z, hz with
  | 0, hn => rfl
  | 1, hn => rfl
  | 2, hn => rfl
  | 3, hn => rfl
  | 4, hn => rfl
  | 5, hn => rfl
  | 6, hn => exact absurd rfl hn
  | 7, hn => rfl
  | 8, hn => rfl
  | 9, hn => rfl
  | _ + 10, _ => rfl
theorem V.cr_slots (h : V (l, x, m, sc) w) (hd : cp2 d) {i : Int32} (hi : vp_in i 20) : gR w (L_ad l (d + 2)) 6 i (some (L_ad l (d + 10 + i.toNatClampNeg))) := ⟨20, _, h.cget (n := 2) hd (by decide) rfl, hi, rfl⟩
theorem V.cr_dead (h : V (l, x, m, sc) w) (hd : cp2 d) {i : Int32} (hi : vp_in i 20) : gR w (L_ad l (d + 3)) 6 i (some (L_ad l (d + 30 + i.toNatClampNeg))) := ⟨20, _, h.cget (n := 3) hd (by decide) rfl, hi, rfl⟩
theorem cc_s {c : CT} {t : Nat} (ht : t < 20) : ccell (L_ad l) d c (t + 10) = some (cInts 12 (C_slots c t)) := by
  show (if t < 20 then some (cInts 12 (C_slots c t)) else if t < 40 then some (cInts 12 (C_dead c (t - 20))) else none) = _
  rw [if_pos ht]
theorem cc_d {c : CT} {t : Nat} (ht : t < 20) : ccell (L_ad l) d c (t + 20 + 10) = some (cInts 12 (C_dead c t)) := by
  show (if t + 20 < 20 then some (cInts 12 (C_slots c (t + 20))) else if t + 20 < 40 then some (cInts 12 (C_dead c (t + 20 - 20))) else none) = _
  rw [if_neg (by omega), if_pos (by omega), show t + 20 - 20 = t by omega]
theorem V.cg_slot (h : V (l, x, m, sc) w) (hd : cp2 d) {t k : Nat} (ht : t < 20) (hk : k < 12) : gI w (L_ad l (d + 10 + t)) (nI k) (C_slots (X_C x d) t k) := by
  have := h.cget (n := t + 10) hd (by omega) (cc_s ht)
  rw [show d + (t + 10) = d + 10 + t by omega] at this
  exact ⟨12, _, this, vp_in_nI hk (by decide), by rw [nI_clamp (by omega)]⟩
theorem V.cg_dead (h : V (l, x, m, sc) w) (hd : cp2 d) {t k : Nat} (ht : t < 20) (hk : k < 12) : gI w (L_ad l (d + 30 + t)) (nI k) (C_dead (X_C x d) t k) := by
  have := h.cget (n := t + 20 + 10) hd (by omega) (cc_d ht)
  rw [show d + (t + 20 + 10) = d + 30 + t by omega] at this
  exact ⟨12, _, this, vp_in_nI hk (by decide), by rw [nI_clamp (by omega)]⟩
theorem V.cp_slot (h : V (l, x, m, sc) w) (hd : cp2 d) {t k : Nat} (ht : t < 20) (hk : k < 12) {v : Int32} {Q : aW → Prop} (q : ∀ w', V (l, X_C_ x d (C_slots_ (X_C x d) (fset2 (C_slots (X_C x d)) t k v)), m, sc) w' → Q w') : pI w (L_ad l (d + 10 + t)) (nI k) v Q := by
  have g := h.cget (n := t + 10) hd (by omega) (cc_s ht)
  have e : ∀ j, fset2 (C_slots (X_C x d)) t k v t j = upd (C_slots (X_C x d) t) k v j := by
    intro j
    by_cases c : j = k
    · rw [c, fset2_s, pk_us]
    · rw [fset2_n (fun z => c z.2), pk_un c]
  have h2 := h.cset (n := t + 10) (c' := C_slots_ (X_C x d) (fset2 (C_slots (X_C x d)) t k v)) (c := cInts 12 (upd (C_slots (X_C x d) t) k v)) hd (by omega) (fun z hz => ?_) ((cc_s ht).trans (by
    show some (cInts 12 (fset2 (C_slots (X_C x d)) t k v t)) = _
    rw [show fset2 (C_slots (X_C x d)) t k v t = upd (C_slots (X_C x d) t) k v from funext e]))
  · rw [show d + (t + 10) = d + 10 + t by omega] at g h2
    refine ⟨12, _, g, vp_in_nI hk (by decide), ?_⟩
    rw [nI_clamp (by omega)]
    exact q _ h2
  · match z, hz with
    | 0, _ => rfl
    | 1, _ => rfl
    | 2, _ => rfl
    | 3, _ => rfl
    | 4, _ => rfl
    | 5, _ => rfl
    | 6, _ => rfl
    | 7, _ => rfl
    | 8, _ => rfl
    | 9, _ => rfl
    | z + 10, hn =>
      show (if z < 20 then some (cInts 12 (fset2 (C_slots (X_C x d)) t k v z)) else _) = (if z < 20 then some (cInts 12 (C_slots (X_C x d) z)) else _)
      rw [show fset2 (C_slots (X_C x d)) t k v z = C_slots (X_C x d) z from funext (fun j => fset2_n (fun y => hn (by rw [y.1])))]
      rfl
theorem V.cp_dead (h : V (l, x, m, sc) w) (hd : cp2 d) {t k : Nat} (ht : t < 20) (hk : k < 12) {v : Int32} {Q : aW → Prop} (q : ∀ w', V (l, X_C_ x d (C_dead_ (X_C x d) (fset2 (C_dead (X_C x d)) t k v)), m, sc) w' → Q w') : pI w (L_ad l (d + 30 + t)) (nI k) v Q := by
  have g := h.cget (n := t + 20 + 10) hd (by omega) (cc_d ht)
  have e : ∀ j, fset2 (C_dead (X_C x d)) t k v t j = upd (C_dead (X_C x d) t) k v j := by
    intro j
    by_cases c : j = k
    · rw [c, fset2_s, pk_us]
    · rw [fset2_n (fun z => c z.2), pk_un c]
  have h2 := h.cset (n := t + 20 + 10) (c' := C_dead_ (X_C x d) (fset2 (C_dead (X_C x d)) t k v)) (c := cInts 12 (upd (C_dead (X_C x d) t) k v)) hd (by omega) (fun z hz => ?_) ((cc_d ht).trans (by
    show some (cInts 12 (fset2 (C_dead (X_C x d)) t k v t)) = _
    rw [show fset2 (C_dead (X_C x d)) t k v t = upd (C_dead (X_C x d) t) k v from funext e]))
  · rw [show d + (t + 20 + 10) = d + 30 + t by omega] at g h2
    refine ⟨12, _, g, vp_in_nI hk (by decide), ?_⟩
    rw [nI_clamp (by omega)]
    exact q _ h2
  · match z, hz with
    | 0, _ => rfl
    | 1, _ => rfl
    | 2, _ => rfl
    | 3, _ => rfl
    | 4, _ => rfl
    | 5, _ => rfl
    | 6, _ => rfl
    | 7, _ => rfl
    | 8, _ => rfl
    | 9, _ => rfl
    | z + 10, hn =>
      show (if z < 20 then some (cInts 12 (C_slots (X_C x d) z)) else if z < 40 then some (cInts 12 (fset2 (C_dead (X_C x d)) t k v (z - 20))) else none) = (if z < 20 then some (cInts 12 (C_slots (X_C x d) z)) else if z < 40 then some (cInts 12 (C_dead (X_C x d) (z - 20))) else none)
      by_cases c : z < 20
      · rw [if_pos c, if_pos c]
      · rw [if_neg c, if_neg c]
        rw [show fset2 (C_dead (X_C x d)) t k v (z - 20) = C_dead (X_C x d) (z - 20) from funext (fun j => fset2_n (fun y => hn (by have := y.1; omega)))]
end XC
