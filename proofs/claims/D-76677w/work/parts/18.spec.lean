/-! ===== the common state: things, slots, blocks ===== -/
set_option maxRecDepth 100000
abbrev PT : Type := (Int32) × (Int32) × (Nat → Int32) × (Nat → Int32) × (Nat → Int32) × (Nat → Int32) × (Nat → Int32) × (Nat → Int32) × (Nat → Nat → Int32) × (Nat → Int32) × (Nat → Int32)
def P_time (z : PT) : Int32 := z.1
def P_time_ (z : PT) (v : Int32) : PT := (v, z.2.1, z.2.2.1, z.2.2.2.1, z.2.2.2.2.1, z.2.2.2.2.2.1, z.2.2.2.2.2.2.1, z.2.2.2.2.2.2.2.1, z.2.2.2.2.2.2.2.2.1, z.2.2.2.2.2.2.2.2.2.1, z.2.2.2.2.2.2.2.2.2.2)
def P_freed (z : PT) : Int32 := z.2.1
def P_freed_ (z : PT) (v : Int32) : PT := (z.1, v, z.2.2.1, z.2.2.2.1, z.2.2.2.2.1, z.2.2.2.2.2.1, z.2.2.2.2.2.2.1, z.2.2.2.2.2.2.2.1, z.2.2.2.2.2.2.2.2.1, z.2.2.2.2.2.2.2.2.2.1, z.2.2.2.2.2.2.2.2.2.2)
def P_kind (z : PT) : Nat → Int32 := z.2.2.1
def P_kind_ (z : PT) (v : Nat → Int32) : PT := (z.1, z.2.1, v, z.2.2.2.1, z.2.2.2.2.1, z.2.2.2.2.2.1, z.2.2.2.2.2.2.1, z.2.2.2.2.2.2.2.1, z.2.2.2.2.2.2.2.2.1, z.2.2.2.2.2.2.2.2.2.1, z.2.2.2.2.2.2.2.2.2.2)
def P_made (z : PT) : Nat → Int32 := z.2.2.2.1
def P_made_ (z : PT) (v : Nat → Int32) : PT := (z.1, z.2.1, z.2.2.1, v, z.2.2.2.2.1, z.2.2.2.2.2.1, z.2.2.2.2.2.2.1, z.2.2.2.2.2.2.2.1, z.2.2.2.2.2.2.2.2.1, z.2.2.2.2.2.2.2.2.2.1, z.2.2.2.2.2.2.2.2.2.2)
def P_prev (z : PT) : Nat → Int32 := z.2.2.2.2.1
def P_prev_ (z : PT) (v : Nat → Int32) : PT := (z.1, z.2.1, z.2.2.1, z.2.2.2.1, v, z.2.2.2.2.2.1, z.2.2.2.2.2.2.1, z.2.2.2.2.2.2.2.1, z.2.2.2.2.2.2.2.2.1, z.2.2.2.2.2.2.2.2.2.1, z.2.2.2.2.2.2.2.2.2.2)
def P_owner (z : PT) : Nat → Int32 := z.2.2.2.2.2.1
def P_owner_ (z : PT) (v : Nat → Int32) : PT := (z.1, z.2.1, z.2.2.1, z.2.2.2.1, z.2.2.2.2.1, v, z.2.2.2.2.2.2.1, z.2.2.2.2.2.2.2.1, z.2.2.2.2.2.2.2.2.1, z.2.2.2.2.2.2.2.2.2.1, z.2.2.2.2.2.2.2.2.2.2)
def P_quota (z : PT) : Nat → Int32 := z.2.2.2.2.2.2.1
def P_quota_ (z : PT) (v : Nat → Int32) : PT := (z.1, z.2.1, z.2.2.1, z.2.2.2.1, z.2.2.2.2.1, z.2.2.2.2.2.1, v, z.2.2.2.2.2.2.2.1, z.2.2.2.2.2.2.2.2.1, z.2.2.2.2.2.2.2.2.2.1, z.2.2.2.2.2.2.2.2.2.2)
def P_tags (z : PT) : Nat → Int32 := z.2.2.2.2.2.2.2.1
def P_tags_ (z : PT) (v : Nat → Int32) : PT := (z.1, z.2.1, z.2.2.1, z.2.2.2.1, z.2.2.2.2.1, z.2.2.2.2.2.1, z.2.2.2.2.2.2.1, v, z.2.2.2.2.2.2.2.2.1, z.2.2.2.2.2.2.2.2.2.1, z.2.2.2.2.2.2.2.2.2.2)
def P_slot (z : PT) : Nat → Nat → Int32 := z.2.2.2.2.2.2.2.2.1
def P_slot_ (z : PT) (v : Nat → Nat → Int32) : PT := (z.1, z.2.1, z.2.2.1, z.2.2.2.1, z.2.2.2.2.1, z.2.2.2.2.2.1, z.2.2.2.2.2.2.1, z.2.2.2.2.2.2.2.1, v, z.2.2.2.2.2.2.2.2.2.1, z.2.2.2.2.2.2.2.2.2.2)
def P_size (z : PT) : Nat → Int32 := z.2.2.2.2.2.2.2.2.2.1
def P_size_ (z : PT) (v : Nat → Int32) : PT := (z.1, z.2.1, z.2.2.1, z.2.2.2.1, z.2.2.2.2.1, z.2.2.2.2.2.1, z.2.2.2.2.2.2.1, z.2.2.2.2.2.2.2.1, z.2.2.2.2.2.2.2.2.1, v, z.2.2.2.2.2.2.2.2.2.2)
def P_birth (z : PT) : Nat → Int32 := z.2.2.2.2.2.2.2.2.2.2
def P_birth_ (z : PT) (v : Nat → Int32) : PT := (z.1, z.2.1, z.2.2.1, z.2.2.2.1, z.2.2.2.2.1, z.2.2.2.2.2.1, z.2.2.2.2.2.2.1, z.2.2.2.2.2.2.2.1, z.2.2.2.2.2.2.2.2.1, z.2.2.2.2.2.2.2.2.2.1, v)
/-- a function with one value changed -/
def fset {α : Type} (f : Nat → α) (k : Nat) (v : α) : Nat → α := fun j => if j = k then v else f j
theorem fset_s {α : Type} {f : Nat → α} {k : Nat} {v : α} : fset f k v k = v := by simp [fset]
theorem fset_n {α : Type} {f : Nat → α} {k j : Nat} {v : α} (h : j ≠ k) : fset f k v j = f j := by simp [fset, h]
def fset2 {α : Type} (f : Nat → Nat → α) (t k : Nat) (v : α) : Nat → Nat → α := fun j => if j = t then fset (f j) k v else f j
theorem fset2_s {α : Type} {f : Nat → Nat → α} {t k : Nat} {v : α} : fset2 f t k v t k = v := by simp [fset2, fset]
theorem fset2_n {α : Type} {f : Nat → Nat → α} {t k j i : Nat} {v : α} (h : ¬ (j = t ∧ i = k)) : fset2 f t k v j i = f j i := by
  unfold fset2
  by_cases h1 : j = t
  · rw [if_pos h1]
    exact fset_n (fun e => h ⟨h1, e⟩)
  · rw [if_neg h1]
/-- the row s holds P -/
def Enc (s : Nat → Int32) (P : PT) : Prop := s 0 = P_time P ∧ s 1 = P_freed P ∧ (∀ j, j < 20 → s (2 + j) = P_kind P j) ∧ (∀ j, j < 20 → s (22 + j) = P_made P j) ∧ (∀ j, j < 20 → s (42 + j) = P_prev P j) ∧ (∀ j, j < 20 → s (62 + j) = P_owner P j) ∧ (∀ j, j < 20 → s (82 + j) = P_quota P j) ∧ (∀ j, j < 20 → s (102 + j) = P_tags P j) ∧ (∀ j k, j < 20 → k < 12 → s (122 + 12 * j + k) = P_slot P j k) ∧ (∀ b, b < 96 → s (362 + b) = P_size P b) ∧ (∀ b, b < 96 → s (458 + b) = P_birth P b)
theorem Enc.w_time {s : Nat → Int32} {P : PT} {v : Int32} (h : Enc s P) : Enc (upd s (0) v) (P_time_ P v) := by
  refine ⟨?_, ?_, ?_, ?_, ?_, ?_, ?_, ?_, ?_, ?_, ?_⟩
  · exact pk_us
  · exact (pk_un (by omega)).trans h.2.1
  · exact fun j hj => (pk_un (by omega)).trans (h.2.2.1 j hj)
  · exact fun j hj => (pk_un (by omega)).trans (h.2.2.2.1 j hj)
  · exact fun j hj => (pk_un (by omega)).trans (h.2.2.2.2.1 j hj)
  · exact fun j hj => (pk_un (by omega)).trans (h.2.2.2.2.2.1 j hj)
  · exact fun j hj => (pk_un (by omega)).trans (h.2.2.2.2.2.2.1 j hj)
  · exact fun j hj => (pk_un (by omega)).trans (h.2.2.2.2.2.2.2.1 j hj)
  · exact fun j i hj hi => (pk_un (by omega)).trans (h.2.2.2.2.2.2.2.2.1 j i hj hi)
  · exact fun j hj => (pk_un (by omega)).trans (h.2.2.2.2.2.2.2.2.2.1 j hj)
  · exact fun j hj => (pk_un (by omega)).trans (h.2.2.2.2.2.2.2.2.2.2 j hj)
theorem Enc.w_freed {s : Nat → Int32} {P : PT} {v : Int32} (h : Enc s P) : Enc (upd s (1) v) (P_freed_ P v) := by
  refine ⟨?_, ?_, ?_, ?_, ?_, ?_, ?_, ?_, ?_, ?_, ?_⟩
  · exact (pk_un (by omega)).trans h.1
  · exact pk_us
  · exact fun j hj => (pk_un (by omega)).trans (h.2.2.1 j hj)
  · exact fun j hj => (pk_un (by omega)).trans (h.2.2.2.1 j hj)
  · exact fun j hj => (pk_un (by omega)).trans (h.2.2.2.2.1 j hj)
  · exact fun j hj => (pk_un (by omega)).trans (h.2.2.2.2.2.1 j hj)
  · exact fun j hj => (pk_un (by omega)).trans (h.2.2.2.2.2.2.1 j hj)
  · exact fun j hj => (pk_un (by omega)).trans (h.2.2.2.2.2.2.2.1 j hj)
  · exact fun j i hj hi => (pk_un (by omega)).trans (h.2.2.2.2.2.2.2.2.1 j i hj hi)
  · exact fun j hj => (pk_un (by omega)).trans (h.2.2.2.2.2.2.2.2.2.1 j hj)
  · exact fun j hj => (pk_un (by omega)).trans (h.2.2.2.2.2.2.2.2.2.2 j hj)
theorem Enc.w_kind {s : Nat → Int32} {P : PT} {v : Int32} (h : Enc s P) {t : Nat} (ht : t < 20) : Enc (upd s (2 + t) v) (P_kind_ P (fset (P_kind P) t v)) := by
  refine ⟨?_, ?_, ?_, ?_, ?_, ?_, ?_, ?_, ?_, ?_, ?_⟩
  · exact (pk_un (by omega)).trans h.1
  · exact (pk_un (by omega)).trans h.2.1
  · intro j hj
    show (if 2 + j = 2 + t then v else s (2 + j)) = fset (P_kind P) t v j
    by_cases e : j = t
    · subst e
      rw [if_pos rfl, fset_s]
    · rw [if_neg (by omega), fset_n e]
      exact h.2.2.1 j hj
  · exact fun j hj => (pk_un (by omega)).trans (h.2.2.2.1 j hj)
  · exact fun j hj => (pk_un (by omega)).trans (h.2.2.2.2.1 j hj)
  · exact fun j hj => (pk_un (by omega)).trans (h.2.2.2.2.2.1 j hj)
  · exact fun j hj => (pk_un (by omega)).trans (h.2.2.2.2.2.2.1 j hj)
  · exact fun j hj => (pk_un (by omega)).trans (h.2.2.2.2.2.2.2.1 j hj)
  · exact fun j i hj hi => (pk_un (by omega)).trans (h.2.2.2.2.2.2.2.2.1 j i hj hi)
  · exact fun j hj => (pk_un (by omega)).trans (h.2.2.2.2.2.2.2.2.2.1 j hj)
  · exact fun j hj => (pk_un (by omega)).trans (h.2.2.2.2.2.2.2.2.2.2 j hj)
theorem Enc.w_made {s : Nat → Int32} {P : PT} {v : Int32} (h : Enc s P) {t : Nat} (ht : t < 20) : Enc (upd s (22 + t) v) (P_made_ P (fset (P_made P) t v)) := by
  refine ⟨?_, ?_, ?_, ?_, ?_, ?_, ?_, ?_, ?_, ?_, ?_⟩
  · exact (pk_un (by omega)).trans h.1
  · exact (pk_un (by omega)).trans h.2.1
  · exact fun j hj => (pk_un (by omega)).trans (h.2.2.1 j hj)
  · intro j hj
    show (if 22 + j = 22 + t then v else s (22 + j)) = fset (P_made P) t v j
    by_cases e : j = t
    · subst e
      rw [if_pos rfl, fset_s]
    · rw [if_neg (by omega), fset_n e]
      exact h.2.2.2.1 j hj
  · exact fun j hj => (pk_un (by omega)).trans (h.2.2.2.2.1 j hj)
  · exact fun j hj => (pk_un (by omega)).trans (h.2.2.2.2.2.1 j hj)
  · exact fun j hj => (pk_un (by omega)).trans (h.2.2.2.2.2.2.1 j hj)
  · exact fun j hj => (pk_un (by omega)).trans (h.2.2.2.2.2.2.2.1 j hj)
  · exact fun j i hj hi => (pk_un (by omega)).trans (h.2.2.2.2.2.2.2.2.1 j i hj hi)
  · exact fun j hj => (pk_un (by omega)).trans (h.2.2.2.2.2.2.2.2.2.1 j hj)
  · exact fun j hj => (pk_un (by omega)).trans (h.2.2.2.2.2.2.2.2.2.2 j hj)
theorem Enc.w_prev {s : Nat → Int32} {P : PT} {v : Int32} (h : Enc s P) {t : Nat} (ht : t < 20) : Enc (upd s (42 + t) v) (P_prev_ P (fset (P_prev P) t v)) := by
  refine ⟨?_, ?_, ?_, ?_, ?_, ?_, ?_, ?_, ?_, ?_, ?_⟩
  · exact (pk_un (by omega)).trans h.1
  · exact (pk_un (by omega)).trans h.2.1
  · exact fun j hj => (pk_un (by omega)).trans (h.2.2.1 j hj)
  · exact fun j hj => (pk_un (by omega)).trans (h.2.2.2.1 j hj)
  · intro j hj
    show (if 42 + j = 42 + t then v else s (42 + j)) = fset (P_prev P) t v j
    by_cases e : j = t
    · subst e
      rw [if_pos rfl, fset_s]
    · rw [if_neg (by omega), fset_n e]
      exact h.2.2.2.2.1 j hj
  · exact fun j hj => (pk_un (by omega)).trans (h.2.2.2.2.2.1 j hj)
  · exact fun j hj => (pk_un (by omega)).trans (h.2.2.2.2.2.2.1 j hj)
  · exact fun j hj => (pk_un (by omega)).trans (h.2.2.2.2.2.2.2.1 j hj)
  · exact fun j i hj hi => (pk_un (by omega)).trans (h.2.2.2.2.2.2.2.2.1 j i hj hi)
  · exact fun j hj => (pk_un (by omega)).trans (h.2.2.2.2.2.2.2.2.2.1 j hj)
  · exact fun j hj => (pk_un (by omega)).trans (h.2.2.2.2.2.2.2.2.2.2 j hj)
theorem Enc.w_owner {s : Nat → Int32} {P : PT} {v : Int32} (h : Enc s P) {t : Nat} (ht : t < 20) : Enc (upd s (62 + t) v) (P_owner_ P (fset (P_owner P) t v)) := by
  refine ⟨?_, ?_, ?_, ?_, ?_, ?_, ?_, ?_, ?_, ?_, ?_⟩
  · exact (pk_un (by omega)).trans h.1
  · exact (pk_un (by omega)).trans h.2.1
  · exact fun j hj => (pk_un (by omega)).trans (h.2.2.1 j hj)
  · exact fun j hj => (pk_un (by omega)).trans (h.2.2.2.1 j hj)
  · exact fun j hj => (pk_un (by omega)).trans (h.2.2.2.2.1 j hj)
  · intro j hj
    show (if 62 + j = 62 + t then v else s (62 + j)) = fset (P_owner P) t v j
    by_cases e : j = t
    · subst e
      rw [if_pos rfl, fset_s]
    · rw [if_neg (by omega), fset_n e]
      exact h.2.2.2.2.2.1 j hj
  · exact fun j hj => (pk_un (by omega)).trans (h.2.2.2.2.2.2.1 j hj)
  · exact fun j hj => (pk_un (by omega)).trans (h.2.2.2.2.2.2.2.1 j hj)
  · exact fun j i hj hi => (pk_un (by omega)).trans (h.2.2.2.2.2.2.2.2.1 j i hj hi)
  · exact fun j hj => (pk_un (by omega)).trans (h.2.2.2.2.2.2.2.2.2.1 j hj)
  · exact fun j hj => (pk_un (by omega)).trans (h.2.2.2.2.2.2.2.2.2.2 j hj)
theorem Enc.w_quota {s : Nat → Int32} {P : PT} {v : Int32} (h : Enc s P) {t : Nat} (ht : t < 20) : Enc (upd s (82 + t) v) (P_quota_ P (fset (P_quota P) t v)) := by
  refine ⟨?_, ?_, ?_, ?_, ?_, ?_, ?_, ?_, ?_, ?_, ?_⟩
  · exact (pk_un (by omega)).trans h.1
  · exact (pk_un (by omega)).trans h.2.1
  · exact fun j hj => (pk_un (by omega)).trans (h.2.2.1 j hj)
  · exact fun j hj => (pk_un (by omega)).trans (h.2.2.2.1 j hj)
  · exact fun j hj => (pk_un (by omega)).trans (h.2.2.2.2.1 j hj)
  · exact fun j hj => (pk_un (by omega)).trans (h.2.2.2.2.2.1 j hj)
  · intro j hj
    show (if 82 + j = 82 + t then v else s (82 + j)) = fset (P_quota P) t v j
    by_cases e : j = t
    · subst e
      rw [if_pos rfl, fset_s]
    · rw [if_neg (by omega), fset_n e]
      exact h.2.2.2.2.2.2.1 j hj
  · exact fun j hj => (pk_un (by omega)).trans (h.2.2.2.2.2.2.2.1 j hj)
  · exact fun j i hj hi => (pk_un (by omega)).trans (h.2.2.2.2.2.2.2.2.1 j i hj hi)
  · exact fun j hj => (pk_un (by omega)).trans (h.2.2.2.2.2.2.2.2.2.1 j hj)
  · exact fun j hj => (pk_un (by omega)).trans (h.2.2.2.2.2.2.2.2.2.2 j hj)
theorem Enc.w_tags {s : Nat → Int32} {P : PT} {v : Int32} (h : Enc s P) {t : Nat} (ht : t < 20) : Enc (upd s (102 + t) v) (P_tags_ P (fset (P_tags P) t v)) := by
  refine ⟨?_, ?_, ?_, ?_, ?_, ?_, ?_, ?_, ?_, ?_, ?_⟩
  · exact (pk_un (by omega)).trans h.1
  · exact (pk_un (by omega)).trans h.2.1
  · exact fun j hj => (pk_un (by omega)).trans (h.2.2.1 j hj)
  · exact fun j hj => (pk_un (by omega)).trans (h.2.2.2.1 j hj)
  · exact fun j hj => (pk_un (by omega)).trans (h.2.2.2.2.1 j hj)
  · exact fun j hj => (pk_un (by omega)).trans (h.2.2.2.2.2.1 j hj)
  · exact fun j hj => (pk_un (by omega)).trans (h.2.2.2.2.2.2.1 j hj)
  · intro j hj
    show (if 102 + j = 102 + t then v else s (102 + j)) = fset (P_tags P) t v j
    by_cases e : j = t
    · subst e
      rw [if_pos rfl, fset_s]
    · rw [if_neg (by omega), fset_n e]
      exact h.2.2.2.2.2.2.2.1 j hj
  · exact fun j i hj hi => (pk_un (by omega)).trans (h.2.2.2.2.2.2.2.2.1 j i hj hi)
  · exact fun j hj => (pk_un (by omega)).trans (h.2.2.2.2.2.2.2.2.2.1 j hj)
  · exact fun j hj => (pk_un (by omega)).trans (h.2.2.2.2.2.2.2.2.2.2 j hj)
theorem Enc.w_slot {s : Nat → Int32} {P : PT} {v : Int32} (h : Enc s P) {t k : Nat} (ht : t < 20) (hk : k < 12) : Enc (upd s (122 + 12 * t + k) v) (P_slot_ P (fset2 (P_slot P) t k v)) := by
  refine ⟨?_, ?_, ?_, ?_, ?_, ?_, ?_, ?_, ?_, ?_, ?_⟩
  · exact (pk_un (by omega)).trans h.1
  · exact (pk_un (by omega)).trans h.2.1
  · exact fun j hj => (pk_un (by omega)).trans (h.2.2.1 j hj)
  · exact fun j hj => (pk_un (by omega)).trans (h.2.2.2.1 j hj)
  · exact fun j hj => (pk_un (by omega)).trans (h.2.2.2.2.1 j hj)
  · exact fun j hj => (pk_un (by omega)).trans (h.2.2.2.2.2.1 j hj)
  · exact fun j hj => (pk_un (by omega)).trans (h.2.2.2.2.2.2.1 j hj)
  · exact fun j hj => (pk_un (by omega)).trans (h.2.2.2.2.2.2.2.1 j hj)
  · intro j i hj hi
    show (if 122 + 12 * j + i = 122 + 12 * t + k then v else s (122 + 12 * j + i)) = fset2 (P_slot P) t k v j i
    by_cases e : j = t ∧ i = k
    · obtain ⟨rfl, rfl⟩ := e
      rw [if_pos rfl, fset2_s]
    · rw [if_neg (by omega), fset2_n e]
      exact h.2.2.2.2.2.2.2.2.1 j i hj hi
  · exact fun j hj => (pk_un (by omega)).trans (h.2.2.2.2.2.2.2.2.2.1 j hj)
  · exact fun j hj => (pk_un (by omega)).trans (h.2.2.2.2.2.2.2.2.2.2 j hj)
theorem Enc.w_size {s : Nat → Int32} {P : PT} {v : Int32} (h : Enc s P) {t : Nat} (ht : t < 96) : Enc (upd s (362 + t) v) (P_size_ P (fset (P_size P) t v)) := by
  refine ⟨?_, ?_, ?_, ?_, ?_, ?_, ?_, ?_, ?_, ?_, ?_⟩
  · exact (pk_un (by omega)).trans h.1
  · exact (pk_un (by omega)).trans h.2.1
  · exact fun j hj => (pk_un (by omega)).trans (h.2.2.1 j hj)
  · exact fun j hj => (pk_un (by omega)).trans (h.2.2.2.1 j hj)
  · exact fun j hj => (pk_un (by omega)).trans (h.2.2.2.2.1 j hj)
  · exact fun j hj => (pk_un (by omega)).trans (h.2.2.2.2.2.1 j hj)
  · exact fun j hj => (pk_un (by omega)).trans (h.2.2.2.2.2.2.1 j hj)
  · exact fun j hj => (pk_un (by omega)).trans (h.2.2.2.2.2.2.2.1 j hj)
  · exact fun j i hj hi => (pk_un (by omega)).trans (h.2.2.2.2.2.2.2.2.1 j i hj hi)
  · intro j hj
    show (if 362 + j = 362 + t then v else s (362 + j)) = fset (P_size P) t v j
    by_cases e : j = t
    · subst e
      rw [if_pos rfl, fset_s]
    · rw [if_neg (by omega), fset_n e]
      exact h.2.2.2.2.2.2.2.2.2.1 j hj
  · exact fun j hj => (pk_un (by omega)).trans (h.2.2.2.2.2.2.2.2.2.2 j hj)
theorem Enc.w_birth {s : Nat → Int32} {P : PT} {v : Int32} (h : Enc s P) {t : Nat} (ht : t < 96) : Enc (upd s (458 + t) v) (P_birth_ P (fset (P_birth P) t v)) := by
  refine ⟨?_, ?_, ?_, ?_, ?_, ?_, ?_, ?_, ?_, ?_, ?_⟩
  · exact (pk_un (by omega)).trans h.1
  · exact (pk_un (by omega)).trans h.2.1
  · exact fun j hj => (pk_un (by omega)).trans (h.2.2.1 j hj)
  · exact fun j hj => (pk_un (by omega)).trans (h.2.2.2.1 j hj)
  · exact fun j hj => (pk_un (by omega)).trans (h.2.2.2.2.1 j hj)
  · exact fun j hj => (pk_un (by omega)).trans (h.2.2.2.2.2.1 j hj)
  · exact fun j hj => (pk_un (by omega)).trans (h.2.2.2.2.2.2.1 j hj)
  · exact fun j hj => (pk_un (by omega)).trans (h.2.2.2.2.2.2.2.1 j hj)
  · exact fun j i hj hi => (pk_un (by omega)).trans (h.2.2.2.2.2.2.2.2.1 j i hj hi)
  · exact fun j hj => (pk_un (by omega)).trans (h.2.2.2.2.2.2.2.2.2.1 j hj)
  · intro j hj
    show (if 458 + j = 458 + t then v else s (458 + j)) = fset (P_birth P) t v j
    by_cases e : j = t
    · subst e
      rw [if_pos rfl, fset_s]
    · rw [if_neg (by omega), fset_n e]
      exact h.2.2.2.2.2.2.2.2.2.2 j hj
/-! numbers -/
theorem nI_i {n : Nat} (h : n < 2 ^ 31) : (nI n).toNatClampNeg = n := nI_clamp h
theorem n_ge {c : Int32} (N : Nat) {k : Nat} (hc : c = nI N) (hN : N < 2 ^ 31) (h : N ≤ k) (hk : k < 2 ^ 31) : c ≤ nI k := by rw [hc]; exact nI_le h hk
theorem n_lt {c : Int32} (N : Nat) {k : Nat} (hc : c = nI N) (hN : N < 2 ^ 31) (h : k < N) : ¬ c ≤ nI k := by rw [hc]; exact nI_ge h hN
/-- a loop's head: at the end, or before it -/
theorem lpc {N k n : Nat} {c : Int32} {A B : Prop} (hc : c = nI N) (hN : N < 2 ^ 31) (h : k + n = N) (hA : n = 0 → A) (hB : ∀ m, n = m + 1 → k < N → B) : (c ≤ nI k → A) ∧ (¬ c ≤ nI k → B) := by
  cases n with
  | zero => exact ⟨fun _ => hA rfl, fun z => absurd (n_ge N hc hN (by omega) (by omega)) z⟩
  | succ m => exact ⟨fun z => absurd z (n_lt N hc hN (by omega)), fun _ => hB m rfl (by omega)⟩
theorem m1_ne (n : Nat) (h : n < 2 ^ 31) : ¬ nI n = (-1) := by
  intro e
  have h1 := congrArg Int32.toInt e
  rw [nI_toInt h] at h1
  have : ((-1 : Int32)).toInt = -1 := by decide
  omega
theorem nI_ne {a b : Nat} (ha : a < 2 ^ 31) (hb : b < 2 ^ 31) (h : a ≠ b) : ¬ nI a = nI b := fun e => h ((nI_eq ha hb).mp e)
def b2i (p : Prop) [Decidable p] : Int32 := if p then 1 else 0
theorem b2i_t {p : Prop} [Decidable p] (h : p) : b2i p = 1 := if_pos h
theorem b2i_f {p : Prop} [Decidable p] (h : ¬ p) : b2i p = 0 := if_neg h
theorem b2i_nar (p : Prop) [Decidable p] : narrow .boolean (.int (b2i p)) = .int (b2i p) := by
  unfold b2i
  split <;> rfl
theorem b2i_0 {p : Prop} [Decidable p] : b2i p = 0 ↔ ¬ p := by
  unfold b2i
  by_cases h : p
  · simp [h]
  · simp [h]
def cnt (p : Nat → Prop) [DecidablePred p] : Nat → Nat
  | 0 => 0
  | n + 1 => cnt p n + (if p n then 1 else 0)
def sm (f : Nat → Int64) : Nat → Int64
  | 0 => 0
  | n + 1 => sm f n + f n
theorem cnt_le (p : Nat → Prop) [DecidablePred p] (n : Nat) : cnt p n ≤ n := by
  induction n with
  | zero => exact Nat.le_refl 0
  | succ n ih =>
    show cnt p n + (if p n then 1 else 0) ≤ n + 1
    split <;> omega
theorem cnt_t {p : Nat → Prop} [DecidablePred p] {n : Nat} (h : p n) : cnt p (n + 1) = cnt p n + 1 := by
  show cnt p n + (if p n then 1 else 0) = _
  rw [if_pos h]
theorem cnt_f {p : Nat → Prop} [DecidablePred p] {n : Nat} (h : ¬ p n) : cnt p (n + 1) = cnt p n := by
  show cnt p n + (if p n then 1 else 0) = _
  rw [if_neg h]
  rfl
/-! the row's places -/
section SP
variable {g : GT} {w : aW} {P : PT}
abbrev EG (g : GT) (P : PT) : Prop := Enc (M_s (G_M g)) P
theorem gs (hV : V g w) {i : Nat} (h : i < 554) {x : Int32} (e : M_s (G_M g) i = x) {j : Int32} (hj : j = nI i) : gI w (g_ad g 401) j x := by
  subst hj
  subst e
  have := hV.mg_s (vp_in_nI h (by omega : 554 < 2 ^ 31))
  rw [nI_clamp (by omega)] at this
  exact this
theorem ps (hV : V g w) {i : Nat} (h : i < 554) {x : Int32} {j : Int32} {Q : aW → Prop} (hj : j = nI i) (k : ∀ w', V (G_M_ g (M_s_ (G_M g) (upd (M_s (G_M g)) i x))) w' → Q w') : pI w (g_ad g 401) j x Q := by
  subst hj
  refine hV.mp_s (vp_in_nI h (by omega : 554 < 2 ^ 31)) (fun w' h' => k w' ?_)
  rw [nI_clamp (by omega)] at h'
  exact h'
theorem g_time (hV : V g w) (hE : EG g P) : gI w (g_ad g 401) 0 (P_time P) := gs hV (by decide) hE.1 rfl
theorem g_freed (hV : V g w) (hE : EG g P) : gI w (g_ad g 401) 1 (P_freed P) := gs hV (by decide) hE.2.1 rfl
theorem p_time (hV : V g w) (hE : EG g P) {x : Int32} {Q : aW → Prop} (k : ∀ s' w', V (G_M_ g (M_s_ (G_M g) s')) w' → Enc s' (P_time_ P x) → Q w') : pI w (g_ad g 401) 0 x Q := ps hV (i := 0) (by omega) rfl (fun w' h' => k _ w' h' hE.w_time)
theorem p_freed (hV : V g w) (hE : EG g P) {x : Int32} {Q : aW → Prop} (k : ∀ s' w', V (G_M_ g (M_s_ (G_M g) s')) w' → Enc s' (P_freed_ P x) → Q w') : pI w (g_ad g 401) 1 x Q := ps hV (i := 1) (by omega) rfl (fun w' h' => k _ w' h' hE.w_freed)
theorem g_kind (hV : V g w) (hE : EG g P) {t : Nat} (ht : t < 20) : gI w (g_ad g 401) (2 + nI t) (P_kind P t) := gs hV (i := 2 + t) (by omega) (hE.2.2.1 t ht) (nI_add 2 t)
theorem p_kind (hV : V g w) (hE : EG g P) {t : Nat} (ht : t < 20) {x : Int32} {Q : aW → Prop} (k : ∀ s' w', V (G_M_ g (M_s_ (G_M g) s')) w' → Enc s' (P_kind_ P (fset (P_kind P) t x)) → Q w') : pI w (g_ad g 401) (2 + nI t) x Q := ps hV (i := 2 + t) (by omega) (nI_add 2 t) (fun w' h' => k _ w' h' (hE.w_kind ht))
theorem g_made (hV : V g w) (hE : EG g P) {t : Nat} (ht : t < 20) : gI w (g_ad g 401) (22 + nI t) (P_made P t) := gs hV (i := 22 + t) (by omega) (hE.2.2.2.1 t ht) (nI_add 22 t)
theorem p_made (hV : V g w) (hE : EG g P) {t : Nat} (ht : t < 20) {x : Int32} {Q : aW → Prop} (k : ∀ s' w', V (G_M_ g (M_s_ (G_M g) s')) w' → Enc s' (P_made_ P (fset (P_made P) t x)) → Q w') : pI w (g_ad g 401) (22 + nI t) x Q := ps hV (i := 22 + t) (by omega) (nI_add 22 t) (fun w' h' => k _ w' h' (hE.w_made ht))
theorem g_prev (hV : V g w) (hE : EG g P) {t : Nat} (ht : t < 20) : gI w (g_ad g 401) (42 + nI t) (P_prev P t) := gs hV (i := 42 + t) (by omega) (hE.2.2.2.2.1 t ht) (nI_add 42 t)
theorem p_prev (hV : V g w) (hE : EG g P) {t : Nat} (ht : t < 20) {x : Int32} {Q : aW → Prop} (k : ∀ s' w', V (G_M_ g (M_s_ (G_M g) s')) w' → Enc s' (P_prev_ P (fset (P_prev P) t x)) → Q w') : pI w (g_ad g 401) (42 + nI t) x Q := ps hV (i := 42 + t) (by omega) (nI_add 42 t) (fun w' h' => k _ w' h' (hE.w_prev ht))
theorem g_owner (hV : V g w) (hE : EG g P) {t : Nat} (ht : t < 20) : gI w (g_ad g 401) (62 + nI t) (P_owner P t) := gs hV (i := 62 + t) (by omega) (hE.2.2.2.2.2.1 t ht) (nI_add 62 t)
theorem p_owner (hV : V g w) (hE : EG g P) {t : Nat} (ht : t < 20) {x : Int32} {Q : aW → Prop} (k : ∀ s' w', V (G_M_ g (M_s_ (G_M g) s')) w' → Enc s' (P_owner_ P (fset (P_owner P) t x)) → Q w') : pI w (g_ad g 401) (62 + nI t) x Q := ps hV (i := 62 + t) (by omega) (nI_add 62 t) (fun w' h' => k _ w' h' (hE.w_owner ht))
theorem g_quota (hV : V g w) (hE : EG g P) {t : Nat} (ht : t < 20) : gI w (g_ad g 401) (82 + nI t) (P_quota P t) := gs hV (i := 82 + t) (by omega) (hE.2.2.2.2.2.2.1 t ht) (nI_add 82 t)
theorem p_quota (hV : V g w) (hE : EG g P) {t : Nat} (ht : t < 20) {x : Int32} {Q : aW → Prop} (k : ∀ s' w', V (G_M_ g (M_s_ (G_M g) s')) w' → Enc s' (P_quota_ P (fset (P_quota P) t x)) → Q w') : pI w (g_ad g 401) (82 + nI t) x Q := ps hV (i := 82 + t) (by omega) (nI_add 82 t) (fun w' h' => k _ w' h' (hE.w_quota ht))
theorem g_tags (hV : V g w) (hE : EG g P) {t : Nat} (ht : t < 20) : gI w (g_ad g 401) (102 + nI t) (P_tags P t) := gs hV (i := 102 + t) (by omega) (hE.2.2.2.2.2.2.2.1 t ht) (nI_add 102 t)
theorem p_tags (hV : V g w) (hE : EG g P) {t : Nat} (ht : t < 20) {x : Int32} {Q : aW → Prop} (k : ∀ s' w', V (G_M_ g (M_s_ (G_M g) s')) w' → Enc s' (P_tags_ P (fset (P_tags P) t x)) → Q w') : pI w (g_ad g 401) (102 + nI t) x Q := ps hV (i := 102 + t) (by omega) (nI_add 102 t) (fun w' h' => k _ w' h' (hE.w_tags ht))
theorem ix_slot (t k : Nat) : (122 + 12 * nI t) + nI k = nI (122 + 12 * t + k) := by
  rw [show (12 : Int32) = nI 12 from rfl, show (122 : Int32) = nI 122 from rfl, pk_mul, nI_add, nI_add]
theorem g_slot (hV : V g w) (hE : EG g P) {t k : Nat} (ht : t < 20) (hk : k < 12) : gI w (g_ad g 401) ((122 + 12 * nI t) + nI k) (P_slot P t k) := gs hV (i := 122 + 12 * t + k) (by omega) (hE.2.2.2.2.2.2.2.2.1 t k ht hk) (ix_slot t k)
theorem p_slot (hV : V g w) (hE : EG g P) {t k : Nat} (ht : t < 20) (hk : k < 12) {x : Int32} {Q : aW → Prop} (kk : ∀ s' w', V (G_M_ g (M_s_ (G_M g) s')) w' → Enc s' (P_slot_ P (fset2 (P_slot P) t k x)) → Q w') : pI w (g_ad g 401) ((122 + 12 * nI t) + nI k) x Q := ps hV (i := 122 + 12 * t + k) (by omega) (ix_slot t k) (fun w' h' => kk _ w' h' (hE.w_slot ht hk))
theorem g_size (hV : V g w) (hE : EG g P) {t : Nat} (ht : t < 96) : gI w (g_ad g 401) (362 + nI t) (P_size P t) := gs hV (i := 362 + t) (by omega) (hE.2.2.2.2.2.2.2.2.2.1 t ht) (nI_add 362 t)
theorem p_size (hV : V g w) (hE : EG g P) {t : Nat} (ht : t < 96) {x : Int32} {Q : aW → Prop} (k : ∀ s' w', V (G_M_ g (M_s_ (G_M g) s')) w' → Enc s' (P_size_ P (fset (P_size P) t x)) → Q w') : pI w (g_ad g 401) (362 + nI t) x Q := ps hV (i := 362 + t) (by omega) (nI_add 362 t) (fun w' h' => k _ w' h' (hE.w_size ht))
theorem g_birth (hV : V g w) (hE : EG g P) {t : Nat} (ht : t < 96) : gI w (g_ad g 401) (458 + nI t) (P_birth P t) := gs hV (i := 458 + t) (by omega) (hE.2.2.2.2.2.2.2.2.2.2 t ht) (nI_add 458 t)
theorem p_birth (hV : V g w) (hE : EG g P) {t : Nat} (ht : t < 96) {x : Int32} {Q : aW → Prop} (k : ∀ s' w', V (G_M_ g (M_s_ (G_M g) s')) w' → Enc s' (P_birth_ P (fset (P_birth P) t x)) → Q w') : pI w (g_ad g 401) (458 + nI t) x Q := ps hV (i := 458 + t) (by omega) (nI_add 458 t) (fun w' h' => k _ w' h' (hE.w_birth ht))
end SP
