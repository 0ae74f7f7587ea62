/-! ===== the law of folders: rows changed, blocks freed, written ===== -/
set_option maxRecDepth 100000
set_option maxHeartbeats 400000
def GS (P : PT) (B : Nat) : Prop := PI P ∧ TQ P ∧ i3 P ∧ i4 P B ∧ i5 P ∧ i6 P ∧ i7 P ∧ i8 P ∧ i9 P ∧ i10 P ∧ i11 P ∧ i12 P ∧ i13 P ∧ i14 P ∧ i15 P
theorem GS.gi {P : PT} {D : DT} {B : Nat} (h : GS P B) (k : DK P D) : GI P D B := ⟨h.1, h.2.1, h.2.2.1, h.2.2.2.1, h.2.2.2.2.1, h.2.2.2.2.2.1, h.2.2.2.2.2.2.1, h.2.2.2.2.2.2.2.1, h.2.2.2.2.2.2.2.2.1, h.2.2.2.2.2.2.2.2.2.1, h.2.2.2.2.2.2.2.2.2.2.1, h.2.2.2.2.2.2.2.2.2.2.2.1, h.2.2.2.2.2.2.2.2.2.2.2.2.1, h.2.2.2.2.2.2.2.2.2.2.2.2.2.1, h.2.2.2.2.2.2.2.2.2.2.2.2.2.2, k⟩
def rowP (P : PT) (f : Nat) (S : Nat → Int32) : PT := P_slot_ P (fset (P_slot P) f S)
theorem Z_rowP (P : PT) (f : Nat) (S : Nat → Int32) : P_time (rowP P f S) = P_time P ∧ P_freed (rowP P f S) = P_freed P ∧ P_kind (rowP P f S) = P_kind P ∧ P_made (rowP P f S) = P_made P ∧ P_prev (rowP P f S) = P_prev P ∧ P_owner (rowP P f S) = P_owner P ∧ P_quota (rowP P f S) = P_quota P ∧ P_tags (rowP P f S) = P_tags P ∧ P_slot (rowP P f S) = fset (P_slot P) f S ∧ P_size (rowP P f S) = P_size P ∧ P_birth (rowP P f S) = P_birth P := ⟨rfl, rfl, rfl, rfl, rfl, rfl, rfl, rfl, rfl, rfl, rfl⟩
/-! counts -/
theorem cn_0s : ∀ n, cn (fun _ => False) n = 0 := by
  intro n
  induction n with
  | zero => rfl
  | succ n ih => rw [cn_f (p := fun _ => False) (fun y => y)]; exact ih
theorem cn_no {p : Nat → Prop} {n : Nat} (h : ∀ i, i < n → ¬ p i) : cn p n = 0 := by
  rw [cn_congr (q := fun _ => False) (fun i hi => ⟨fun y => h i hi y, fun y => y.elim⟩)]
  exact cn_0s n
theorem cn_add1 {p : Nat → Prop} {b : Nat} (hn : ¬ p b) : ∀ n, b < n → cn (fun c => p c ∨ c = b) n = cn p n + 1 := by
  intro n
  induction n with
  | zero => intro h; omega
  | succ n ih =>
    intro hb
    by_cases e : b = n
    · subst e
      rw [cn_t (p := fun c => p c ∨ c = b) (Or.inr rfl), cn_f hn]
      have : cn (fun c => p c ∨ c = b) b = cn p b := cn_congr (fun i hi => ⟨fun y => y.resolve_right (by omega), Or.inl⟩)
      rw [this]
    · have := ih (by omega)
      by_cases c : p n
      · rw [cn_t (p := fun c => p c ∨ c = b) (Or.inl c), cn_t c, this]
      · rw [cn_f (p := fun c => p c ∨ c = b) (fun y => y.elim c (fun z => e z.symm)), cn_f c, this]
theorem cn_one {b n : Nat} (h : b < n) : cn (fun c => c = b) n = 1 := by
  have := cn_add1 (p := fun _ => False) (b := b) (fun y => y) n h
  rw [cn_0s] at this
  rw [cn_congr (q := fun c => False ∨ c = b) (fun i _ => ⟨Or.inr, fun y => y.resolve_left (fun z => z)⟩), this]
theorem cn_re {S : Nat → Int32} {Q : Nat → Prop} : ∀ N, (∀ k, k < N → S k = -1 ∨ ∃ b : Nat, b < 96 ∧ S k = nI b) → (∀ k j b, k < N → j < N → b < 96 → S k = nI b → S j = nI b → k = j) → cn (fun b => (∃ k, k < N ∧ S k = nI b) ∧ Q b) 96 = cn (fun k => ¬ S k = -1 ∧ Q (S k).toNatClampNeg) N := by
  intro N
  induction N with
  | zero =>
    intro _ _
    exact cn_no (fun i _ y => by obtain ⟨⟨k, hk, -⟩, -⟩ := y; omega)
  | succ N ih =>
    intro h inj
    have ih1 := ih (fun k hk => h k (by omega)) (fun k j b hk hj => inj k j b (by omega) (by omega))
    rcases h N (by omega) with e | ⟨b0, hb, e⟩
    · rw [cn_f (p := fun k => ¬ S k = -1 ∧ Q (S k).toNatClampNeg) (fun y => y.1 e), ← ih1]
      refine cn_congr (fun i hi => ⟨fun y => ?_, fun y => ?_⟩)
      · obtain ⟨⟨k, hk, e2⟩, q⟩ := y
        refine ⟨⟨k, ?_, e2⟩, q⟩
        rcases Nat.lt_or_ge k N with z | z
        · exact z
        · have : k = N := by omega
          rw [this, e] at e2
          exact absurd e2.symm (m1_ne i (by omega))
      · obtain ⟨⟨k, hk, e2⟩, q⟩ := y
        exact ⟨⟨k, by omega, e2⟩, q⟩
    · have hsp : ∀ i, i < 96 → ((∃ k, k < N + 1 ∧ S k = nI i) ↔ ((∃ k, k < N ∧ S k = nI i) ∨ i = b0)) := by
        intro i hi
        constructor
        · rintro ⟨k, hk, e2⟩
          rcases Nat.lt_or_ge k N with z | z
          · exact Or.inl ⟨k, z, e2⟩
          · have : k = N := by omega
            rw [this, e] at e2
            exact Or.inr (nIe hb hi e2).symm
        · rintro (⟨k, hk, e2⟩ | z)
          · exact ⟨k, by omega, e2⟩
          · exact ⟨N, by omega, by rw [z]; exact e⟩
      have hno : ¬ ∃ k, k < N ∧ S k = nI b0 := by
        rintro ⟨k, hk, e2⟩
        have := inj k N b0 (by omega) (by omega) hb e2 e
        omega
      by_cases q : Q b0
      · rw [cn_t (p := fun k => ¬ S k = -1 ∧ Q (S k).toNatClampNeg) ⟨by rw [e]; exact m1_ne b0 (by omega), by rw [e, nI_clamp (by omega)]; exact q⟩, ← ih1, ← cn_add1 (p := fun b => (∃ k, k < N ∧ S k = nI b) ∧ Q b) (b := b0) (fun y => hno y.1) 96 hb]
        refine cn_congr (fun i hi => ?_)
        rw [hsp i hi]
        constructor
        · rintro ⟨y | y, z⟩
          · exact Or.inl ⟨y, z⟩
          · exact Or.inr y
        · rintro (⟨y, z⟩ | y)
          · exact ⟨Or.inl y, z⟩
          · exact ⟨Or.inr y, by rw [y]; exact q⟩
      · rw [cn_f (p := fun k => ¬ S k = -1 ∧ Q (S k).toNatClampNeg) (fun y => q (by have := y.2; rw [e, nI_clamp (by omega)] at this; exact this)), ← ih1]
        refine cn_congr (fun i hi => ?_)
        rw [hsp i hi]
        constructor
        · rintro ⟨y | y, z⟩
          · exact ⟨y, z⟩
          · rw [y] at z
            exact absurd z q
        · rintro ⟨y, z⟩
          exact ⟨Or.inl y, z⟩
section GF
variable {P : PT} {D : DT} {B : Nat}
theorem gc_none {X : PT} (h : ∀ b, b < 96 → ¬ gcB X b) : gcP X = X := by
  have e1 : gcS X 96 = P_size X := by
    funext b
    exact @if_neg _ (Classical.propDecidable _) (fun z => h b z.1 z.2) _ _ _
  have e2 : gcN X = 0 := cn_no h
  refine PT_ext ?_ ?_ ?_ ?_ ?_ ?_ ?_ ?_ ?_ ?_ ?_ <;> simp only [Z_gcP, e1, e2]
  exact i_0 _
theorem gc_one {X : PT} {b : Nat} (hb : b < 96) (h : ∀ c, c < 96 → (gcB X c ↔ c = b)) : gcP X = fbP X b := by
  have e1 : gcS X 96 = fset (P_size X) b 0 := by
    funext c
    by_cases e : c = b
    · rw [e, fset_s]
      exact @if_pos _ (Classical.propDecidable _) ⟨hb, (h b hb).mpr rfl⟩ _ _ _
    · rw [fset_n e]
      exact @if_neg _ (Classical.propDecidable _) (fun z => e ((h c z.1).mp z.2)) _ _ _
  have e2 : gcN X = 1 := by
    unfold gcN
    rw [cn_congr h]
    exact cn_one hb
  refine PT_ext ?_ ?_ ?_ ?_ ?_ ?_ ?_ ?_ ?_ ?_ ?_ <;> simp only [Z_gcP, Z_fbP, e1, e2]
  rfl
/-- what a row may become: emptied, kept, as the prev has it -/
def rwO (P : PT) (f : Nat) (S : Nat → Int32) : Prop := ∀ k, k < 12 → S k = -1 ∨ S k = P_slot P f k ∨ ∃ p, p < 20 ∧ P_prev P f = nI p ∧ S k = P_slot P p k
theorem gF_gcB (h : GI P D B) {f : Nat} (hf : f < 20) (hk : fK (P_kind P f)) {S : Nat → Int32} (hS : rwO P f S) {b : Nat} (hb : b < 96) : gcB (rowP P f S) b ↔ ∃ k, hd P f k b ∧ pmI P f < brI P b ∧ ¬ S k = nI b := by
  have hkh : hK (P_kind P f) := Or.inl hk
  unfold gcB unh
  simp only [Z_rowP]
  constructor
  · rintro ⟨h1, h2⟩
    have hp : 0 < szN P b := pos_i.mp h1
    obtain ⟨u, k, hu⟩ := h.j13 b hb hp
    by_cases e : u = f
    · subst e
      have hne : ¬ S k = nI b := fun z => h2 u k hf hu.2.2.1 hkh (by rw [fset_s]; exact z)
      refine ⟨k, hu, ?_, hne⟩
      refine Classical.byContradiction (fun c => ?_)
      have hb1 := (h.j9 b hb hp).1
      rcases h.pi.p hf hkh with z | ⟨p, hp', z, hs⟩
      · rw [pmI_m z] at c
        omega
      · rw [pmI_n hp' z] at c
        have e3 := h.j11 u p k b hu hp' z (by omega)
        have hpf : p ≠ u := fun y => by rw [y] at hs; exact f_ns hk hs
        exact h2 p k hp' hu.2.2.1 (Or.inr hs) (by rw [fset_n hpf]; exact e3)
    · exact absurd (by rw [fset_n e]; exact hu.2.2.2.2) (h2 u k hu.1 hu.2.2.1 hu.2.1)
  · rintro ⟨k, hhd, hpm, hne⟩
    refine ⟨pos_i.mpr (h.j7 f k b hhd), fun t j ht hj hkt e => ?_⟩
    by_cases c : t = f
    · subst c
      rw [fset_s] at e
      rcases hS j hj with z | z | ⟨p, hp, z1, z2⟩
      · exact m1_ne b (by omega) (e.symm.trans z)
      · have := h.j8 t t j k b ⟨ht, hkt, hj, hb, z.symm.trans e⟩ hhd
        rw [← this] at hne
        exact hne e
      · have hs := h.pv ht hkt hp z1
        have := h.j10 p j b ⟨hp, Or.inr hs, hj, hb, z2.symm.trans e⟩ hs
        rw [pmI_n hp z1] at hpm
        omega
    · rw [fset_n c] at e
      exact c (h.sole hhd hk hpm ⟨ht, hkt, hj, hb, e⟩)
theorem Z_gr (P : PT) (f : Nat) (S : Nat → Int32) : P_time (gcP (rowP P f S)) = P_time P ∧ P_kind (gcP (rowP P f S)) = P_kind P ∧ P_made (gcP (rowP P f S)) = P_made P ∧ P_prev (gcP (rowP P f S)) = P_prev P ∧ P_owner (gcP (rowP P f S)) = P_owner P ∧ P_quota (gcP (rowP P f S)) = P_quota P ∧ P_tags (gcP (rowP P f S)) = P_tags P ∧ P_slot (gcP (rowP P f S)) = fset (P_slot P) f S ∧ P_size (gcP (rowP P f S)) = gcS (rowP P f S) 96 ∧ P_birth (gcP (rowP P f S)) = P_birth P := by
  simp only [Z_gcP, Z_rowP, and_self]
theorem hd_e {Q : PT} (e1 : P_kind Q = P_kind P) {t k b : Nat} : hd Q t k b ↔ t < 20 ∧ hK (P_kind P t) ∧ k < 12 ∧ b < 96 ∧ P_slot Q t k = nI b := by
  unfold hd
  rw [e1]
theorem gcS_k {X : PT} {b : Nat} (h : ¬ gcB X b) : gcS X 96 b = P_size X b := @if_neg _ (Classical.propDecidable _) (fun z => h z.2) _ _ _
theorem gcS_z {X : PT} {b : Nat} (hb : b < 96) (h : gcB X b) : gcS X 96 b = 0 := @if_pos _ (Classical.propDecidable _) ⟨hb, h⟩ _ _ _
/-- a folder's row changed: what holds before holds behind -/
theorem gF (h : GI P D B) {f : Nat} (hf : f < 20) (hk : fK (P_kind P f)) {S : Nat → Int32} (hS : rwO P f S) (hSO : ∀ k, k < 12 → S k = -1 ∨ ∃ b : Nat, b < 96 ∧ S k = nI b) : GS (gcP (rowP P f S)) B := by
  have hkh : hK (P_kind P f) := Or.inl hk
  obtain ⟨z1, z2, z3, z4, z5, z6, z7, z8, z9, z10⟩ := Z_gr P f S
  have epm : ∀ t, pm (gcP (rowP P f S)) t = pm P t := by
    intro t
    unfold pm pn
    rw [z3, z4]
  have hq : ∀ t k b, hd (gcP (rowP P f S)) t k b → (t ≠ f ∧ hd P t k b) ∨ (t = f ∧ S k = nI b ∧ (hd P f k b ∨ ∃ p, p < 20 ∧ P_prev P f = nI p ∧ hd P p k b)) := by
    intro t k b hh
    obtain ⟨a1, a2, a3, a4, a5⟩ := (hd_e z2).mp hh
    rw [z8] at a5
    by_cases c : t = f
    · subst c
      rw [fset_s] at a5
      refine Or.inr ⟨rfl, a5, ?_⟩
      rcases hS k a3 with z | z | ⟨p, hp, y1, y2⟩
      · exact absurd (a5.symm.trans z) (m1_ne b (by omega))
      · exact Or.inl ⟨a1, a2, a3, a4, z.symm.trans a5⟩
      · exact Or.inr ⟨p, hp, y1, hp, Or.inr (h.pv a1 a2 hp y1), a3, a4, y2.symm.trans a5⟩
    · rw [fset_n c] at a5
      exact Or.inl ⟨c, a1, a2, a3, a4, a5⟩
  have hq2 : ∀ t k b, hd (gcP (rowP P f S)) t k b → ∃ u, hd P u k b := by
    intro t k b hh
    rcases hq t k b hh with ⟨-, z⟩ | ⟨-, -, z | ⟨p, -, -, z⟩⟩
    · exact ⟨t, z⟩
    · exact ⟨f, z⟩
    · exact ⟨p, z⟩
  have hng : ∀ t k b, hd (gcP (rowP P f S)) t k b → ¬ gcB (rowP P f S) b := by
    intro t k b hh hg
    obtain ⟨a1, a2, a3, a4, a5⟩ := (hd_e z2).mp hh
    rw [z8] at a5
    refine hg.2 t k a1 a3 ?_ ?_
    · simp only [Z_rowP]; exact a2
    · simp only [Z_rowP]; exact a5
  have hsz : ∀ b, b < 96 → szN (gcP (rowP P f S)) b = 0 ∨ (¬ gcB (rowP P f S) b ∧ szN (gcP (rowP P f S)) b = szN P b) := by
    intro b hb
    show (P_size (gcP (rowP P f S)) b).toInt = 0 ∨ (¬ gcB (rowP P f S) b ∧ (P_size (gcP (rowP P f S)) b).toInt = (P_size P b).toInt)
    rw [z9]
    by_cases c : gcB (rowP P f S) b
    · left
      rw [gcS_z hb c]
      decide
    · right
      rw [gcS_k c]
      exact ⟨c, rfl⟩
  have hbr : ∀ b, brI (gcP (rowP P f S)) b = brI P b := by
    intro b
    show (P_birth _ b).toInt = _
    rw [z10]
  have hmk : ∀ t, mkI (gcP (rowP P f S)) t = mkI P t := by
    intro t
    show (P_made _ t).toInt = _
    rw [z3]
  have htm : tmI (gcP (rowP P f S)) = tmI P := by
    show (P_time _).toInt = _
    rw [z1]
  have hpi : ∀ t, pmI (gcP (rowP P f S)) t = pmI P t := by
    intro t
    show (pm _ t).toInt = _
    rw [epm]
  refine ⟨?_, ?_, ?_, ?_, ?_, ?_, ?_, ?_, ?_, ?_, ?_, ?_, ?_, ?_, ?_⟩
  · refine ⟨?_, ?_, ?_, ?_⟩
    · rw [z2]; exact h.pi.1
    · rw [z2, z4]; exact h.pi.2.1
    · rw [z2, z5]; exact h.pi.2.2.1
    · intro t k ht hk2
      rw [z8]
      by_cases c : t = f
      · rw [c, fset_s]
        exact hSO k hk2
      · rw [fset_n c]
        exact h.pi.s t k ht hk2
  · unfold TQ
    rw [z2, z4, z5, z6, z7]
    exact h.tq
  · intro b hb
    rcases hsz b hb with e | ⟨-, e⟩
    · rw [e]; omega
    · rw [e]; exact h.j3 b hb
  · unfold i4
    rw [htm]
    exact h.j4
  · intro t ht hs
    rw [z2] at hs
    rw [hmk, htm]
    exact h.j5 t ht hs
  · intro t p ht hs hp e
    rw [z2] at hs
    rw [z4] at e
    rw [hmk, hmk]
    exact h.j6 t p ht hs hp e
  · intro t k b hh
    obtain ⟨u, hu⟩ := hq2 t k b hh
    rcases hsz b hu.2.2.2.1 with e | ⟨-, e⟩
    · exfalso
      have e' : (P_size (gcP (rowP P f S)) b).toInt = 0 := e
      rw [z9, gcS_k (hng t k b hh)] at e'
      have := h.j7 u k b hu
      have : (0 : Int) < (P_size P b).toInt := this
      have e2 : P_size (rowP P f S) b = P_size P b := by simp only [Z_rowP]
      rw [e2] at e'
      omega
    · rw [e]
      exact h.j7 u k b hu
  · intro t u k j b h1 h2
    obtain ⟨t', g1⟩ := hq2 t k b h1
    obtain ⟨u', g2⟩ := hq2 u j b h2
    exact h.j8 t' u' k j b g1 g2
  · intro b hb hp
    rw [hbr, htm]
    rcases hsz b hb with e | ⟨-, e⟩
    · omega
    · rw [e] at hp
      exact h.j9 b hb hp
  · intro t k b hh hs
    rw [z2] at hs
    rw [hbr, hmk]
    rcases hq t k b hh with ⟨-, z⟩ | ⟨c, -⟩
    · exact h.j10 t k b z hs
    · rw [c] at hs
      exact absurd hs (f_ns hk)
  · intro t p k b hh hp e hle
    rw [z4] at e
    rw [hbr, hmk] at hle
    obtain ⟨a1, a2, a3, a4, a5⟩ := (hd_e z2).mp hh
    have hs := h.pv a1 a2 hp e
    have hpf : p ≠ f := fun y => by rw [y] at hs; exact f_ns hk hs
    rw [z8, fset_n hpf]
    rcases hq t k b hh with ⟨-, z⟩ | ⟨c, -, z | ⟨p', hp', y1, y2⟩⟩
    · exact h.j11 t p k b z hp e hle
    · rw [c] at e
      exact h.j11 f p k b z hp e hle
    · rw [c] at e
      have : p' = p := nIe (by omega) (by omega) (y1.symm.trans e)
      rw [this] at y2
      exact y2.2.2.2.2
  · intro t u k j b h1 h2 l1 l2
    rw [hpi, hbr] at l1 l2
    have red : ∀ t k b, hd (gcP (rowP P f S)) t k b → pmI P t < brI P b → hd P t k b := by
      intro t k b hh hl
      rcases hq t k b hh with ⟨-, z⟩ | ⟨c, -, z | ⟨p', hp', y1, y2⟩⟩
      · exact z
      · rw [c]; exact z
      · exfalso
        rw [c, pmI_n hp' y1] at hl
        have := h.j10 p' k b y2 (h.pv hf hkh hp' y1)
        omega
    exact h.j12 t u k j b (red t k b h1 l1) (red u j b h2 l2) l1 l2
  · intro b hb hp
    rcases hsz b hb with e | ⟨hg, e⟩
    · omega
    · rw [e] at hp
      refine Classical.byContradiction (fun c => hg ⟨?_, fun t k ht hk2 hkt e2 => c ⟨t, k, ?_⟩⟩)
      · simp only [Z_rowP]
        exact pos_i.mpr hp
      · simp only [Z_rowP] at hkt e2
        refine (hd_e z2).mpr ⟨ht, hkt, hk2, hb, ?_⟩
        rw [z8]
        exact e2
  · unfold i14
    rw [z2, z4, z5]
    exact h.j14
  · unfold i15 PO
    rw [z4]
    exact h.j15
/-- dead lists of all others stay -/
theorem dk_o (h : GI P D B) {f : Nat} (hk : fK (P_kind P f)) {S : Nat → Int32} {u : Nat} (hu : u < 20) (hku : hK (P_kind P u)) (huf : u ≠ f) (b : Nat) : dd (gcP (rowP P f S)) u b ↔ dd P u b := by
  obtain ⟨z1, z2, z3, z4, z5, z6, z7, z8, z9, z10⟩ := Z_gr P f S
  unfold dd held
  rw [z4, z8, fset_n huf]
  constructor
  · rintro ⟨p, k, hp, e, hk2, e2, e3⟩
    have hs := h.pv hu hku hp e
    rw [fset_n (fun y => by rw [y] at hs; exact f_ns hk hs)] at e2
    exact ⟨p, k, hp, e, hk2, e2, e3⟩
  · rintro ⟨p, k, hp, e, hk2, e2, e3⟩
    have hs := h.pv hu hku hp e
    refine ⟨p, k, hp, e, hk2, ?_, e3⟩
    rw [fset_n (fun y => by rw [y] at hs; exact f_ns hk hs)]
    exact e2
theorem gF_dk (h : GI P D B) {f : Nat} (hk : fK (P_kind P f)) {S : Nat → Int32} {D' : DT} (hD : ∀ u, u ≠ f → D' u = D u) (hDf : (D' f).Pairwise (lat P) ∧ ∀ b, b ∈ D' f ↔ b < 96 ∧ dd (gcP (rowP P f S)) f b) : DK (gcP (rowP P f S)) D' := by
  obtain ⟨z1, z2, z3, z4, z5, z6, z7, z8, z9, z10⟩ := Z_gr P f S
  intro u hu hku
  rw [z2] at hku
  rw [lat_cg z10]
  by_cases c : u = f
  · rw [c]
    exact hDf
  · rw [hD u c]
    obtain ⟨d1, d2⟩ := h.dk u hu hku
    exact ⟨d1, fun b => by rw [d2 b, dk_o h hk hu hku c]⟩
theorem er_row (P : PT) (t k : Nat) : erP P t k = rowP P t (fset (P_slot P t) k (-1)) := by
  have e : fset2 (P_slot P) t k (-1) = fset (P_slot P) t (fset (P_slot P t) k (-1)) := by
    funext j
    by_cases c : j = t
    · subst c
      rw [fset_s]
      unfold fset2
      rw [if_pos rfl]
    · rw [fset_n c]
      unfold fset2
      rw [if_neg c]
  unfold erP rowP
  rw [e]
theorem er_rw (t k : Nat) : rwO P t (fset (P_slot P t) k (-1)) := by
  intro j hj
  by_cases c : j = k
  · rw [c, fset_s]
    exact Or.inl rfl
  · rw [fset_n c]
    exact Or.inr (Or.inl rfl)
theorem er_so (h : GI P D B) {t k : Nat} (ht : t < 20) : ∀ j, j < 12 → fset (P_slot P t) k (-1) j = -1 ∨ ∃ b : Nat, b < 96 ∧ fset (P_slot P t) k (-1) j = nI b := by
  intro j hj
  by_cases c : j = k
  · rw [c, fset_s]
    exact Or.inl rfl
  · rw [fset_n c]
    exact h.pi.s t j ht hj
theorem er_gc (h : GI P D B) {t k : Nat} (ht : t < 20) (hk : fK (P_kind P t)) {c : Nat} (hc : c < 96) : gcB (erP P t k) c ↔ hd P t k c ∧ pmI P t < brI P c := by
  rw [er_row, gF_gcB h ht hk (er_rw t k) hc]
  constructor
  · rintro ⟨j, h1, h2, h3⟩
    by_cases e : j = k
    · rw [e] at h1
      exact ⟨h1, h2⟩
    · rw [fset_n e] at h3
      exact absurd h1.2.2.2.2 h3
  · rintro ⟨h1, h2⟩
    exact ⟨k, h1, h2, by rw [fset_s]; exact fun y => m1_ne c (by omega) y.symm⟩
theorem dd_er (h : GI P D B) {t k : Nat} (ht : t < 20) (hk : fK (P_kind P t)) {c : Nat} (hc : c < 96) : dd (gcP (erP P t k)) t c ↔ dd P t c ∨ (hd P t k c ∧ brI P c ≤ pmI P t) := by
  rw [er_row]
  obtain ⟨z1, z2, z3, z4, z5, z6, z7, z8, z9, z10⟩ := Z_gr P t (fset (P_slot P t) k (-1))
  have hh : hK (P_kind P t) := Or.inl hk
  have e0 : dd (gcP (rowP P t (fset (P_slot P t) k (-1)))) t c ↔ ∃ p j, p < 20 ∧ P_prev P t = nI p ∧ j < 12 ∧ P_slot P p j = nI c ∧ ¬ ∃ i, i < 12 ∧ fset (P_slot P t) k (-1) i = nI c := by
    unfold dd held
    rw [z4, z8, fset_s]
    constructor
    · rintro ⟨p, j, hp, e, hj, e2, e3⟩
      have hs := h.pv ht hh hp e
      rw [fset_n (fun y => by rw [y] at hs; exact f_ns hk hs)] at e2
      exact ⟨p, j, hp, e, hj, e2, e3⟩
    · rintro ⟨p, j, hp, e, hj, e2, e3⟩
      have hs := h.pv ht hh hp e
      refine ⟨p, j, hp, e, hj, ?_, e3⟩
      rw [fset_n (fun y => by rw [y] at hs; exact f_ns hk hs)]
      exact e2
  rw [e0]
  constructor
  · rintro ⟨p, j, hp, e, hj, e2, e3⟩
    by_cases q : held P t (nI c)
    · right
      obtain ⟨i, hi, e4⟩ := q
      have ik : i = k := by
        refine Classical.byContradiction (fun y => e3 ⟨i, hi, ?_⟩)
        rw [fset_n y]
        exact e4
      rw [ik] at e4 hi
      have hhd : hd P t k c := ⟨ht, hh, hi, hc, e4⟩
      have hs := h.pv ht hh hp e
      have := h.j10 p j c ⟨hp, Or.inr hs, hj, hc, e2⟩ hs
      exact ⟨hhd, by rw [pmI_n hp e]; exact this⟩
    · left
      exact ⟨p, j, hp, e, hj, e2, q⟩
  · rintro (⟨p, j, hp, e, hj, e2, e3⟩ | ⟨hhd, hle⟩)
    · refine ⟨p, j, hp, e, hj, e2, fun y => e3 ?_⟩
      obtain ⟨i, hi, e4⟩ := y
      by_cases ik : i = k
      · rw [ik, fset_s] at e4
        exact absurd e4.symm (m1_ne c (by omega))
      · rw [fset_n ik] at e4
        exact ⟨i, hi, e4⟩
    · have h1 := (h.j9 c hc (h.j7 t k c hhd)).1
      rcases h.pi.p ht hh with z | ⟨p, hp, z, hs⟩
      · rw [pmI_m z] at hle
        omega
      · rw [pmI_n hp z] at hle
        refine ⟨p, k, hp, z, hhd.2.2.1, h.j11 t p k c hhd hp z hle, fun y => ?_⟩
        obtain ⟨i, hi, e4⟩ := y
        by_cases ik : i = k
        · rw [ik, fset_s] at e4
          exact absurd e4.symm (m1_ne c (by omega))
        · rw [fset_n ik] at e4
          exact ik (h.j8 t t i k c ⟨ht, hh, hi, hc, e4⟩ hhd)
/-- put in at its place: sorted still -/
theorem inD_pw {L : List Nat} {b i : Nat} (hs : L.Pairwise (lat P)) (hb : ¬ b ∈ L) (hp : plc P L b i) : (inD L i b).Pairwise (lat P) := by
  obtain ⟨h1, h2, h3⟩ := hp
  have hall : ∀ j k, j < k → k < L.length → lat P (gD L j) (gD L k) := by
    intro j k hjk hk
    have := List.pairwise_iff_getElem.mp hs j k (by omega) hk hjk
    unfold gD
    rw [List.getD_eq_getElem?_getD, List.getD_eq_getElem?_getD, List.getElem?_eq_getElem hk, List.getElem?_eq_getElem (show j < L.length by omega)]
    exact this
  have hbefore : ∀ j, j < i → lat P (gD L j) b := by
    intro j hj
    have hi0 : ¬ i = 0 := by omega
    have hl := h3.resolve_left hi0
    have hm : gD L (i - 1) ∈ L := gX_mem (by omega)
    have h4 : lat P (gD L (i - 1)) b := (lat_tot (P := P) (b := b) (c := gD L (i - 1)) (fun e => hb (by rw [e]; exact hm))).resolve_left hl
    by_cases e : j = i - 1
    · rw [e]; exact h4
    · exact lat_tr (hall j (i - 1) (by omega) (by omega)) h4
  have hl := inD_len L i b h1
  rw [List.pairwise_iff_getElem]
  intro j k hj hk hjk
  have gj : (inD L i b)[j] = gD (inD L i b) j := by
    unfold gD
    rw [List.getD_eq_getElem?_getD, List.getElem?_eq_getElem hj]
    rfl
  have gk : (inD L i b)[k] = gD (inD L i b) k := by
    unfold gD
    rw [List.getD_eq_getElem?_getD, List.getElem?_eq_getElem hk]
    rfl
  rw [gj, gk, inD_at _ _ _ _ h1 (by omega), inD_at _ _ _ _ h1 (by omega)]
  by_cases c1 : j < i
  · rw [if_pos c1]
    by_cases c2 : k < i
    · rw [if_pos c2]
      exact hall j k hjk (by omega)
    · rw [if_neg c2]
      by_cases c3 : k = i
      · rw [if_pos c3]
        exact hbefore j c1
      · rw [if_neg c3]
        exact hall j (k - 1) (by omega) (by omega)
  · rw [if_neg c1, if_neg (show ¬ k < i by omega), if_neg (show ¬ k = i by omega)]
    by_cases c3 : j = i
    · rw [if_pos c3]
      exact h2 (k - 1) (by omega) (by omega)
    · rw [if_neg c3]
      exact hall (j - 1) (k - 1) (by omega) (by omega)
theorem inD_mem {L : List Nat} {b i c : Nat} : c ∈ inD L i b ↔ c ∈ L ∨ c = b := by
  unfold inD
  rw [List.mem_append, List.mem_cons]
  constructor
  · rintro (y | y | y)
    · exact Or.inl (List.mem_of_mem_take y)
    · exact Or.inr y
    · exact Or.inl (List.mem_of_mem_drop y)
  · rintro (y | y)
    · rw [← List.take_append_drop i L, List.mem_append] at y
      exact y.elim Or.inl (fun z => Or.inr (Or.inr z))
    · exact Or.inr (Or.inl y)
/-- what left a slot: the pool does as the reference -/
theorem o_er (h : GI P D B) {t k : Nat} (ht : t < 20) (hk : fK (P_kind P t)) (hk2 : k < 12) {P' : PT} {D' : DT} (r : lvR P D t k P' D') : P' = gcP (erP P t k) ∧ GI P' D' B := by
  have hh : hK (P_kind P t) := Or.inl hk
  obtain ⟨d1, d2⟩ := h.dk t ht hh
  have hg : GS (gcP (erP P t k)) B := by
    rw [er_row]
    exact gF h ht hk (er_rw t k) (er_so h ht)
  have mk : ∀ D', (∀ u, u ≠ t → D' u = D u) → ((D' t).Pairwise (lat P) ∧ ∀ b, b ∈ D' t ↔ b < 96 ∧ dd (gcP (erP P t k)) t b) → GI (gcP (erP P t k)) D' B := by
    intro D' q1 q2
    refine hg.gi ?_
    rw [er_row] at q2 ⊢
    exact gF_dk h hk q1 q2
  rcases r with ⟨e, rfl, rfl⟩ | ⟨b, hb, e, ⟨c, rfl, rfl⟩ | ⟨c, rfl, i, hp, rfl⟩⟩
  · have hn : ∀ c, c < 96 → ¬ gcB (erP P t k) c := by
      intro c hc y
      have := ((er_gc h ht hk hc).mp y).1.2.2.2.2
      exact m1_ne c (by omega) (this.symm.trans e)
    have eg := gc_none hn
    refine ⟨eg.symm, ?_⟩
    rw [← eg]
    refine mk D' (fun u _ => rfl) ⟨d1, fun b => ?_⟩
    rw [d2 b]
    constructor
    · rintro ⟨y1, y2⟩
      exact ⟨y1, (dd_er h ht hk y1).mpr (Or.inl y2)⟩
    · rintro ⟨y1, y2⟩
      refine ⟨y1, ((dd_er h ht hk y1).mp y2).resolve_right (fun z => ?_)⟩
      exact m1_ne b (by omega) (z.1.2.2.2.2.symm.trans e)
  · have hhd : hd P t k b := ⟨ht, hh, hk2, hb, e⟩
    have c' : pmI P t < brI P b := by
      rw [le_i] at c
      show (pm P t).toInt < (P_birth P b).toInt
      omega
    have eg : gcP (erP P t k) = fbP (erP P t k) b := by
      refine gc_one hb (fun d hd' => ?_)
      rw [er_gc h ht hk hd']
      constructor
      · rintro ⟨y, -⟩
        exact nIe hd' hb (y.2.2.2.2.symm.trans e)
      · intro y
        rw [y]
        exact ⟨hhd, c'⟩
    refine ⟨eg.symm, ?_⟩
    rw [← eg]
    refine mk D' (fun u _ => rfl) ⟨d1, fun d => ?_⟩
    rw [d2 d]
    constructor
    · rintro ⟨y1, y2⟩
      exact ⟨y1, (dd_er h ht hk y1).mpr (Or.inl y2)⟩
    · rintro ⟨y1, y2⟩
      refine ⟨y1, ((dd_er h ht hk y1).mp y2).resolve_right (fun z => ?_)⟩
      have : d = b := nIe y1 hb (z.1.2.2.2.2.symm.trans e)
      rw [this] at z
      omega
  · have hhd : hd P t k b := ⟨ht, hh, hk2, hb, e⟩
    have c' : brI P b ≤ pmI P t := by
      rw [le_i] at c
      exact c
    have hn : ∀ d, d < 96 → ¬ gcB (erP P t k) d := by
      intro d hd' y
      obtain ⟨y1, y2⟩ := (er_gc h ht hk hd').mp y
      have : d = b := nIe hd' hb (y1.2.2.2.2.symm.trans e)
      rw [this] at y2
      omega
    have eg := gc_none hn
    refine ⟨eg.symm, ?_⟩
    rw [← eg]
    have hbn : ¬ b ∈ D t := fun y => by
      obtain ⟨-, q, j, -, -, -, -, e4⟩ := (d2 b).mp y
      exact e4 ⟨k, hk2, e⟩
    refine mk _ (fun u hu => fset_n hu) ?_
    rw [fset_s]
    refine ⟨inD_pw d1 hbn hp, fun d => ?_⟩
    rw [inD_mem, d2 d]
    constructor
    · rintro (⟨y1, y2⟩ | y)
      · exact ⟨y1, (dd_er h ht hk y1).mpr (Or.inl y2)⟩
      · rw [y]
        exact ⟨hb, (dd_er h ht hk hb).mpr (Or.inr ⟨hhd, c'⟩)⟩
    · rintro ⟨y1, y2⟩
      rcases (dd_er h ht hk y1).mp y2 with z | z
      · exact Or.inl ⟨y1, z⟩
      · exact Or.inr (nIe y1 hb (z.1.2.2.2.2.symm.trans e))
/-! a block added -/
theorem gAdd (h : GI P D B) {f k b0 : Nat} (hf : f < 20) (hk : fK (P_kind P f)) (hk2 : k < 12) (he : P_slot P f k = -1) (hb0 : b0 < 96) (h0 : szN P b0 = 0) {sz : Int32} (hs1 : 1 ≤ sz.toInt) (hs2 : sz.toInt ≤ 1000000000) : GI (wrP P f k b0 sz) D B := by
  have hkh : hK (P_kind P f) := Or.inl hk
  obtain ⟨z1, z2, z3, z4, z5, z6, z7, z8, z9, z10, z11⟩ := Z_wrP P f k b0 sz
  have nob : ∀ t j, ¬ hd P t j b0 := fun t j y => by have := h.j7 t j b0 y; omega
  have epm : ∀ t, pmI (wrP P f k b0 sz) t = pmI P t := by
    intro t
    show (pm _ t).toInt = (pm P t).toInt
    unfold pm pn
    rw [z4, z5]
  have hq : ∀ t j b, hd (wrP P f k b0 sz) t j b ↔ (hd P t j b ∧ b ≠ b0 ∧ ¬ (t = f ∧ j = k)) ∨ (t = f ∧ j = k ∧ b = b0) := by
    intro t j b
    rw [hd_e z3, z9]
    constructor
    · rintro ⟨a1, a2, a3, a4, a5⟩
      by_cases c : t = f ∧ j = k
      · obtain ⟨rfl, rfl⟩ := c
        rw [fset2_s] at a5
        exact Or.inr ⟨rfl, rfl, nIe a4 hb0 a5.symm⟩
      · rw [fset2_n c] at a5
        have hh : hd P t j b := ⟨a1, a2, a3, a4, a5⟩
        exact Or.inl ⟨hh, fun e => nob t j (by rw [← e]; exact hh), c⟩
    · rintro (⟨⟨a1, a2, a3, a4, a5⟩, -, c⟩ | ⟨rfl, rfl, rfl⟩)
      · exact ⟨a1, a2, a3, a4, by rw [fset2_n c]; exact a5⟩
      · exact ⟨hf, hkh, hk2, hb0, fset2_s⟩
  have hsz : ∀ b, szN (wrP P f k b0 sz) b = if b = b0 then sz.toInt else szN P b := by
    intro b
    show (P_size (wrP P f k b0 sz) b).toInt = _
    rw [z10]
    by_cases c : b = b0
    · rw [if_pos c, c, fset_s]
    · rw [if_neg c, fset_n c]
  have hbr : ∀ b, brI (wrP P f k b0 sz) b = if b = b0 then tmI P else brI P b := by
    intro b
    show (P_birth (wrP P f k b0 sz) b).toInt = _
    rw [z11]
    by_cases c : b = b0
    · rw [if_pos c, c, fset_s]
    · rw [if_neg c, fset_n c]
  have hmk : ∀ t, mkI (wrP P f k b0 sz) t = mkI P t := by
    intro t
    show (P_made _ t).toInt = _
    rw [z4]
  have htm : tmI (wrP P f k b0 sz) = tmI P := by
    show (P_time _).toInt = _
    rw [z1]
  have keep : ∀ t j b, hd P t j b → hd (wrP P f k b0 sz) t j b := by
    intro t j b hh
    refine (hq t j b).mpr (Or.inl ⟨hh, fun e => nob t j (by rw [← e]; exact hh), fun c => ?_⟩)
    have := hh.2.2.2.2
    rw [c.1, c.2, he] at this
    exact m1_ne b (by have := hh.2.2.2.1; omega) this.symm
  refine ⟨?_, ?_, ?_, ?_, ?_, ?_, ?_, ?_, ?_, ?_, ?_, ?_, ?_, ?_, ?_, ?_⟩
  · refine ⟨by rw [z3]; exact h.pi.1, by rw [z3, z5]; exact h.pi.2.1, by rw [z3, z6]; exact h.pi.2.2.1, ?_⟩
    intro t j ht hj
    rw [z9]
    by_cases c : t = f ∧ j = k
    · obtain ⟨rfl, rfl⟩ := c
      rw [fset2_s]
      exact Or.inr ⟨b0, hb0, rfl⟩
    · rw [fset2_n c]
      exact h.pi.s t j ht hj
  · unfold TQ
    rw [z3, z5, z6, z7, z8]
    exact h.tq
  · intro b hb
    rw [hsz]
    by_cases c : b = b0
    · rw [if_pos c]; omega
    · rw [if_neg c]; exact h.j3 b hb
  · unfold i4
    rw [htm]
    exact h.j4
  · intro t ht hs
    rw [z3] at hs
    rw [hmk, htm]
    exact h.j5 t ht hs
  · intro t p ht hs hp e
    rw [z3] at hs
    rw [z5] at e
    rw [hmk, hmk]
    exact h.j6 t p ht hs hp e
  · intro t j b hh
    rw [hsz]
    rcases (hq t j b).mp hh with ⟨y1, y2, -⟩ | ⟨-, -, y⟩
    · rw [if_neg y2]
      exact h.j7 t j b y1
    · rw [if_pos y]
      omega
  · intro t u i j b h1 h2
    rcases (hq t i b).mp h1 with ⟨y1, y2, -⟩ | ⟨-, y3, y⟩
    · rcases (hq u j b).mp h2 with ⟨x1, x2, -⟩ | ⟨-, -, x3⟩
      · exact h.j8 t u i j b y1 x1
      · exact absurd x3 y2
    · rcases (hq u j b).mp h2 with ⟨x1, x2, -⟩ | ⟨-, x3, -⟩
      · exact absurd y x2
      · rw [y3, x3]
  · intro b hb hp
    rw [hsz] at hp
    rw [hbr, htm]
    by_cases c : b = b0
    · rw [if_pos c]
      have := h.j4.1
      omega
    · rw [if_neg c] at hp ⊢
      exact h.j9 b hb hp
  · intro t j b hh hs
    rw [z3] at hs
    rw [hbr, hmk]
    rcases (hq t j b).mp hh with ⟨y1, y2, -⟩ | ⟨y, -, -⟩
    · rw [if_neg y2]
      exact h.j10 t j b y1 hs
    · rw [y] at hs
      exact absurd hs (f_ns hk)
  · intro t p j b hh hp e hle
    rw [z5] at e
    rw [hbr, hmk] at hle
    have ht := hh.1
    have hkt : hK (P_kind P t) := by have := hh.2.1; rw [z3] at this; exact this
    have hs := h.pv ht hkt hp e
    have hpf : ¬ (p = f ∧ j = k) := fun y => by rw [y.1] at hs; exact f_ns hk hs
    rw [z9, fset2_n hpf]
    rcases (hq t j b).mp hh with ⟨y1, y2, -⟩ | ⟨-, -, y⟩
    · rw [if_neg y2] at hle
      exact h.j11 t p j b y1 hp e hle
    · rw [if_pos y] at hle
      have := (h.j5 p hp hs).2
      omega
  · intro t u i j b h1 h2 l1 l2
    rw [epm, hbr] at l1 l2
    rcases (hq t i b).mp h1 with ⟨y1, y2, -⟩ | ⟨y0, -, y⟩
    · rcases (hq u j b).mp h2 with ⟨x1, x2, -⟩ | ⟨-, -, x3⟩
      · rw [if_neg y2] at l1 l2
        exact h.j12 t u i j b y1 x1 l1 l2
      · exact absurd x3 y2
    · rcases (hq u j b).mp h2 with ⟨x1, x2, -⟩ | ⟨x0, -, -⟩
      · exact absurd y x2
      · rw [y0, x0]
  · intro b hb hp
    rw [hsz] at hp
    by_cases c : b = b0
    · exact ⟨f, k, (hq f k b).mpr (Or.inr ⟨rfl, rfl, c⟩)⟩
    · rw [if_neg c] at hp
      obtain ⟨t, j, hh⟩ := h.j13 b hb hp
      exact ⟨t, j, keep t j b hh⟩
  · unfold i14
    rw [z3, z5, z6]
    exact h.j14
  · unfold i15 PO
    rw [z5]
    exact h.j15
  · intro u hu hku
    rw [z3] at hku
    obtain ⟨d1, d2⟩ := h.dk u hu hku
    have hne : ∀ b, b ∈ D u → b ≠ b0 := by
      intro b hb e
      obtain ⟨y1, p, j, hp, e1, hj, e2, -⟩ := (d2 b).mp hb
      have hs := h.pv hu hku hp e1
      exact nob p j (by rw [← e]; exact ⟨hp, Or.inr hs, hj, y1, e2⟩)
    refine ⟨d1.imp_of_mem ?_, fun b => ?_⟩
    · intro b c hb hc hl
      rw [lat_i] at hl ⊢
      rw [hbr, hbr, if_neg (hne b hb), if_neg (hne c hc)]
      exact hl
    · rw [d2 b]
      refine and_congr_right (fun hb => ?_)
      unfold dd
      rw [z5]
      constructor
      · rintro ⟨p, j, hp, e1, hj, e2, e3⟩
        have hs := h.pv hu hku hp e1
        have hpf : ¬ (p = f ∧ j = k) := fun y => by rw [y.1] at hs; exact f_ns hk hs
        have hhd : hd P p j b := ⟨hp, Or.inr hs, hj, hb, e2⟩
        refine ⟨p, j, hp, e1, hj, by rw [z9, fset2_n hpf]; exact e2, fun y => e3 ?_⟩
        obtain ⟨i, hi, e4⟩ := y
        rcases (hq u i b).mp ⟨hu, by rw [z3]; exact hku, hi, hb, e4⟩ with ⟨y1, -, -⟩ | ⟨-, -, y⟩
        · exact ⟨i, hi, y1.2.2.2.2⟩
        · rw [y] at hhd
          exact absurd hhd (nob p j)
      · rintro ⟨p, j, hp, e1, hj, e2, e3⟩
        have hs := h.pv hu hku hp e1
        have hpf : ¬ (p = f ∧ j = k) := fun y => by rw [y.1] at hs; exact f_ns hk hs
        rw [z9, fset2_n hpf] at e2
        refine ⟨p, j, hp, e1, hj, e2, fun y => e3 ?_⟩
        obtain ⟨i, hi, e4⟩ := y
        exact ⟨i, hi, (keep u i b ⟨hu, hku, hi, hb, e4⟩).2.2.2.2⟩
theorem wr_gc (h : GI P D B) {t k b0 : Nat} (ht : t < 20) (hk : fK (P_kind P t)) (hk2 : k < 12) (hb0 : b0 < 96) (h0 : szN P b0 = 0) {sz : Int32} {b : Nat} (hb : b < 96) : gcB (wrP P t k b0 sz) b ↔ gcB (erP P t k) b := by
  have hkh : hK (P_kind P t) := Or.inl hk
  obtain ⟨z1, z2, z3, z4, z5, z6, z7, z8, z9, z10, z11⟩ := Z_wrP P t k b0 sz
  obtain ⟨y1, y2, y3, y4, y5, y6, y7, y8, y9, y10, y11⟩ := Z_erP P t k
  unfold gcB unh
  rw [z3, z9, z10, y3, y9, y10]
  by_cases c : b = b0
  · subst c
    constructor
    · rintro ⟨-, q⟩
      exact absurd fset2_s (q t k ht hk2 hkh)
    · rintro ⟨q, -⟩
      have := pos_i.mp q
      have e : (P_size P b).toInt = 0 := h0
      omega
  · rw [fset_n c]
    refine and_congr_right (fun _ => ?_)
    constructor
    · intro q u j hu hj hku e
      by_cases c2 : u = t ∧ j = k
      · obtain ⟨rfl, rfl⟩ := c2
        rw [fset2_s] at e
        exact m1_ne b (by omega) e.symm
      · rw [fset2_n c2] at e
        exact q u j hu hj hku (by rw [fset2_n c2]; exact e)
    · intro q u j hu hj hku e
      by_cases c2 : u = t ∧ j = k
      · obtain ⟨rfl, rfl⟩ := c2
        rw [fset2_s] at e
        exact c (nIe hb0 hb e).symm
      · rw [fset2_n c2] at e
        exact q u j hu hj hku (by rw [fset2_n c2]; exact e)
theorem fset2_2 {g : Nat → Nat → Int32} {t k : Nat} {v v' : Int32} : fset2 (fset2 g t k v) t k v' = fset2 g t k v' := by
  funext j i
  by_cases c : j = t ∧ i = k
  · obtain ⟨rfl, rfl⟩ := c
    rw [fset2_s, fset2_s]
  · rw [fset2_n c, fset2_n c, fset2_n c]
theorem wr_e (h : GI P D B) {t k b0 : Nat} (ht : t < 20) (hk : fK (P_kind P t)) (hk2 : k < 12) (hb0 : b0 < 96) (h0 : szN P b0 = 0) {sz : Int32} : wrP (gcP (erP P t k)) t k b0 sz = gcP (wrP P t k b0 sz) := by
  have hgc : ∀ b, b < 96 → (gcB (wrP P t k b0 sz) b ↔ gcB (erP P t k) b) := fun b hb => wr_gc h ht hk hk2 hb0 h0 hb
  have en : gcN (wrP P t k b0 sz) = gcN (erP P t k) := cn_congr hgc
  have es : gcS (wrP P t k b0 sz) 96 = fset (gcS (erP P t k) 96) b0 sz := by
    funext b
    by_cases hb : b < 96
    · by_cases c : b = b0
      · subst c
        rw [fset_s, gcS_k]
        · simp only [Z_wrP]
          exact fset_s
        · rw [hgc b hb]
          rintro ⟨q, -⟩
          simp only [Z_erP] at q
          have := pos_i.mp q
          have e : (P_size P b).toInt = 0 := h0
          omega
      · rw [fset_n c]
        by_cases q : gcB (erP P t k) b
        · rw [gcS_z hb q, gcS_z hb ((hgc b hb).mpr q)]
        · rw [gcS_k q, gcS_k (fun y => q ((hgc b hb).mp y))]
          simp only [Z_wrP, Z_erP]
          exact fset_n c
    · have n1 : ∀ X, gcS X 96 b = P_size X b := fun X => @if_neg _ (Classical.propDecidable _) (fun z => hb z.1) _ _ _
      rw [n1, fset_n (by omega), n1]
      simp only [Z_wrP, Z_erP]
      exact fset_n (by omega)
  refine PT_ext ?_ ?_ ?_ ?_ ?_ ?_ ?_ ?_ ?_ ?_ ?_ <;> simp only [Z_wrP, Z_gcP, Z_erP, en, es, fset2_2]
theorem lB_0 (h : GI P D B) (hb : lB P < 96) : szN P (lB P) = 0 := by
  have h1 := (lst_spec (fun b => P_size P b ≤ 0) 96 0).2.2.2 (by unfold lB at hb; omega)
  have h2 : P_size P (lB P) ≤ 0 := h1
  rw [le_i, i0_t] at h2
  have := (h.j3 (lB P) hb).1
  have h3 : (0 : Int) ≤ (P_size P (lB P)).toInt := this
  show (P_size P (lB P)).toInt = 0
  omega
theorem sz_ge {sz : Int32} (h : inI sz 1 1000000000) : 1 ≤ sz.toInt ∧ sz.toInt ≤ 1000000000 := by
  obtain ⟨h1, h2⟩ := h
  rw [lt_i] at h1 h2
  have e1 : (1 : Int32).toInt = 1 := by decide
  have e2 : (1000000000 : Int32).toInt = 1000000000 := by decide
  rw [e1] at h1
  rw [e2] at h2
  omega
theorem o_wr (h : GI P D B) {t k : Nat} (ht : t < 20) (hk : fK (P_kind P t)) (hk2 : k < 12) {sz v : Int32} (hs : 1 ≤ sz.toInt ∧ sz.toInt ≤ 1000000000) {P' : PT} {D' : DT} (r : wrR P D t k sz v P' D') : v = (o_written P t k sz).1 ∧ P' = (o_written P t k sz).2 ∧ GI P' D' B := by
  rcases r with ⟨c, rfl, rfl, rfl⟩ | ⟨c, rfl, P1, rl, rfl⟩
  · rw [o_written_f c]
    exact ⟨rfl, rfl, h⟩
  · rw [o_written_w c]
    have hb : lB P < 96 := by have := lB_le P; have : ¬ lB P = 96 := fun z => c (Or.inl z); omega
    have h0 := lB_0 h hb
    obtain ⟨rfl, g1⟩ := o_er h ht hk hk2 rl
    refine ⟨rfl, wr_e h ht hk hk2 hb h0, gAdd g1 ht ?_ hk2 ?_ hb ?_ hs.1 hs.2⟩
    · simp only [Z_gcP, Z_erP]
      exact hk
    · simp only [Z_gcP, Z_erP]
      exact fset2_s
    · show (P_size (gcP (erP P t k)) (lB P)).toInt = 0
      simp only [Z_gcP]
      by_cases q : gcB (erP P t k) (lB P)
      · rw [gcS_z hb q]
        decide
      · rw [gcS_k q]
        simp only [Z_erP]
        exact h0
theorem law_write (h : GI P D B) {i k sz v : Int32} {P' : PT} {D' : DT} (r : wR P D i k sz v P' D') : v = (o_write P i k sz).1 ∧ P' = (o_write P i k sz).2 ∧ GI P' D' B := by
  unfold wR at r
  unfold o_write
  by_cases c : inI k 0 11 ∧ inI sz 1 1000000000
  · rw [if_pos c] at r ⊢
    by_cases c2 : ask P i 0 = 0
    · rw [if_pos c2] at r ⊢
      obtain ⟨t, ht, rfl, hk⟩ := (ask_0 (by decide)).mp c2
      obtain ⟨K, hK', rfl⟩ := inI_n (H := 11) c.1 rfl rfl (by decide)
      rw [nI_clamp (by omega), nI_clamp (by omega)] at r ⊢
      exact o_wr h ht ((uKd_0 _).mp hk) (by omega) (sz_ge c.2) r
    · rw [if_neg c2] at r ⊢
      obtain ⟨rfl, rfl, rfl⟩ := r
      exact ⟨rfl, rfl, h⟩
  · rw [if_neg c] at r ⊢
    obtain ⟨rfl, rfl, rfl⟩ := r
    exact ⟨rfl, rfl, h⟩
theorem law_erase (h : GI P D B) {i k v : Int32} {P' : PT} {D' : DT} (r : eR P D i k v P' D') : v = (o_erase P i k).1 ∧ P' = (o_erase P i k).2 ∧ GI P' D' B := by
  unfold eR at r
  unfold o_erase
  by_cases c : inI k 0 11
  · rw [if_pos c] at r ⊢
    by_cases c2 : ask P i 0 = 0
    · rw [if_pos c2] at r ⊢
      obtain ⟨t, ht, rfl, hk⟩ := (ask_0 (by decide)).mp c2
      obtain ⟨K, hK', rfl⟩ := inI_n (H := 11) c rfl rfl (by decide)
      rw [nI_clamp (by omega), nI_clamp (by omega)] at r ⊢
      obtain ⟨rfl, r⟩ := r
      obtain ⟨e, g⟩ := o_er h ht ((uKd_0 _).mp hk) (by omega) r
      exact ⟨rfl, e, g⟩
    · rw [if_neg c2] at r ⊢
      obtain ⟨rfl, rfl, rfl⟩ := r
      exact ⟨rfl, rfl, h⟩
  · rw [if_neg c] at r ⊢
    obtain ⟨rfl, rfl, rfl⟩ := r
    exact ⟨rfl, rfl, h⟩
end GF
