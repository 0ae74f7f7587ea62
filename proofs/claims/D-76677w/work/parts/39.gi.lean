/-! ===== what holds all through: the invariant, and what follows at once ===== -/
set_option maxRecDepth 100000
set_option maxHeartbeats 400000
abbrev tmI (P : PT) : Int := (P_time P).toInt
abbrev mkI (P : PT) (t : Nat) : Int := (P_made P t).toInt
abbrev brI (P : PT) (b : Nat) : Int := (P_birth P b).toInt
abbrev szN (P : PT) (b : Nat) : Int := (P_size P b).toInt
abbrev pmI (P : PT) (t : Nat) : Int := (pm P t).toInt
/-- t holds b in slot k -/
def hd (P : PT) (t k b : Nat) : Prop := t < 20 ∧ hK (P_kind P t) ∧ k < 12 ∧ b < 96 ∧ P_slot P t k = nI b
/-- b died behind the prev of t -/
def dd (P : PT) (t b : Nat) : Prop := ∃ p k, p < 20 ∧ P_prev P t = nI p ∧ k < 12 ∧ P_slot P p k = nI b ∧ ¬ held P t (nI b)
def DK (P : PT) (D : DT) : Prop := ∀ t, t < 20 → hK (P_kind P t) → (D t).Pairwise (lat P) ∧ ∀ b, b ∈ D t ↔ b < 96 ∧ dd P t b
def i3 (P : PT) : Prop := ∀ b, b < 96 → 0 ≤ szN P b ∧ szN P b ≤ 1000000000
def i4 (P : PT) (B : Nat) : Prop := 1 ≤ tmI P ∧ tmI P ≤ 100000 + B
def i5 (P : PT) : Prop := ∀ t, t < 20 → sK (P_kind P t) → 1 ≤ mkI P t ∧ mkI P t < tmI P
def i6 (P : PT) : Prop := ∀ t p, t < 20 → sK (P_kind P t) → p < 20 → P_prev P t = nI p → mkI P p < mkI P t
def i7 (P : PT) : Prop := ∀ t k b, hd P t k b → 0 < szN P b
def i8 (P : PT) : Prop := ∀ t u k j b, hd P t k b → hd P u j b → k = j
def i9 (P : PT) : Prop := ∀ b, b < 96 → 0 < szN P b → 1 ≤ brI P b ∧ brI P b ≤ tmI P
def i10 (P : PT) : Prop := ∀ t k b, hd P t k b → sK (P_kind P t) → brI P b ≤ mkI P t
def i11 (P : PT) : Prop := ∀ t p k b, hd P t k b → p < 20 → P_prev P t = nI p → brI P b ≤ mkI P p → P_slot P p k = nI b
def i12 (P : PT) : Prop := ∀ t u k j b, hd P t k b → hd P u j b → pmI P t < brI P b → pmI P u < brI P b → t = u
def i13 (P : PT) : Prop := ∀ b, b < 96 → 0 < szN P b → ∃ t k, hd P t k b
def i14 (P : PT) : Prop := ∀ s f, s < 20 → sK (P_kind P s) → f < 20 → P_owner P s = nI f → ∃ n, n < 20 ∧ hK (P_kind P n) ∧ P_prev P n = nI s ∧ (n = f ∨ (sK (P_kind P n) ∧ P_owner P n = nI f))
def i15 (P : PT) : Prop := PO P ∧ ∀ t, t < 20 → ¬ P_prev P t = nI t
def GI (P : PT) (D : DT) (B : Nat) : Prop := PI P ∧ TQ P ∧ i3 P ∧ i4 P B ∧ i5 P ∧ i6 P ∧ i7 P ∧ i8 P ∧ i9 P ∧ i10 P ∧ i11 P ∧ i12 P ∧ i13 P ∧ i14 P ∧ i15 P ∧ DK P D
section GA
variable {P : PT} {D : DT} {B : Nat}
theorem GI.pi (h : GI P D B) : PI P := h.1
theorem GI.tq (h : GI P D B) : TQ P := h.2.1
theorem GI.j3 (h : GI P D B) : i3 P := h.2.2.1
theorem GI.j4 (h : GI P D B) : i4 P B := h.2.2.2.1
theorem GI.j5 (h : GI P D B) : i5 P := h.2.2.2.2.1
theorem GI.j6 (h : GI P D B) : i6 P := h.2.2.2.2.2.1
theorem GI.j7 (h : GI P D B) : i7 P := h.2.2.2.2.2.2.1
theorem GI.j8 (h : GI P D B) : i8 P := h.2.2.2.2.2.2.2.1
theorem GI.j9 (h : GI P D B) : i9 P := h.2.2.2.2.2.2.2.2.1
theorem GI.j10 (h : GI P D B) : i10 P := h.2.2.2.2.2.2.2.2.2.1
theorem GI.j11 (h : GI P D B) : i11 P := h.2.2.2.2.2.2.2.2.2.2.1
theorem GI.j12 (h : GI P D B) : i12 P := h.2.2.2.2.2.2.2.2.2.2.2.1
theorem GI.j13 (h : GI P D B) : i13 P := h.2.2.2.2.2.2.2.2.2.2.2.2.1
theorem GI.j14 (h : GI P D B) : i14 P := h.2.2.2.2.2.2.2.2.2.2.2.2.2.1
theorem GI.j15 (h : GI P D B) : i15 P := h.2.2.2.2.2.2.2.2.2.2.2.2.2.2.1
theorem GI.dk (h : GI P D B) : DK P D := h.2.2.2.2.2.2.2.2.2.2.2.2.2.2.2
theorem GI.sz (h : GI P D B) : SZ P := fun b hb z => by
  have : 0 ≤ (P_size P b).toInt := (h.j3 b hb).1
  rw [Int32.lt_iff_toInt_lt] at z
  have e : (0 : Int32).toInt = 0 := by decide
  rw [e] at z
  omega
theorem i0_t : (0 : Int32).toInt = 0 := by decide
theorem pos_i {x : Int32} : ¬ x ≤ 0 ↔ 0 < x.toInt := by
  rw [Int32.le_iff_toInt_le, i0_t]
  omega
theorem le_i {x y : Int32} : x ≤ y ↔ x.toInt ≤ y.toInt := Int32.le_iff_toInt_le
theorem lt_i {x y : Int32} : x < y ↔ x.toInt < y.toInt := Int32.lt_iff_toInt_lt
theorem lat_i {b c : Nat} : lat P b c ↔ (brI P c < brI P b ∨ (brI P b = brI P c ∧ b < c)) := by
  unfold lat
  rw [lt_i, ← Int32.toInt_inj]
theorem lat_ir {b : Nat} : ¬ lat P b b := by rw [lat_i]; omega
theorem lat_tr {b c d : Nat} (h : lat P b c) (k : lat P c d) : lat P b d := by rw [lat_i] at *; omega
theorem lat_tot {b c : Nat} (h : b ≠ c) : lat P b c ∨ lat P c b := by rw [lat_i, lat_i]; omega
theorem lat_as {b c : Nat} (h : lat P b c) : ¬ lat P c b := by rw [lat_i] at *; omega
theorem pmI_m {t : Nat} (e : P_prev P t = -1) : pmI P t = 0 := by
  show (pm P t).toInt = 0
  rw [pm_m e]
  decide
theorem pmI_n {t p : Nat} (hp : p < 20) (e : P_prev P t = nI p) : pmI P t = mkI P p := by
  show (pm P t).toInt = (P_made P p).toInt
  rw [pm_n hp e]
theorem hd_held {t b : Nat} (ht : t < 20) (hk : hK (P_kind P t)) (hb : b < 96) : held P t (nI b) ↔ ∃ k, hd P t k b := by
  constructor
  · rintro ⟨k, hk2, e⟩
    exact ⟨k, ht, hk, hk2, hb, e⟩
  · rintro ⟨k, -, -, hk2, -, e⟩
    exact ⟨k, hk2, e⟩
theorem nIe {a b : Nat} (ha : a < 96) (hb : b < 96) (h : nI a = nI b) : a = b := (nI_eq (by omega) (by omega)).mp h
/-- the prev of a holder is a snapshot -/
theorem GI.pv (h : GI P D B) {t p : Nat} (ht : t < 20) (hk : hK (P_kind P t)) (hp : p < 20) (e : P_prev P t = nI p) : sK (P_kind P p) := by
  rcases h.pi.p ht hk with z | ⟨q, hq, z, hs⟩
  · exact absurd (e.symm.trans z) (m1_ne p (by omega))
  · rw [nIe (by omega) (by omega) (e.symm.trans z)]
    exact hs
/-- whoever holds a block: from there downward is the one that holds it for its own -/
theorem GI.rt (h : GI P D B) : ∀ n u k b, hd P u k b → (sK (P_kind P u) → mkI P u < n) → ∃ r, hd P r k b ∧ pmI P r < brI P b ∧ (r = u ∨ (sK (P_kind P r) ∧ ∃ v, hd P v k b ∧ P_prev P v = nI r)) := by
  intro n
  have step : ∀ u k b, hd P u k b → ¬ pmI P u < brI P b → ∃ p, p < 20 ∧ P_prev P u = nI p ∧ sK (P_kind P p) ∧ hd P p k b := by
    intro u k b hu hn
    have hb1 := (h.j9 b hu.2.2.2.1 (h.j7 u k b hu)).1
    rcases h.pi.p hu.1 hu.2.1 with z | ⟨p, hp, z, hs⟩
    · rw [pmI_m z] at hn
      omega
    · rw [pmI_n hp z] at hn
      exact ⟨p, hp, z, hs, hp, Or.inr hs, hu.2.2.1, hu.2.2.2.1, h.j11 u p k b hu hp z (by omega)⟩
  have main : ∀ (m : Nat) u k b, hd P u k b → sK (P_kind P u) → mkI P u < m → ∃ r, hd P r k b ∧ pmI P r < brI P b ∧ (r = u ∨ (sK (P_kind P r) ∧ ∃ v, hd P v k b ∧ P_prev P v = nI r)) := by
    intro m
    induction m with
    | zero =>
      intro u k b hu hs hm
      have := (h.j5 u hu.1 hs).1
      omega
    | succ m ih =>
      intro u k b hu hs hm
      by_cases c : pmI P u < brI P b
      · exact ⟨u, hu, c, Or.inl rfl⟩
      · obtain ⟨p, hp, e, hsp, hpd⟩ := step u k b hu c
        have hlt := h.j6 u p hu.1 hs hp e
        obtain ⟨r, h1, h2, h3⟩ := ih p k b hpd hsp (by omega)
        rcases h3 with z | z
        · exact ⟨r, h1, h2, Or.inr ⟨by rw [z]; exact hsp, u, hu, by rw [z]; exact e⟩⟩
        · exact ⟨r, h1, h2, Or.inr z⟩
  intro u k b hu _
  by_cases c : pmI P u < brI P b
  · exact ⟨u, hu, c, Or.inl rfl⟩
  · obtain ⟨p, hp, e, hsp, hpd⟩ := step u k b hu c
    have hp1 := (h.j5 p hp hsp).1
    obtain ⟨r, h1, h2, h3⟩ := main ((mkI P p).toNat + 1) p k b hpd hsp (by omega)
    rcases h3 with z | z
    · exact ⟨r, h1, h2, Or.inr ⟨by rw [z]; exact hsp, u, hu, by rw [z]; exact e⟩⟩
    · exact ⟨r, h1, h2, Or.inr z⟩
theorem GI.root (h : GI P D B) {u k b : Nat} (hu : hd P u k b) : ∃ r, hd P r k b ∧ pmI P r < brI P b ∧ (r = u ∨ (sK (P_kind P r) ∧ ∃ v, hd P v k b ∧ P_prev P v = nI r)) := h.rt ((mkI P u).toNat + 1) u k b hu (fun _ => by omega)
/-- a folder's own block: no other holds it -/
theorem GI.sole (h : GI P D B) {f u k j b : Nat} (hf : hd P f k b) (hk : fK (P_kind P f)) (hb : pmI P f < brI P b) (hu : hd P u j b) : u = f := by
  obtain ⟨r, h1, h2, h3⟩ := h.root hu
  have e := h.j12 r f _ _ b h1 hf h2 hb
  rcases h3 with z | ⟨z, -⟩
  · rw [← z, e]
  · rw [e] at z
    exact absurd z (f_ns hk)
/-- a snapshot's own block: if no next holds it, no other holds it -/
theorem GI.sole2 (h : GI P D B) {s u k j b : Nat} (hs : hd P s k b) (hb : pmI P s < brI P b) (hn : ∀ v i, hd P v i b → ¬ P_prev P v = nI s) (hu : hd P u j b) : u = s := by
  obtain ⟨r, h1, h2, h3⟩ := h.root hu
  have e := h.j12 r s _ _ b h1 hs h2 hb
  rcases h3 with z | ⟨z, v, hv, ev⟩
  · rw [← z, e]
  · rw [e] at ev
    exact absurd ev (hn v _ hv)
/-! chains end -/
theorem cn_mono {p q : Nat → Prop} : ∀ n, (∀ i, i < n → p i → q i) → cn p n ≤ cn q n := by
  intro n
  induction n with
  | zero => intro _; exact Nat.le_refl _
  | succ n ih =>
    intro h
    have := ih (fun i hi => h i (by omega))
    by_cases c : p n
    · rw [cn_t c, cn_t (h n (by omega) c)]
      omega
    · rw [cn_f c]
      by_cases c2 : q n
      · rw [cn_t c2]
        omega
      · rw [cn_f c2]
        exact this
theorem cn_lt {p q : Nat → Prop} {j : Nat} (hq : q j) (hp : ¬ p j) : ∀ n, j < n → (∀ i, i < n → p i → q i) → cn p n < cn q n := by
  intro n
  induction n with
  | zero => intro h; omega
  | succ n ih =>
    intro hj h
    by_cases e : j = n
    · subst e
      rw [cn_f hp, cn_t hq]
      have := cn_mono j (fun i hi => h i (by omega))
      omega
    · have := ih (by omega) (fun i hi => h i (by omega))
      by_cases c : p n
      · rw [cn_t c, cn_t (h n (by omega) c)]
        omega
      · rw [cn_f c]
        by_cases c2 : q n
        · rw [cn_t c2]
          omega
        · rw [cn_f c2]
          exact this
theorem GI.chain (h : GI P D B) : ∀ n p, p < 20 → sK (P_kind P p) → cn (fun s => sK (P_kind P s) ∧ mkI P s ≤ mkI P p) 20 ≤ n → Ch P (nI p) (chn P n (nI p)) := by
  intro n
  induction n with
  | zero =>
    intro p hp hs hc
    have := cn_lt (p := fun _ => False) (q := fun s => sK (P_kind P s) ∧ mkI P s ≤ mkI P p) (j := p) ⟨hs, by omega⟩ (fun z => z) 20 hp (fun i _ z => z.elim)
    omega
  | succ n ih =>
    intro p hp hs hc
    show Ch P (nI p) (if nI p = -1 then [] else (nI p).toNatClampNeg :: chn P n (P_prev P (nI p).toNatClampNeg))
    rw [if_neg (m1_ne p (by omega)), nI_clamp (by omega)]
    refine ⟨rfl, hp, ?_⟩
    rcases h.pi.p hp (Or.inr hs) with z | ⟨q, hq, z, hsq⟩
    · rw [z]
      cases n with
      | zero => rfl
      | succ n =>
        show Ch P (-1) (if (-1 : Int32) = -1 then [] else _)
        rw [if_pos rfl]
        rfl
    · rw [z]
      have hlt := h.j6 p q hp hs hq z
      refine ih q hq hsq ?_
      have := cn_lt (p := fun s => sK (P_kind P s) ∧ mkI P s ≤ mkI P q) (q := fun s => sK (P_kind P s) ∧ mkI P s ≤ mkI P p) (j := p) ⟨hs, by omega⟩ (fun y => by have := y.2; omega) 20 hp (fun i _ y => ⟨y.1, by have := y.2; omega⟩)
      omega
theorem GI.ch (h : GI P D B) {t : Nat} (ht : t < 20) (hk : hK (P_kind P t)) : Ch P (P_prev P t) (chl P t) := by
  unfold chl
  rcases h.pi.p ht hk with z | ⟨q, hq, z, hsq⟩
  · rw [z]
    show Ch P (-1) (if (-1 : Int32) = -1 then [] else _)
    rw [if_pos rfl]
    rfl
  · rw [z]
    exact h.chain 20 q hq hsq (cn_le _ _)
theorem GI.good (h : GI P D B) : good P := ⟨h.pi.s, h.j15.1, h.j15.2, fun t ht hk => h.ch ht hk⟩
/-! rows have room -/
theorem pig (S : Nat → Int32) : ∀ (N : Nat) (L : List Nat), L.Nodup → (∀ b, b ∈ L → b < 96 ∧ ∃ k, k < N ∧ S k = nI b) → L.length ≤ N := by
  intro N
  induction N with
  | zero =>
    intro L _ h
    cases L with
    | nil => exact Nat.le_refl _
    | cons b L =>
      obtain ⟨-, k, hk, -⟩ := h b (List.mem_cons_self ..)
      omega
  | succ N ih =>
    intro L hn h
    by_cases c : ∃ b, b ∈ L ∧ S N = nI b
    · obtain ⟨b, hb, e⟩ := c
      have hb96 := (h b hb).1
      have := ih (L.erase b) (hn.erase b) (fun d hd => ?_)
      · rw [List.length_erase_of_mem hb] at this
        omega
      · rw [hn.mem_erase_iff] at hd
        obtain ⟨h1, k, hk, e2⟩ := h d hd.2
        refine ⟨h1, k, ?_, e2⟩
        rcases Nat.lt_or_ge k N with y | y
        · exact y
        · have : k = N := by omega
          rw [this, e] at e2
          exact absurd (nIe hb96 h1 e2).symm hd.1
    · have := ih L hn (fun d hd => ?_)
      · omega
      · obtain ⟨h1, k, hk, e2⟩ := h d hd
        refine ⟨h1, k, ?_, e2⟩
        rcases Nat.lt_or_ge k N with y | y
        · exact y
        · have : k = N := by omega
          rw [this] at e2
          exact absurd ⟨d, hd, e2⟩ c
theorem pw_nd {L : List Nat} (h : L.Pairwise (lat P)) : L.Nodup := by
  refine List.Pairwise.imp ?_ h
  intro b c hl e
  rw [e] at hl
  exact lat_ir hl
theorem gX_mem {L : List Nat} {i : Nat} (h : i < L.length) : gD L i ∈ L := by
  unfold gD
  rw [List.getD_eq_getElem?_getD, List.getElem?_eq_getElem h]
  exact List.getElem_mem h
theorem GI.db (h : GI P D B) : DB P D := fun t ht hk i hi => (((h.dk t ht hk).2 _).mp (gX_mem hi)).1
/-- what died behind t is in the row of its prev -/
theorem dd_in {t b p : Nat} (hp : p < 20) (e : P_prev P t = nI p) (h : dd P t b) : ∃ k, k < 12 ∧ P_slot P p k = nI b := by
  obtain ⟨q, k, hq, e2, hk, e3, -⟩ := h
  have : q = p := nIe (by omega) (by omega) (e2.symm.trans e)
  rw [this] at e3
  exact ⟨k, hk, e3⟩
theorem GI.ld (h : GI P D B) : LD P D := by
  intro t k b ht hk hk2 hb e hle
  have hh : hK (P_kind P t) := Or.inl hk
  have hhd : hd P t k b := ⟨ht, hh, hk2, hb, e⟩
  have hb1 := (h.j9 b hb (h.j7 t k b hhd)).1
  obtain ⟨d1, d2⟩ := h.dk t ht hh
  rw [le_i] at hle
  have hle' : brI P b ≤ pmI P t := hle
  rcases h.pi.p ht hh with z | ⟨p, hp, z, hs⟩
  · rw [pmI_m z] at hle'
    omega
  · rw [pmI_n hp z] at hle'
    have := pig (P_slot P p) 12 (b :: D t) (List.nodup_cons.mpr ⟨fun y => ?_, pw_nd d1⟩) (fun c hc => ?_)
    · rw [List.length_cons] at this
      omega
    · obtain ⟨-, q, j, hq, e2, hj, e3, e4⟩ := (d2 b).mp y
      exact e4 ⟨k, hk2, e⟩
    · rcases List.mem_cons.mp hc with y | y
      · rw [y]
        exact ⟨hb, k, hk2, h.j11 t p k b hhd hp z hle'⟩
      · obtain ⟨y1, y2⟩ := (d2 c).mp y
        exact ⟨y1, dd_in hp z y2⟩
end GA
