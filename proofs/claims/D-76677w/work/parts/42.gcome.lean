/-! ===== the law of new things: files, forks, marks, snapshots; of promotions ===== -/
set_option maxRecDepth 100000
set_option maxHeartbeats 400000
section GC
variable {P Q : PT} {D : DT} {B : Nat}
theorem gNew (h : GI P D B) {T : Nat} (hT : T < 20) (hkT : P_kind P T = -1) (hQ : NwQ P Q T) (hk : fK (P_kind Q T) ∨ P_kind Q T = 4) (hso : ∀ k, k < 12 → P_slot Q T k = -1 ∨ ∃ b : Nat, b < 96 ∧ P_slot Q T k = nI b) (hprev : P_prev Q T = -1 ∨ ∃ s : Nat, s < 20 ∧ P_prev Q T = nI s ∧ sK (P_kind P s)) (hrow : ∀ k, k < 12 → P_slot Q T k = -1 ∨ ∃ s : Nat, s < 20 ∧ P_prev Q T = nI s ∧ P_slot Q T k = P_slot P s k) (hown : P_owner Q T = -1) (htag : P_tags Q T = 0) (hqu : P_kind Q T = 1 ∨ P_quota Q T = -1) (h4 : P_kind Q T = 4 → P_prev Q T = -1) {D' : DT} (hD : ∀ u, u ≠ T → D' u = D u) (hDT : fK (P_kind Q T) → D' T = []) (hdd : ∀ b, b < 96 → ¬ dd Q T b) : GI Q D' B := by
  obtain ⟨n1, n2, n3, n4, n5⟩ := hQ
  have hTs : ¬ sK (P_kind Q T) := by
    rcases hk with y | y
    · exact f_ns y
    · rw [y]; decide
  have nT : ∀ u, hK (P_kind P u) → u ≠ T := fun u y e => by rw [e, hkT] at y; exact absurd y (by decide)
  have ks : ∀ u, sK (P_kind Q u) → u ≠ T ∧ sK (P_kind P u) := by
    intro u y
    have c : u ≠ T := fun e => hTs (by rw [← e]; exact y)
    rw [(n5 u c).1] at y
    exact ⟨c, y⟩
  have hq : ∀ t k b, hd Q t k b → (t ≠ T ∧ hd P t k b) ∨ (t = T ∧ ∃ s, s < 20 ∧ P_prev Q T = nI s ∧ sK (P_kind P s) ∧ hd P s k b) := by
    rintro t k b ⟨a1, a2, a3, a4, a5⟩
    by_cases c : t = T
    · subst c
      refine Or.inr ⟨rfl, ?_⟩
      rcases hrow k a3 with z | ⟨s, hs, z1, z2⟩
      · exact absurd (a5.symm.trans z) (m1_ne b (by omega))
      · rcases hprev with y | ⟨s', hs', y1, y2⟩
        · exact absurd (z1.symm.trans y) (m1_ne s (by omega))
        · have : s' = s := nIe (by omega) (by omega) (y1.symm.trans z1)
          rw [this] at y2
          exact ⟨s, hs, z1, y2, hs, Or.inr y2, a3, a4, z2.symm.trans a5⟩
    · obtain ⟨c1, c2, c3, c4, c5, c6, c7⟩ := n5 t c
      rw [c1] at a2
      rw [c7] at a5
      exact Or.inl ⟨c, a1, a2, a3, a4, a5⟩
  have keep : ∀ t k b, hd P t k b → hd Q t k b := by
    rintro t k b ⟨a1, a2, a3, a4, a5⟩
    obtain ⟨c1, c2, c3, c4, c5, c6, c7⟩ := n5 t (nT t a2)
    exact ⟨a1, by rw [c1]; exact a2, a3, a4, by rw [c7]; exact a5⟩
  have hq2 : ∀ t k b, hd Q t k b → ∃ u, hd P u k b := by
    intro t k b hh
    rcases hq t k b hh with ⟨-, z⟩ | ⟨-, s, -, -, -, z⟩
    · exact ⟨t, z⟩
    · exact ⟨s, z⟩
  have hsz : ∀ b, szN Q b = szN P b := fun b => by show (P_size Q b).toInt = _; rw [n3]
  have hbr : ∀ b, brI Q b = brI P b := fun b => by show (P_birth Q b).toInt = _; rw [n4]
  have htm : tmI Q = tmI P := by show (P_time Q).toInt = _; rw [n1]
  have hmk : ∀ t, t ≠ T → mkI Q t = mkI P t := fun t c => by show (P_made Q t).toInt = _; rw [(n5 t c).2.1]
  have epv : ∀ t, t ≠ T → P_prev Q t = P_prev P t := fun t c => (n5 t c).2.2.1
  have hpm : ∀ t, t < 20 → hK (P_kind P t) → pmI Q t = pmI P t := by
    intro t ht hkt
    have c := nT t hkt
    rcases h.pi.p ht hkt with z | ⟨p, hp, z, hs⟩
    · rw [pmI_m z, pmI_m ((epv t c).trans z)]
    · rw [pmI_n hp z, pmI_n hp ((epv t c).trans z), hmk p (nT p (Or.inr hs))]
  refine GS.gi ⟨⟨fun t ht => ?_, fun t ht hkt => ?_, fun t ht hkt => ?_, fun t k ht hk2 => ?_⟩, fun t ht => ?_, fun b hb => ?_, ?_, fun t ht hs => ?_, fun t p ht hs hp e => ?_, fun t k b hh => ?_, fun t u k j b g1 g2 => ?_, fun b hb hp => ?_, fun t k b hh hs => ?_, fun t p k b hh hp e hle => ?_, fun t u k j b g1 g2 l1 l2 => ?_, fun b hb hp => ?_, fun s g hs hks hg e => ?_, ⟨fun t ht => ?_, fun t ht e => ?_⟩⟩ (fun u hu hku => ?_)
  · by_cases c : t = T
    · rw [c]
      rcases hk with y | y
      · exact Or.inr (Or.inr (Or.inl y))
      · exact Or.inr (Or.inl y)
    · rw [(n5 t c).1]
      exact h.pi.1 t ht
  · by_cases c : t = T
    · rw [c]
      rcases hprev with z | ⟨s, hs, z, hks⟩
      · exact Or.inl z
      · exact Or.inr ⟨s, hs, z, by rw [(n5 s (nT s (Or.inr hks))).1]; exact hks⟩
    · rw [(n5 t c).1] at hkt
      rw [epv t c]
      rcases h.pi.p ht hkt with z | ⟨s, hs, z, hks⟩
      · exact Or.inl z
      · exact Or.inr ⟨s, hs, z, by rw [(n5 s (nT s (Or.inr hks))).1]; exact hks⟩
  · obtain ⟨c, hkt'⟩ := ks t hkt
    rw [(n5 t c).2.2.2.1]
    obtain ⟨g, hg, z, hkg⟩ := h.pi.o ht hkt'
    exact ⟨g, hg, z, by rw [(n5 g (nT g (Or.inl hkg))).1]; exact hkg⟩
  · by_cases c : t = T
    · rw [c]
      exact hso k hk2
    · rw [(n5 t c).2.2.2.2.2.2]
      exact h.pi.s t k ht hk2
  · by_cases c : t = T
    · rw [c]
      exact ⟨fun _ => Or.inr htag, fun y => Or.inr (hqu.resolve_left y), fun _ => Or.inr hown, h4⟩
    · obtain ⟨c1, c2, c3, c4, c5, c6, c7⟩ := n5 t c
      rw [c1, c3, c4, c5, c6]
      exact h.tq t ht
  · rw [hsz]
    exact h.j3 b hb
  · unfold i4
    rw [htm]
    exact h.j4
  · obtain ⟨c, hs'⟩ := ks t hs
    rw [hmk t c, htm]
    exact h.j5 t ht hs'
  · obtain ⟨c, hs'⟩ := ks t hs
    rw [epv t c] at e
    have hsp := h.pv ht (Or.inr hs') hp e
    rw [hmk t c, hmk p (nT p (Or.inr hsp))]
    exact h.j6 t p ht hs' hp e
  · obtain ⟨u, hu⟩ := hq2 t k b hh
    rw [hsz]
    exact h.j7 u k b hu
  · obtain ⟨t', g1'⟩ := hq2 t k b g1
    obtain ⟨u', g2'⟩ := hq2 u j b g2
    exact h.j8 t' u' k j b g1' g2'
  · rw [hsz] at hp
    rw [hbr, htm]
    exact h.j9 b hb hp
  · obtain ⟨c, hs'⟩ := ks t hs
    rw [hbr, hmk t c]
    rcases hq t k b hh with ⟨-, z⟩ | ⟨y, -⟩
    · exact h.j10 t k b z hs'
    · exact absurd y c
  · rcases hq t k b hh with ⟨c, z⟩ | ⟨c, s, hs, y1, y2, z⟩
    · rw [epv t c] at e
      have hsp := h.pv z.1 z.2.1 hp e
      have hpT := nT p (Or.inr hsp)
      rw [hbr, hmk p hpT] at hle
      rw [(n5 p hpT).2.2.2.2.2.2]
      exact h.j11 t p k b z hp e hle
    · rw [c] at e
      have : s = p := nIe (by omega) (by omega) (y1.symm.trans e)
      rw [this] at y2 z
      rw [(n5 p (nT p (Or.inr y2))).2.2.2.2.2.2]
      exact z.2.2.2.2
  · have red : ∀ t k b, hd Q t k b → pmI Q t < brI Q b → hd P t k b ∧ pmI P t < brI P b := by
      intro t k b hh hl
      rw [hbr] at hl
      rcases hq t k b hh with ⟨c, z⟩ | ⟨c, s, hs, y1, y2, z⟩
      · rw [hpm t z.1 z.2.1] at hl
        exact ⟨z, hl⟩
      · exfalso
        rw [c, pmI_n hs y1, hmk s (nT s (Or.inr y2))] at hl
        have := h.j10 s k b z y2
        omega
    obtain ⟨x1, x2⟩ := red t k b g1 l1
    obtain ⟨x3, x4⟩ := red u j b g2 l2
    exact h.j12 t u k j b x1 x3 x2 x4
  · rw [hsz] at hp
    obtain ⟨t, k, hh⟩ := h.j13 b hb hp
    exact ⟨t, k, keep t k b hh⟩
  · obtain ⟨c, hks'⟩ := ks s hks
    rw [(n5 s c).2.2.2.1] at e
    obtain ⟨n, hn, hkn, en, w⟩ := h.j14 s g hs hks' hg e
    have cn := nT n hkn
    obtain ⟨c1, c2, c3, c4, c5, c6, c7⟩ := n5 n cn
    exact ⟨n, hn, by rw [c1]; exact hkn, by rw [c3]; exact en, by rw [c1, c4]; exact w⟩
  · by_cases c : t = T
    · rw [c]
      rcases hprev with z | ⟨s, hs, z, -⟩
      · exact Or.inl z
      · exact Or.inr ⟨s, hs, z⟩
    · rw [epv t c]
      exact h.j15.1 t ht
  · by_cases c : t = T
    · rw [c] at e
      rcases hprev with z | ⟨s, hs, z, hks⟩
      · exact m1_ne T (by omega) (e.symm.trans z)
      · exact nT s (Or.inr hks) (nIe (by omega) (by omega) (z.symm.trans e))
    · rw [epv t c] at e
      exact h.j15.2 t ht e
  · rw [lat_cg n4]
    by_cases c : u = T
    · rw [c] at hku ⊢
      have hf : fK (P_kind Q T) := hku.resolve_right hTs
      rw [hDT hf]
      exact ⟨List.Pairwise.nil, fun b => ⟨fun y => absurd y List.not_mem_nil, fun y => absurd y.2 (hdd b y.1)⟩⟩
    · obtain ⟨c1, c2, c3, c4, c5, c6, c7⟩ := n5 u c
      rw [c1] at hku
      rw [hD u c]
      obtain ⟨d1, d2⟩ := h.dk u hu hku
      refine ⟨d1, fun b => ?_⟩
      rw [d2 b]
      refine and_congr_right (fun _ => ?_)
      unfold dd held
      rw [c3, c7]
      constructor
      · rintro ⟨p, k, hp, e, hk2, x1, x2⟩
        have hs := h.pv hu hku hp e
        exact ⟨p, k, hp, e, hk2, by rw [(n5 p (nT p (Or.inr hs))).2.2.2.2.2.2]; exact x1, x2⟩
      · rintro ⟨p, k, hp, e, hk2, x1, x2⟩
        have hs := h.pv hu hku hp e
        rw [(n5 p (nT p (Or.inr hs))).2.2.2.2.2.2] at x1
        exact ⟨p, k, hp, e, hk2, x1, x2⟩
theorem law_files (h : GI P D B) {q : Int32} (hT : lT P < 20) : GI (flP P (lT P) q) (fset D (lT P) []) B := by
  have hkT := lT_free hT
  have hQ : NwQ P (flP P (lT P) q) (lT P) := by
    unfold NwQ flP
    simp only [Z_quota, Z_cmP]
    exact ⟨trivial, trivial, trivial, trivial, fun u hu => ⟨fset_n hu, fset_n hu, fset_n hu, fset_n hu, fu2 hu, fset_n hu, fset_n hu⟩⟩
  have ek : P_kind (flP P (lT P) q) (lT P) = if q = -1 then 0 else 1 := by
    simp only [flP, Z_quota, Z_cmP]
    exact fset_s
  have ep : P_prev (flP P (lT P) q) (lT P) = -1 := by
    simp only [flP, Z_quota, Z_cmP]
    exact fset_s
  have er : ∀ k, P_slot (flP P (lT P) q) (lT P) k = -1 := by
    intro k
    simp only [flP, Z_quota, Z_cmP]
    rw [fset_s]
  refine gNew h hT hkT hQ ?_ (fun k _ => Or.inl (er k)) (Or.inl ep) (fun k _ => Or.inl (er k)) ?_ ?_ ?_ (fun _ => ep) (fun u hu => fset_n hu) (fun _ => fset_s) ?_
  · rw [ek]
    by_cases c : q = -1
    · rw [if_pos c]; decide
    · rw [if_neg c]; decide
  · simp only [flP, Z_quota, Z_cmP]
    exact fset_s
  · simp only [flP, Z_quota, Z_cmP]
    exact fset_s
  · by_cases c : q = -1
    · right
      simp only [flP, Z_quota, Z_cmP]
      rw [fset_s]
      exact c
    · left
      rw [ek, if_neg c]
  · rintro b hb ⟨p, k, hp, e, -⟩
    exact m1_ne p (by omega) (e.symm.trans ep)
theorem law_fork (h : GI P D B) {s : Nat} (hs : s < 20) (hk : sK (P_kind P s)) (hT : lT P < 20) : GI (fkP P s (lT P)) (fset D (lT P) []) B := by
  have hkT := lT_free hT
  have hsT : s ≠ lT P := fun e => by rw [e, hkT] at hk; exact absurd hk (by decide)
  obtain ⟨f1, f2, f3, f4, f5⟩ := fkP_f (P := P) hsT
  refine gNew h hT hkT f1 (Or.inl (by rw [f2]; decide)) (fun k hk2 => by rw [f5]; exact h.pi.s s k hs hk2) (Or.inr ⟨s, hs, f4, hk⟩) (fun k _ => Or.inr ⟨s, hs, f4, f5 k⟩) ?_ ?_ (Or.inr ?_) (fun y => ?_) (fun u hu => fset_n hu) (fun _ => fset_s) ?_
  · simp only [fkP, Z_prev, Z_tkP, Z_cmP]
    exact fset_s
  · simp only [fkP, Z_prev, Z_tkP, Z_cmP]
    exact fset_s
  · simp only [fkP, Z_prev, Z_tkP, Z_cmP]
    exact fset_s
  · rw [f2] at y
    exact absurd y (by decide)
  · rintro b hb ⟨p, k, hp, e, hk2, e2, e3⟩
    have : p = s := nIe (by omega) (by omega) (e.symm.trans f4)
    rw [this, (f1.2.2.2.2 s hsT).2.2.2.2.2.2] at e2
    exact e3 ⟨k, hk2, by rw [f5]; exact e2⟩
theorem law_mark (h : GI P D B) {v : Int32} (hT : lT P < 20) : GI (cmP P (lT P) 4 v) D B := by
  have hkT := lT_free hT
  have ek : P_kind (cmP P (lT P) 4 v) (lT P) = 4 := fset_s
  refine gNew h hT hkT cm_nw (Or.inr ek) (fun k _ => Or.inl ?_) (Or.inl fset_s) (fun k _ => Or.inl ?_) fset_s fset_s (Or.inr fset_s) (fun _ => fset_s) (fun u _ => rfl) (fun y => ?_) ?_
  · simp only [Z_cmP]
    rw [fset_s]
  · simp only [Z_cmP]
    rw [fset_s]
  · rw [ek] at y
    exact absurd y (by decide)
  · rintro b hb ⟨p, k, hp, e, -⟩
    have e0 : P_prev (cmP P (lT P) 4 v) (lT P) = -1 := fset_s
    exact m1_ne p (by omega) (e.symm.trans e0)
/-- what a snapshot makes of a state -/
def SnG (P Q : PT) (f T : Nat) (tg : Int32) : Prop := P_time Q = P_time P + 1 ∧ P_size Q = P_size P ∧ P_birth Q = P_birth P ∧ P_kind Q = fset (P_kind P) T (2 + tg) ∧ P_made Q = fset (P_made P) T (P_time P) ∧ P_prev Q T = P_prev P f ∧ P_prev Q f = nI T ∧ (∀ u, u ≠ T → u ≠ f → P_prev Q u = P_prev P u) ∧ P_owner Q T = nI f ∧ (∀ u, u ≠ T → P_owner Q u = P_owner P u) ∧ P_tags Q T = tg ∧ (∀ u, u ≠ T → P_tags Q u = P_tags P u) ∧ P_quota Q T = -1 ∧ (∀ u, u ≠ T → P_quota Q u = P_quota P u) ∧ P_slot Q T = P_slot P f ∧ (∀ u, u ≠ T → P_slot Q u = P_slot P u)
theorem snP_g {f T : Nat} {tg : Int32} (hf : f ≠ T) : SnG P (snP P f T tg) f T tg := by
  unfold SnG snP
  simp only [Z_time, Z_sn5, Z_sn4, Z_sn3, Z_sn2, sn1, Z_tkP, Z_cmP]
  refine ⟨trivial, trivial, trivial, trivial, trivial, ?_, fset_s, fun u h1 h2 => ?_, fset_s, fun u hu => fu2 hu, fset_s, fun u hu => fu2 hu, fset_s, fun u hu => fset_n hu, ?_, fun u hu => fu2 hu⟩
  · rw [fset_n (fun e => hf e.symm), fset_s, fset_n hf]
  · rw [fset_n h2, fset_n h1, fset_n h1]
  · rw [fset_s, fset_n hf]
theorem law_snap (h : GI P D B) (hB : B ≤ 1000000) {f : Nat} (hf : f < 20) (hk : fK (P_kind P f)) {tg : Int32} (htg : tg = 0 ∨ tg = 1) (hT : lT P < 20) : GI (snP P f (lT P) tg) (snD P D f) (B + 1) := by
  have hkT := lT_free hT
  have hfT : f ≠ lT P := fun e => by rw [e, hkT] at hk; exact absurd hk (by decide)
  have hg := snP_g (P := P) (tg := tg) hfT
  generalize snP P f (lT P) tg = Q at hg ⊢
  unfold snD
  generalize lT P = T at hT hkT hfT hg ⊢
  obtain ⟨g1, g2, g3, g4, g5, g6, g7, g8, g9, g10, g11, g12, g13, g14, g15, g16⟩ := hg
  have hh : hK (P_kind P f) := Or.inl hk
  have nT : ∀ u, hK (P_kind P u) → u ≠ T := fun u y e => by rw [e, hkT] at y; exact absurd y (by decide)
  have ekT : P_kind Q T = 2 + tg := by rw [g4, fset_s]
  have hTs : sK (P_kind Q T) := by
    rw [ekT]
    rcases htg with e | e <;> (rw [e]; decide)
  have ek : ∀ u, u ≠ T → P_kind Q u = P_kind P u := fun u c => by rw [g4, fset_n c]
  have ks : ∀ u, sK (P_kind Q u) → u = T ∨ (u ≠ T ∧ u ≠ f ∧ sK (P_kind P u)) := by
    intro u y
    by_cases c : u = T
    · exact Or.inl c
    · rw [ek u c] at y
      exact Or.inr ⟨c, fun e => by rw [e] at y; exact f_ns hk y, y⟩
  have hq : ∀ t k b, hd Q t k b → (t ≠ T ∧ hd P t k b) ∨ (t = T ∧ hd P f k b) := by
    rintro t k b ⟨a1, a2, a3, a4, a5⟩
    by_cases c : t = T
    · rw [c, g15] at a5
      exact Or.inr ⟨c, hf, hh, a3, a4, a5⟩
    · rw [ek t c] at a2
      rw [g16 t c] at a5
      exact Or.inl ⟨c, a1, a2, a3, a4, a5⟩
  have keep : ∀ t k b, hd P t k b → hd Q t k b := by
    rintro t k b ⟨a1, a2, a3, a4, a5⟩
    have c := nT t a2
    exact ⟨a1, by rw [ek t c]; exact a2, a3, a4, by rw [g16 t c]; exact a5⟩
  have hsz : ∀ b, szN Q b = szN P b := fun b => by show (P_size Q b).toInt = _; rw [g2]
  have hbr : ∀ b, brI Q b = brI P b := fun b => by show (P_birth Q b).toInt = _; rw [g3]
  have htm : tmI Q = tmI P + 1 := by
    show (P_time Q).toInt = _
    rw [g1]
    exact tm_s h.j4 hB
  have hmk : ∀ t, t ≠ T → mkI Q t = mkI P t := fun t c => by show (P_made Q t).toInt = _; rw [g5, fset_n c]
  have hmT : mkI Q T = tmI P := by show (P_made Q T).toInt = _; rw [g5, fset_s]
  have hpm : ∀ t, t < 20 → hK (P_kind P t) → t ≠ f → pmI Q t = pmI P t := by
    intro t ht hkt c2
    have c := nT t hkt
    rcases h.pi.p ht hkt with z | ⟨p, hp, z, hs⟩
    · rw [pmI_m z, pmI_m ((g8 t c c2).trans z)]
    · rw [pmI_n hp z, pmI_n hp ((g8 t c c2).trans z), hmk p (nT p (Or.inr hs))]
  have hpT : pmI Q T = pmI P f := by
    rcases h.pi.p hf hh with z | ⟨p, hp, z, hs⟩
    · rw [pmI_m z, pmI_m (g6.trans z)]
    · rw [pmI_n hp z, pmI_n hp (g6.trans z), hmk p (nT p (Or.inr hs))]
  have hpf : pmI Q f = tmI P := by rw [pmI_n hT g7, hmT]
  have hle : ∀ t k b, hd P t k b → brI P b ≤ tmI P := fun t k b y => (h.j9 b y.2.2.2.1 (h.j7 t k b y)).2
  refine GS.gi ⟨⟨fun t ht => ?_, fun t ht hkt => ?_, fun t ht hkt => ?_, fun t k ht hk2 => ?_⟩, fun t ht => ?_, fun b hb => ?_, ?_, fun t ht hs => ?_, fun t p ht hs hp e => ?_, fun t k b y => ?_, fun t u k j b x1 x2 => ?_, fun b hb hp => ?_, fun t k b y hs => ?_, fun t p k b y hp e hl => ?_, fun t u k j b x1 x2 l1 l2 => ?_, fun b hb hp => ?_, fun s g hs hks hg e => ?_, ⟨fun t ht => ?_, fun t ht e => ?_⟩⟩ (fun u hu hku => ?_)
  · by_cases c : t = T
    · rw [c]
      exact Or.inr (Or.inr (Or.inr hTs))
    · rw [ek t c]
      exact h.pi.1 t ht
  · by_cases c : t = T
    · rw [c, g6]
      rcases h.pi.p hf hh with z | ⟨s, hs, z, hks⟩
      · exact Or.inl z
      · exact Or.inr ⟨s, hs, z, by rw [ek s (nT s (Or.inr hks))]; exact hks⟩
    · by_cases c2 : t = f
      · rw [c2, g7]
        exact Or.inr ⟨T, hT, rfl, hTs⟩
      · rw [ek t c] at hkt
        rw [g8 t c c2]
        rcases h.pi.p ht hkt with z | ⟨s, hs, z, hks⟩
        · exact Or.inl z
        · exact Or.inr ⟨s, hs, z, by rw [ek s (nT s (Or.inr hks))]; exact hks⟩
  · rcases ks t hkt with c | ⟨c, c2, hkt'⟩
    · rw [c, g9]
      exact ⟨f, hf, rfl, by rw [ek f hfT]; exact hk⟩
    · rw [g10 t c]
      obtain ⟨g, hg, z, hkg⟩ := h.pi.o ht hkt'
      exact ⟨g, hg, z, by rw [ek g (nT g (Or.inl hkg))]; exact hkg⟩
  · by_cases c : t = T
    · rw [c, g15]
      exact h.pi.s f k hf hk2
    · rw [g16 t c]
      exact h.pi.s t k ht hk2
  · by_cases c : t = T
    · rw [c]
      refine ⟨fun y => ?_, fun _ => Or.inr g13, fun y => absurd hTs y, fun y => ?_⟩
      · rw [ekT] at y
        rcases htg with z | z
        · right
          rw [g11, z]
        · rw [z] at y
          exact absurd (by decide) y
      · rw [y] at hTs
        exact absurd hTs (by decide)
    · rw [ek t c, g10 t c, g12 t c, g14 t c]
      obtain ⟨q1, q2, q3, q4⟩ := h.tq t ht
      refine ⟨q1, q2, q3, fun y => ?_⟩
      have c2 : t ≠ f := fun e => by rw [e] at y; rw [y] at hk; exact absurd hk (by decide)
      rw [g8 t c c2]
      exact q4 y
  · rw [hsz]
    exact h.j3 b hb
  · unfold i4
    rw [htm]
    have := h.j4
    unfold i4 at this
    omega
  · rw [htm]
    rcases ks t hs with c | ⟨c, c2, hs'⟩
    · rw [c, hmT]
      have := h.j4.1
      omega
    · rw [hmk t c]
      have := h.j5 t ht hs'
      omega
  · rcases ks t hs with c | ⟨c, c2, hs'⟩
    · rw [c, g6] at e
      have hsp := h.pv hf hh hp e
      rw [c, hmT, hmk p (nT p (Or.inr hsp))]
      exact (h.j5 p hp hsp).2
    · rw [g8 t c c2] at e
      have hsp := h.pv ht (Or.inr hs') hp e
      rw [hmk t c, hmk p (nT p (Or.inr hsp))]
      exact h.j6 t p ht hs' hp e
  · rw [hsz]
    rcases hq t k b y with ⟨-, z⟩ | ⟨-, z⟩
    · exact h.j7 t k b z
    · exact h.j7 f k b z
  · rcases hq t k b x1 with ⟨-, z⟩ | ⟨-, z⟩ <;> rcases hq u j b x2 with ⟨-, z2⟩ | ⟨-, z2⟩
    · exact h.j8 _ _ k j b z z2
    · exact h.j8 _ _ k j b z z2
    · exact h.j8 _ _ k j b z z2
    · exact h.j8 _ _ k j b z z2
  · rw [hsz] at hp
    rw [hbr, htm]
    have := h.j9 b hb hp
    omega
  · rw [hbr]
    rcases hq t k b y with ⟨c, z⟩ | ⟨c, z⟩
    · rw [hmk t c]
      rw [ek t c] at hs
      exact h.j10 t k b z hs
    · rw [c, hmT]
      exact hle f k b z
  · rw [hbr] at hl
    rcases hq t k b y with ⟨c, z⟩ | ⟨c, z⟩
    · by_cases c2 : t = f
      · rw [c2, g7] at e
        have : T = p := nIe (by omega) (by omega) e
        rw [← this, g15]
        rw [c2] at z
        exact z.2.2.2.2
      · rw [g8 t c c2] at e
        have hsp := h.pv z.1 z.2.1 hp e
        have hpT := nT p (Or.inr hsp)
        rw [hmk p hpT] at hl
        rw [g16 p hpT]
        exact h.j11 t p k b z hp e hl
    · rw [c, g6] at e
      have hsp := h.pv hf hh hp e
      have hpT := nT p (Or.inr hsp)
      rw [hmk p hpT] at hl
      rw [g16 p hpT]
      exact h.j11 f p k b z hp e hl
  · have red : ∀ t k b, hd Q t k b → pmI Q t < brI Q b → (t ≠ T ∧ t ≠ f ∧ hd P t k b ∧ pmI P t < brI P b) ∨ (t = T ∧ hd P f k b ∧ pmI P f < brI P b) := by
      intro t k b y hl
      rw [hbr] at hl
      rcases hq t k b y with ⟨c, z⟩ | ⟨c, z⟩
      · by_cases c2 : t = f
        · exfalso
          rw [c2, hpf] at hl
          have := hle t k b z
          omega
        · rw [hpm t z.1 z.2.1 c2] at hl
          exact Or.inl ⟨c, c2, z, hl⟩
      · rw [c, hpT] at hl
        exact Or.inr ⟨c, z, hl⟩
    rcases red t k b x1 l1 with ⟨c1, c2, z1, z2⟩ | ⟨c1, z1, z2⟩ <;> rcases red u j b x2 l2 with ⟨c3, c4, z3, z4⟩ | ⟨c3, z3, z4⟩
    · exact h.j12 t u k j b z1 z3 z2 z4
    · exact absurd (h.j12 t f k j b z1 z3 z2 z4) c2
    · exact absurd (h.j12 u f j k b z3 z1 z4 z2) c4
    · rw [c1, c3]
  · rw [hsz] at hp
    obtain ⟨t, k, y⟩ := h.j13 b hb hp
    exact ⟨t, k, keep t k b y⟩
  · rcases ks s hks with c | ⟨c, c2, hks'⟩
    · rw [c, g9] at e
      have efg : f = g := nIe (by omega) (by omega) e
      refine ⟨f, hf, by rw [ek f hfT]; exact hh, by rw [g7, c], Or.inl efg⟩
    · rw [g10 s c] at e
      obtain ⟨n, hn, hkn, en, w⟩ := h.j14 s g hs hks' hg e
      by_cases cn : n = f
      · rw [cn] at en w
        have efg : f = g := w.resolve_right (fun y => f_ns hk y.1)
        refine ⟨T, hT, Or.inr hTs, by rw [g6]; exact en, Or.inr ⟨hTs, by rw [g9, efg]⟩⟩
      · have cT := nT n hkn
        exact ⟨n, hn, by rw [ek n cT]; exact hkn, by rw [g8 n cT cn]; exact en, by rw [ek n cT, g10 n cT]; exact w⟩
  · by_cases c : t = T
    · rw [c, g6]
      exact h.j15.1 f hf
    · by_cases c2 : t = f
      · rw [c2, g7]
        exact Or.inr ⟨T, hT, rfl⟩
      · rw [g8 t c c2]
        exact h.j15.1 t ht
  · by_cases c : t = T
    · rw [c, g6] at e
      rcases h.pi.p hf hh with z | ⟨s, hs, z, hks⟩
      · exact m1_ne T (by omega) (e.symm.trans z)
      · exact nT s (Or.inr hks) (nIe (by omega) (by omega) (z.symm.trans e))
    · by_cases c2 : t = f
      · rw [c2, g7] at e
        exact hfT (nIe (by omega) (by omega) e).symm
      · rw [g8 t c c2] at e
        exact h.j15.2 t ht e
  · rw [lat_cg g3]
    have row : ∀ p, p < 20 → ∀ u, u < 20 → hK (P_kind P u) → P_prev P u = nI p → P_slot Q p = P_slot P p := by
      intro p hp u hu hku e
      exact g16 p (nT p (Or.inr (h.pv hu hku hp e)))
    by_cases c : u = f
    · rw [c, fset_s]
      refine ⟨List.Pairwise.nil, fun b => ⟨fun y => absurd y List.not_mem_nil, fun y => ?_⟩⟩
      exfalso
      obtain ⟨-, p, k, hp, e, hk2, e2, e3⟩ := y
      rw [g7] at e
      have : T = p := nIe (by omega) (by omega) e
      rw [← this, g15] at e2
      exact e3 ⟨k, hk2, by rw [g16 f hfT]; exact e2⟩
    · rw [fset_n c]
      by_cases c2 : u = T
      · rw [c2, fset_s]
        obtain ⟨d1, d2⟩ := h.dk f hf hh
        refine ⟨d1, fun b => ?_⟩
        rw [d2 b]
        refine and_congr_right (fun _ => ?_)
        unfold dd held
        rw [g6, g15]
        constructor
        · rintro ⟨p, k, hp, e, hk2, x1, x2⟩
          exact ⟨p, k, hp, e, hk2, by rw [row p hp f hf hh e]; exact x1, x2⟩
        · rintro ⟨p, k, hp, e, hk2, x1, x2⟩
          rw [row p hp f hf hh e] at x1
          exact ⟨p, k, hp, e, hk2, x1, x2⟩
      · rw [fset_n c2]
        rw [ek u c2] at hku
        obtain ⟨d1, d2⟩ := h.dk u hu hku
        refine ⟨d1, fun b => ?_⟩
        rw [d2 b]
        refine and_congr_right (fun _ => ?_)
        unfold dd held
        rw [g8 u c2 c, g16 u c2]
        constructor
        · rintro ⟨p, k, hp, e, hk2, x1, x2⟩
          exact ⟨p, k, hp, e, hk2, by rw [row p hp u hu hku e]; exact x1, x2⟩
        · rintro ⟨p, k, hp, e, hk2, x1, x2⟩
          rw [row p hp u hu hku e] at x1
          exact ⟨p, k, hp, e, hk2, x1, x2⟩
end GC
