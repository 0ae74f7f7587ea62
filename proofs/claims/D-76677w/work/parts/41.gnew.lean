/-! ===== the law of what comes, is tagged, rolled back, promoted, of files removed ===== -/
set_option maxRecDepth 100000
set_option maxHeartbeats 400000
section GN
variable {P Q : PT} {D : DT} {B : Nat}
theorem law_tag (h : GI P D B) {i v : Int32} : GI (o_tag P i v).2 D B := by
  unfold o_tag
  by_cases c : inI v 0 9
  · rw [if_pos c]
    by_cases c2 : ask P i 3 = 0
    · rw [if_pos c2]
      obtain ⟨t, ht, rfl, hk⟩ := (ask_0 (by decide)).mp c2
      rw [nI_clamp (by omega)]
      have hk3 : P_kind P t = 3 := by
        rcases hk with y | ⟨-, y⟩ | ⟨-, y⟩
        · exact y
        · exact absurd y (by decide)
        · exact absurd y (by decide)
      refine ⟨h.pi, fun u hu => ?_, h.j3, h.j4, h.j5, h.j6, h.j7, h.j8, h.j9, h.j10, h.j11, h.j12, h.j13, h.j14, h.j15, h.dk⟩
      obtain ⟨q1, q2, q3, q4⟩ := h.tq u hu
      refine ⟨fun y => ?_, q2, q3, q4⟩
      have y' : ¬ P_kind P u = 3 := y
      have hut : u ≠ t := fun e => y' (by rw [e]; exact hk3)
      show P_kind P u = -1 ∨ fset (P_tags P) t v u = 0
      rw [fset_n hut]
      exact q1 y'
    · rw [if_neg c2]
      exact h
  · rw [if_neg c]
    exact h
theorem tm_s (h : i4 P B) (hB : B ≤ 1000000) : (P_time P + 1).toInt = tmI P + 1 := by
  obtain ⟨h1, h2⟩ := h
  have h0 : ¬ P_time P < 0 := by
    rw [lt_i, i0_t]
    show ¬ (P_time P).toInt < 0
    have : 1 ≤ (P_time P).toInt := h1
    omega
  obtain ⟨j, hj, e⟩ := nI_of h0
  have e2 : tmI P = j := by
    show (P_time P).toInt = _
    rw [e, nI_toInt hj]
  have : j < 2 ^ 31 - 1 := by omega
  show (P_time P + 1).toInt = tmI P + 1
  rw [e2, e, nI_1, nI_toInt (by omega)]
  omega
theorem law_tick (h : GI P D B) (hB : B ≤ 1000000) : GI (o_tick P).2 D B := by
  unfold o_tick
  by_cases c : P_time P < 100000
  · rw [if_pos c]
    have et := tm_s h.j4 hB
    have c' : tmI P < 100000 := by
      rw [lt_i] at c
      have e : (100000 : Int32).toInt = 100000 := by decide
      rw [e] at c
      exact c
    have et' : tmI (P_time_ P (P_time P + 1)) = tmI P + 1 := et
    refine ⟨h.pi, h.tq, h.j3, ?_, ?_, h.j6, h.j7, h.j8, ?_, h.j10, h.j11, h.j12, h.j13, h.j14, h.j15, h.dk⟩
    · unfold i4
      have := h.j4.1
      dsimp only
      rw [et']
      omega
    · intro t ht hs
      have := h.j5 t ht hs
      dsimp only
      rw [et']
      have e : mkI (P_time_ P (P_time P + 1)) t = mkI P t := rfl
      rw [e]
      omega
    · intro b hb hp
      have := h.j9 b hb hp
      dsimp only
      rw [et']
      have e : brI (P_time_ P (P_time P + 1)) b = brI P b := rfl
      rw [e]
      omega
  · rw [if_neg c]
    exact h
/-! freed along a row -/
theorem flS_fr (S : Nat → Int32) (pv : Int32) : ∀ n, P_freed (flS P S pv n) = P_freed P + nI (cn (flB P S pv) n) := by
  intro n
  induction n with
  | zero => exact (i_0 _).symm
  | succ n ih =>
    by_cases c : flB P S pv n
    · rw [flS_t c, cn_t c]
      simp only [Z_fbP]
      rw [ih, Int32.add_assoc, nI_1]
    · rw [flS_f c, cn_f c]
      exact ih
theorem flS_sz (S : Nat → Int32) (pv : Int32) (b : Nat) : ∀ n, P_size (flS P S pv n) b = @ite Int32 (∃ k, k < n ∧ flB P S pv k ∧ (S k).toNatClampNeg = b) (Classical.propDecidable _) 0 (P_size P b) := by
  intro n
  induction n with
  | zero => exact (@if_neg _ (Classical.propDecidable _) (fun ⟨k, hk, _⟩ => by omega) _ _ _).symm
  | succ n ih =>
    by_cases c : flB P S pv n
    · rw [flS_t c]
      simp only [Z_fbP]
      by_cases e : b = (S n).toNatClampNeg
      · rw [e, fset_s]
        exact (@if_pos _ (Classical.propDecidable _) ⟨n, by omega, c, rfl⟩ _ _ _).symm
      · rw [fset_n e, ih]
        by_cases c2 : ∃ k, k < n ∧ flB P S pv k ∧ (S k).toNatClampNeg = b
        · rw [@if_pos _ (Classical.propDecidable _) c2]
          obtain ⟨k, hk, y⟩ := c2
          exact (@if_pos _ (Classical.propDecidable _) ⟨k, by omega, y⟩ _ _ _).symm
        · rw [@if_neg _ (Classical.propDecidable _) c2]
          refine (@if_neg _ (Classical.propDecidable _) (fun y => ?_) _ _ _).symm
          obtain ⟨k, hk, y1, y2⟩ := y
          by_cases ek : k = n
          · rw [ek] at y2
            exact e y2.symm
          · exact c2 ⟨k, by omega, y1, y2⟩
    · rw [flS_f c, ih]
      by_cases c2 : ∃ k, k < n ∧ flB P S pv k ∧ (S k).toNatClampNeg = b
      · rw [@if_pos _ (Classical.propDecidable _) c2]
        obtain ⟨k, hk, y⟩ := c2
        exact (@if_pos _ (Classical.propDecidable _) ⟨k, by omega, y⟩ _ _ _).symm
      · rw [@if_neg _ (Classical.propDecidable _) c2]
        refine (@if_neg _ (Classical.propDecidable _) (fun y => ?_) _ _ _).symm
        obtain ⟨k, hk, y1, y2⟩ := y
        by_cases ek : k = n
        · rw [ek] at y1
          exact c y1
        · exact c2 ⟨k, by omega, y1, y2⟩
theorem fl_gc {X : PT} {S : Nat → Int32} {pv : Int32} (hz : P_size X = P_size P) (hS : ∀ k, k < 12 → S k = -1 ∨ ∃ b : Nat, b < 96 ∧ S k = nI b) (inj : ∀ k j b, k < 12 → j < 12 → b < 96 → S k = nI b → S j = nI b → k = j) (hg : ∀ b, b < 96 → (gcB X b ↔ (∃ k, k < 12 ∧ S k = nI b) ∧ ¬ P_birth P b ≤ pv)) : gcS X 96 = P_size (flS P S pv 12) ∧ gcN X = cn (flB P S pv) 12 := by
  constructor
  · funext b
    rw [flS_sz]
    by_cases hb : b < 96
    · by_cases c : gcB X b
      · rw [gcS_z hb c]
        obtain ⟨⟨k, hk, e⟩, y⟩ := (hg b hb).mp c
        refine (@if_pos _ (Classical.propDecidable _) ⟨k, hk, ⟨?_, ?_⟩, ?_⟩ _ _ _).symm
        · rw [e]; exact m1_ne b (by omega)
        · rw [e, nI_clamp (by omega)]; exact y
        · rw [e, nI_clamp (by omega)]
      · rw [gcS_k c, hz]
        refine (@if_neg _ (Classical.propDecidable _) (fun y => c ((hg b hb).mpr ?_)) _ _ _).symm
        obtain ⟨k, hk, ⟨y1, y2⟩, y3⟩ := y
        rw [y3] at y2
        refine ⟨⟨k, hk, ?_⟩, y2⟩
        rcases hS k hk with z | ⟨d, hd', z⟩
        · exact absurd z y1
        · rw [z, nI_clamp (by omega)] at y3
          rw [z, y3]
    · have n1 : gcS X 96 b = P_size X b := @if_neg _ (Classical.propDecidable _) (fun z => hb z.1) _ _ _
      rw [n1, hz]
      refine (@if_neg _ (Classical.propDecidable _) (fun y => hb ?_) _ _ _).symm
      obtain ⟨k, hk, ⟨y1, y2⟩, y3⟩ := y
      rcases hS k hk with z | ⟨d, hd', z⟩
      · exact absurd z y1
      · rw [z, nI_clamp (by omega)] at y3
        omega
  · unfold gcN
    rw [cn_congr hg, cn_re (Q := fun b => ¬ P_birth P b ≤ pv) 12 hS inj]
    rfl
theorem GI.inj (h : GI P D B) {f : Nat} (hf : f < 20) (hk : hK (P_kind P f)) : ∀ k j b, k < 12 → j < 12 → b < 96 → P_slot P f k = nI b → P_slot P f j = nI b → k = j := fun k j b hk2 hj hb e1 e2 => h.j8 f f k j b ⟨hf, hk, hk2, hb, e1⟩ ⟨hf, hk, hj, hb, e2⟩
theorem nle {x y : Int32} : ¬ x ≤ y ↔ y.toInt < x.toInt := by
  rw [le_i]
  omega
theorem law_rollback (h : GI P D B) {i v : Int32} {P' : PT} {D' : DT} (r : rbR P D i v P' D') : v = (o_rollback P i).1 ∧ P' = (o_rollback P i).2 ∧ GI P' D' B := by
  unfold o_rollback
  rcases r with ⟨c, rfl, rfl, rfl⟩ | ⟨f, hf, rfl, hk, ⟨c, x1, x2, x3⟩ | ⟨c, rfl, rfl, rfl⟩⟩
  · rw [if_neg c]
    exact ⟨rfl, rfl, h⟩
  · have hn : ¬ P_kind P f = -1 := hK_m1 (Or.inl hk)
    rw [if_pos (ask_ok hf hn ((uKd_0 _).mpr hk)), nI_clamp (by omega), if_pos c, x1, x2, x3]
    exact ⟨rfl, rfl, h⟩
  · have hh : hK (P_kind P f) := Or.inl hk
    have hn : ¬ P_kind P f = -1 := hK_m1 hh
    rw [if_pos (ask_ok hf hn ((uKd_0 _).mpr hk)), nI_clamp (by omega), if_neg c]
    rcases h.pi.p hf hh with z | ⟨p, hp, z, hs⟩
    · exact absurd z c
    · have epn := pn_n hp z
      have hrw : rwO P f (P_slot P p) := fun k hk2 => Or.inr (Or.inr ⟨p, hp, z, rfl⟩)
      have erow : tkP P f (pn P f) = rowP P f (P_slot P p) := by
        unfold tkP rowP
        rw [epn]
      obtain ⟨g1, g2⟩ := fl_gc (P := P) (X := rowP P f (P_slot P p)) (S := P_slot P f) (pv := pm P f) (by simp only [Z_rowP]) (fun k hk2 => h.pi.s f k hf hk2) (h.inj hf hh) (fun b hb => by
        rw [gF_gcB h hf hk hrw hb, nle]
        constructor
        · rintro ⟨k, y1, y2, y3⟩
          exact ⟨⟨k, y1.2.2.1, y1.2.2.2.2⟩, y2⟩
        · rintro ⟨⟨k, hk2, e⟩, y2⟩
          have hhd : hd P f k b := ⟨hf, hh, hk2, hb, e⟩
          refine ⟨k, hhd, y2, fun y => ?_⟩
          have := h.j10 p k b ⟨hp, Or.inr hs, hk2, hb, y⟩ hs
          have e3 : (pm P f).toInt = mkI P p := pmI_n hp z
          rw [e3] at y2
          have : brI P b ≤ mkI P p := this
          have y2' : mkI P p < brI P b := y2
          omega)
      rw [erow]
      obtain ⟨f1, f2, f3, f4, f5, f6, f7, f8, f9⟩ := flS_e P (P_slot P f) (pm P f) 12
      have f10 := flS_fr (P := P) (P_slot P f) (pm P f) 12
      refine ⟨by rw [g2], ?_, ?_⟩
      · refine PT_ext ?_ ?_ ?_ ?_ ?_ ?_ ?_ ?_ ?_ ?_ ?_ <;> simp only [rbP, Z_slot, Z_gcP, Z_rowP, f1, f2, f3, f4, f5, f6, f7, f8, f9, f10, g1, g2, epn]
      · have eP : rbP P f = gcP (rowP P f (P_slot P p)) := by
          refine PT_ext ?_ ?_ ?_ ?_ ?_ ?_ ?_ ?_ ?_ ?_ ?_ <;> simp only [rbP, Z_slot, Z_gcP, Z_rowP, f1, f2, f3, f4, f5, f6, f7, f8, f9, f10, g1, g2, epn]
        rw [eP]
        refine (gF h hf hk hrw (fun k hk2 => h.pi.s p k hp hk2)).gi (gF_dk h hk (fun u hu => fset_n hu) ?_)
        rw [fset_s]
        refine ⟨List.Pairwise.nil, fun b => ⟨fun y => absurd y List.not_mem_nil, fun y => ?_⟩⟩
        exfalso
        obtain ⟨-, q, k, hq, e1, hk2, e2, e3⟩ := y
        obtain ⟨z1, z2, z3, z4, z5, z6, z7, z8, z9, z10⟩ := Z_gr P f (P_slot P p)
        rw [z4] at e1
        have hqp : q = p := nIe (by omega) (by omega) (e1.symm.trans z)
        have hpf : p ≠ f := fun y => by rw [y] at hs; exact f_ns hk hs
        rw [hqp, z8, fset_n hpf] at e2
        refine e3 ⟨k, hk2, ?_⟩
        rw [z8, fset_s]
        exact e2
/-! a thing gone that nothing points to -/
theorem gKill (h : GS P B) {f : Nat} (hf : f < 20) (hns : ¬ sK (P_kind P f)) (hno : ∀ s, s < 20 → sK (P_kind P s) → ¬ P_owner P s = nI f) (hem : ∀ k b, ¬ hd P f k b) (e1 : P_kind Q = fset (P_kind P) f (-1)) (e2 : ∀ u, u ≠ f → P_slot Q u = P_slot P u) (e3 : SO Q) (e4 : P_time Q = P_time P) (e5 : P_made Q = P_made P) (e6 : P_prev Q = P_prev P) (e7 : P_owner Q = P_owner P) (e8 : P_quota Q = P_quota P) (e9 : P_tags Q = P_tags P) (e10 : P_size Q = P_size P) (e11 : P_birth Q = P_birth P) : GS Q B := by
  obtain ⟨h1, h2, h3, h4, h5, h6, h7, h8, h9, h10, h11, h12, h13, h14, h15⟩ := h
  have kk : ∀ t, hK (P_kind Q t) → t ≠ f ∧ hK (P_kind P t) := by
    intro t ht
    rw [e1] at ht
    by_cases c : t = f
    · rw [c, fset_s] at ht
      exact absurd ht (by decide)
    · rw [fset_n c] at ht
      exact ⟨c, ht⟩
  have ks : ∀ t, sK (P_kind Q t) → t ≠ f ∧ sK (P_kind P t) := by
    intro t ht
    have := kk t (Or.inr ht)
    rw [e1, fset_n this.1] at ht
    exact ⟨this.1, ht⟩
  have hq : ∀ t k b, hd Q t k b ↔ hd P t k b := by
    intro t k b
    constructor
    · rintro ⟨a1, a2, a3, a4, a5⟩
      obtain ⟨c, a2'⟩ := kk t a2
      rw [e2 t c] at a5
      exact ⟨a1, a2', a3, a4, a5⟩
    · intro hh
      have c : t ≠ f := fun e => hem k b (by rw [← e]; exact hh)
      obtain ⟨a1, a2, a3, a4, a5⟩ := hh
      refine ⟨a1, ?_, a3, a4, by rw [e2 t c]; exact a5⟩
      rw [e1, fset_n c]
      exact a2
  have hpm : ∀ t, pmI Q t = pmI P t := by
    intro t
    show (pm Q t).toInt = (pm P t).toInt
    unfold pm pn
    rw [e5, e6]
  have hbr : ∀ b, brI Q b = brI P b := fun b => by show (P_birth Q b).toInt = _; rw [e11]
  have hmk : ∀ b, mkI Q b = mkI P b := fun b => by show (P_made Q b).toInt = _; rw [e5]
  have hsz : ∀ b, szN Q b = szN P b := fun b => by show (P_size Q b).toInt = _; rw [e10]
  have htm : tmI Q = tmI P := by show (P_time Q).toInt = _; rw [e4]
  refine ⟨⟨fun t ht => ?_, fun t ht hk => ?_, fun t ht hk => ?_, e3⟩, fun t ht => ?_, fun b hb => ?_, ?_, fun t ht hs => ?_, fun t p ht hs hp e => ?_, fun t k b hh => ?_, fun t u k j b g1 g2 => ?_, fun b hb hp => ?_, fun t k b hh hs => ?_, fun t p k b hh hp e hle => ?_, fun t u k j b g1 g2 l1 l2 => ?_, fun b hb hp => ?_, fun s g hs hks hg e => ?_, ?_⟩
  · rw [e1]
    by_cases c : t = f
    · rw [c, fset_s]
      exact Or.inl rfl
    · rw [fset_n c]
      exact h1.1 t ht
  · obtain ⟨c, hk'⟩ := kk t hk
    rw [e6]
    rcases h1.p ht hk' with z | ⟨p, hp, z, hs⟩
    · exact Or.inl z
    · refine Or.inr ⟨p, hp, z, ?_⟩
      rw [e1, fset_n (fun y => by rw [y] at hs; exact hns hs)]
      exact hs
  · obtain ⟨c, hk'⟩ := ks t hk
    rw [e7]
    obtain ⟨g, hg, z, hkg⟩ := h1.o ht hk'
    refine ⟨g, hg, z, ?_⟩
    rw [e1, fset_n (fun y => hno t ht hk' (by rw [z, y]))]
    exact hkg
  · rw [e1, e6, e7, e8, e9]
    obtain ⟨q1, q2, q3, q4⟩ := h2 t ht
    by_cases c : t = f
    · rw [c, fset_s]
      exact ⟨fun _ => Or.inl rfl, fun _ => Or.inl rfl, fun _ => Or.inl rfl, fun y => absurd y (by decide)⟩
    · rw [fset_n c]
      exact ⟨q1, q2, q3, q4⟩
  · rw [hsz]
    exact h3 b hb
  · unfold i4
    rw [htm]
    exact h4
  · rw [hmk, htm]
    exact h5 t ht (ks t hs).2
  · rw [e6] at e
    rw [hmk, hmk]
    exact h6 t p ht (ks t hs).2 hp e
  · rw [hsz]
    exact h7 t k b ((hq t k b).mp hh)
  · exact h8 t u k j b ((hq t k b).mp g1) ((hq u j b).mp g2)
  · rw [hsz] at hp
    rw [hbr, htm]
    exact h9 b hb hp
  · rw [hbr, hmk]
    exact h10 t k b ((hq t k b).mp hh) (ks t hs).2
  · rw [e6] at e
    rw [hbr, hmk] at hle
    have g := (hq t k b).mp hh
    have hs : sK (P_kind P p) := by
      rcases h1.p g.1 g.2.1 with z | ⟨q, hq', z, hs⟩
      · exact absurd (e.symm.trans z) (m1_ne p (by omega))
      · rw [nIe (by omega) (by omega) (e.symm.trans z)]
        exact hs
    rw [e2 p (fun y => by rw [y] at hs; exact hns hs)]
    exact h11 t p k b g hp e hle
  · rw [hpm, hbr] at l1 l2
    exact h12 t u k j b ((hq t k b).mp g1) ((hq u j b).mp g2) l1 l2
  · rw [hsz] at hp
    obtain ⟨t, k, hh⟩ := h13 b hb hp
    exact ⟨t, k, (hq t k b).mpr hh⟩
  · rw [e7] at e
    obtain ⟨c, hks'⟩ := ks s hks
    obtain ⟨n, hn, hkn, en, w⟩ := h14 s g hs hks' hg e
    have hnf : n ≠ f := by
      intro y
      rcases w with w | ⟨w, -⟩
      · exact hno s hs hks' (by rw [e, ← w, y])
      · rw [y] at w
        exact hns w
    refine ⟨n, hn, ?_, by rw [e6]; exact en, ?_⟩
    · rw [e1, fset_n hnf]
      exact hkn
    · rw [e1, fset_n hnf, e7]
      exact w
  · unfold i15 PO
    rw [e6]
    exact h15
theorem dk_kill (h : GI P D B) {f : Nat} (hns : ¬ sK (P_kind P f)) (e1 : P_kind Q = fset (P_kind P) f (-1)) (e2 : ∀ u, u ≠ f → P_slot Q u = P_slot P u) (e6 : P_prev Q = P_prev P) (e11 : P_birth Q = P_birth P) : DK Q D := by
  intro u hu hku
  rw [e1] at hku
  have c : u ≠ f := fun y => by rw [y, fset_s] at hku; exact absurd hku (by decide)
  rw [fset_n c] at hku
  rw [lat_cg e11]
  obtain ⟨d1, d2⟩ := h.dk u hu hku
  refine ⟨d1, fun b => ?_⟩
  rw [d2 b]
  refine and_congr_right (fun _ => ?_)
  unfold dd held
  rw [e6, e2 u c]
  constructor
  · rintro ⟨p, k, hp, e, hk, x1, x2⟩
    have hs := h.pv hu hku hp e
    exact ⟨p, k, hp, e, hk, by rw [e2 p (fun y => by rw [y] at hs; exact hns hs)]; exact x1, x2⟩
  · rintro ⟨p, k, hp, e, hk, x1, x2⟩
    have hs := h.pv hu hku hp e
    rw [e2 p (fun y => by rw [y] at hs; exact hns hs)] at x1
    exact ⟨p, k, hp, e, hk, x1, x2⟩
theorem pvR_e (h : GI P D B) {f : Nat} (hf : f < 20) (hns : ¬ sK (P_kind P f)) : pvR P f 20 = P_prev P := by
  funext j
  unfold pvR
  refine if_neg (fun y => ?_)
  exact hns (h.pv y.1 y.2.1 hf y.2.2)
theorem law_rmF (h : GI P D B) {f : Nat} (hf : f < 20) (hk : fK (P_kind P f)) (hno : ¬ 0 < nOw P (nI f)) : nI (cn (flB (P_kind_ P (fset (P_kind P) f (-1))) (P_slot P f) (pm P f)) 12) = (o_removed P f).1 ∧ rfP P f = (o_removed P f).2 ∧ GI (rfP P f) D B := by
  have hh : hK (P_kind P f) := Or.inl hk
  have hns : ¬ sK (P_kind P f) := f_ns hk
  have hrw : rwO P f (fun _ => -1) := fun k _ => Or.inl rfl
  obtain ⟨y1, y2, y3, y4, y5, y6, y7, y8, y9, y10, y11⟩ := Z_rmP P f
  have hgb : ∀ b, b < 96 → (gcB (rmP P f) b ↔ gcB (rowP P f (fun _ => -1)) b) := by
    intro b hb
    unfold gcB unh
    simp only [Z_rowP]
    rw [y3, y9, y10]
    refine and_congr_right (fun _ => ?_)
    constructor
    · intro q u j hu hj hku e
      by_cases c : u = f
      · rw [c, fset_s] at e
        exact m1_ne b (by omega) e.symm
      · rw [fset_n c] at e
        exact q u j hu hj (by rw [fset_n c]; exact hku) e
    · intro q u j hu hj hku e
      by_cases c : u = f
      · rw [c, fset_s] at hku
        exact absurd hku (by decide)
      · rw [fset_n c] at hku
        exact q u j hu hj hku (by rw [fset_n c]; exact e)
  obtain ⟨g1, g2⟩ := fl_gc (P := P_kind_ P (fset (P_kind P) f (-1))) (X := rmP P f) (S := P_slot P f) (pv := pm P f) y10 (fun k hk2 => h.pi.s f k hf hk2) (h.inj hf hh) (fun b hb => by
    rw [hgb b hb, gF_gcB h hf hk hrw hb, nle]
    constructor
    · rintro ⟨k, x1, x2, x3⟩
      exact ⟨⟨k, x1.2.2.1, x1.2.2.2.2⟩, x2⟩
    · rintro ⟨⟨k, hk2, e⟩, x2⟩
      exact ⟨k, ⟨hf, hh, hk2, hb, e⟩, x2, fun y => m1_ne b (by omega) y.symm⟩)
  obtain ⟨f1, f2, f3, f4, f5, f6, f7, f8, f9⟩ := flS_e (P_kind_ P (fset (P_kind P) f (-1))) (P_slot P f) (pm P f) 12
  have f10 := flS_fr (P := P_kind_ P (fset (P_kind P) f (-1))) (P_slot P f) (pm P f) 12
  have epv := pvR_e h hf hns
  have eP : rfP P f = gcP (rmP P f) := by
    unfold rfP
    refine PT_ext ?_ ?_ ?_ ?_ ?_ ?_ ?_ ?_ ?_ ?_ ?_ <;> simp only [Z_gcP, Z_rmP, f1, f2, f3, f4, f5, f6, f7, f8, f9, f10, g1, g2, Z_kind, epv]
  have own : ∀ s, s < 20 → sK (P_kind P s) → ¬ P_owner P s = nI f := by
    intro s hs hks e
    refine hno ?_
    have := cn_lt (p := fun _ => False) (q := fun t => sK (P_kind P t) ∧ P_owner P t = nI f) (j := s) ⟨hks, e⟩ (fun y => y) 20 hs (fun i _ y => y.elim)
    unfold nOw
    omega
  refine ⟨?_, eP, ?_⟩
  · show _ = nI (gcN (rmP P f))
    rw [g2]
  · rw [eP]
    obtain ⟨z1, z2, z3, z4, z5, z6, z7, z8, z9, z10⟩ := Z_gr P f (fun _ => -1)
    have hg1 := gF h hf hk hrw (fun k _ => Or.inl rfl)
    have hsz : P_size (gcP (rmP P f)) = P_size (gcP (rowP P f (fun _ => -1))) := by
      simp only [Z_gcP]
      funext b
      by_cases hb : b < 96
      · by_cases c : gcB (rmP P f) b
        · rw [gcS_z hb c, gcS_z hb ((hgb b hb).mp c)]
        · rw [gcS_k c, gcS_k (fun y => c ((hgb b hb).mpr y)), y10]
          simp only [Z_rowP]
      · have n1 : ∀ X, gcS X 96 b = P_size X b := fun X => @if_neg _ (Classical.propDecidable _) (fun z => hb z.1) _ _ _
        rw [n1, n1, y10]
        simp only [Z_rowP]
    refine GS.gi (gKill hg1 (f := f) hf ?_ ?_ ?_ ?_ ?_ ?_ ?_ ?_ ?_ ?_ ?_ ?_ hsz ?_) (dk_kill h hns ?_ (fun u _ => ?_) ?_ ?_)
    · rw [z2]; exact hns
    · rw [z2, z5]; exact own
    · rintro k b ⟨-, -, -, hb, e⟩
      rw [z8, fset_s] at e
      exact m1_ne b (by omega) e.symm
    · simp only [Z_gcP, Z_rmP, z2]
    · intro u hu
      simp only [Z_gcP, Z_rmP, z8]
      rw [fset_n hu]
    · intro u k hu hk2
      simp only [Z_gcP, Z_rmP]
      exact h.pi.s u k hu hk2
    · simp only [Z_gcP, Z_rmP, z1]
    · simp only [Z_gcP, Z_rmP, z3]
    · simp only [Z_gcP, Z_rmP, z4, epv]
    · simp only [Z_gcP, Z_rmP, z5]
    · simp only [Z_gcP, Z_rmP, z6]
    · simp only [Z_gcP, Z_rmP, z7]
    · simp only [Z_gcP, Z_rmP, z10]
    · simp only [Z_gcP, Z_rmP]
    · simp only [Z_gcP, Z_rmP]
    · simp only [Z_gcP, Z_rmP, epv]
    · simp only [Z_gcP, Z_rmP]
theorem GI.gs (h : GI P D B) : GS P B := ⟨h.pi, h.tq, h.j3, h.j4, h.j5, h.j6, h.j7, h.j8, h.j9, h.j10, h.j11, h.j12, h.j13, h.j14, h.j15⟩
theorem law_rmB (h : GI P D B) {t : Nat} (ht : t < 20) (hk : P_kind P t = 4) : (0 : Int32) = (o_removed P t).1 ∧ P_kind_ P (fset (P_kind P) t (-1)) = (o_removed P t).2 ∧ GI (P_kind_ P (fset (P_kind P) t (-1))) D B := by
  have hns : ¬ sK (P_kind P t) := by rw [hk]; decide
  have hnh : ¬ hK (P_kind P t) := by rw [hk]; decide
  obtain ⟨y1, y2, y3, y4, y5, y6, y7, y8, y9, y10, y11⟩ := Z_rmP P t
  have epv := pvR_e h ht hns
  have eP : P_kind_ P (fset (P_kind P) t (-1)) = rmP P t := by
    refine PT_ext ?_ ?_ ?_ ?_ ?_ ?_ ?_ ?_ ?_ ?_ ?_ <;> simp only [Z_rmP, Z_kind, epv]
  have hn : ∀ b, b < 96 → ¬ gcB (rmP P t) b := by
    rintro b hb ⟨q1, q2⟩
    rw [y10] at q1
    obtain ⟨u, k, hu⟩ := h.j13 b hb (pos_i.mp q1)
    have c : u ≠ t := fun e => hnh (by rw [← e]; exact hu.2.1)
    refine q2 u k hu.1 hu.2.2.1 ?_ ?_
    · rw [y3, fset_n c]
      exact hu.2.1
    · rw [y9]
      exact hu.2.2.2.2
  have eg := gc_none hn
  refine ⟨?_, ?_, ?_⟩
  · show _ = nI (gcN (rmP P t))
    rw [show gcN (rmP P t) = 0 from cn_no hn]
    rfl
  · show _ = gcP (rmP P t)
    rw [eg, eP]
  · refine GS.gi (gKill h.gs (f := t) ht hns ?_ ?_ rfl (fun u _ => rfl) h.pi.s rfl rfl rfl rfl rfl rfl rfl rfl) (dk_kill h hns rfl (fun u _ => rfl) rfl rfl)
    · intro s hs hks e
      obtain ⟨g, hg, z, hkg⟩ := h.pi.o hs hks
      have : g = t := nIe (by omega) (by omega) (z.symm.trans e)
      rw [this, hk] at hkg
      exact absurd hkg (by decide)
    · rintro k b ⟨-, y, -⟩
      exact hnh y
end GN
